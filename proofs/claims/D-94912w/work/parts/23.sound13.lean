/-! SOUNDNESS, 12: the tables' words by number; what links the instructions, checked by computation -/
set_option maxRecDepth 100000
def wdC (c : Nat) : List Cond :=
  match c with
  | 0 => k2_sels lw_privs
  | 1 => tables_1_1
  | 2 => tables_1_2
  | 3 => tables_1_3
  | 4 => tables_1_4
  | 5 => tables_1_5
  | 6 => tables_1_6
  | 7 => tables_1_7
  | 8 => tables_1_8
  | 9 => tables_1_9
  | 10 => tables_1_10
  | 11 => tables_1_11
  | _ => []
theorem wdC_in (c : Nat) : ∀ w ∈ wdC c, w ∈ lw_tbl := by
  unfold wdC
  split
  · exact lw_ms
  · exact lw_m1
  · exact lw_m2
  · exact lw_m3
  · exact lw_m4
  · exact lw_m5
  · exact lw_m6
  · exact lw_m7
  · exact lw_m8
  · exact lw_m9
  · exact lw_m10
  · exact lw_m11
  · intro w h; cases h
/-- the word of a number: part and place -/
def wd (n : Nat) : Option Cond :=
  match (wdC (n / 1000))[n % 1000]? with
  | some w => (match goodWord w with | true => some w | false => none)
  | none => none
theorem wd_in {n : Nat} {w : Cond} (h : wd n = some w) : w ∈ lw_all := by
  unfold wd at h
  split at h
  next v hv =>
    split at h
    next hg => cases h; exact lw_g (lw_at (wdC_in _) _ hv) hg
    · cases h
  · cases h
def isW (n : Nat) (w : Cond) : Bool := decide (wd n = some w)
theorem isW_in {n : Nat} {w : Cond} (h : isW n w = true) : w ∈ lw_all := wd_in (of_decide_eq_true h)
/-- a word among those of a list of numbers -/
def anyW (ns : List Nat) (w : Cond) : Bool := ns.any fun n => isW n w
theorem anyW_in {ns : List Nat} {w : Cond} (h : anyW ns w = true) : w ∈ lw_all := by
  obtain ⟨n, -, h1⟩ := List.any_eq_true.mp h
  exact isW_in h1
/-- what a link says: the kind, the place in the class's pool, what it refers to -/
def LNKf (own : String) (f : Nat × Nat × List Nat) : Prop :=
  match f.1, f.2.2 with
  | 0, x => ldcOK own f.2.1 x
  | 12, x => ldcOK own f.2.1 x ∧ x.head? ≠ some 1 ∨ (∃ n tx, x = [1, n] ∧ (own, f.2.1, tx, n) ∈ strL)
  | 13, n :: _ => Cond.constantLong own f.2.1 (Int64.ofNat n) ∈ lw_all
  | 14, x => gsOK own f.2.1 x
  | 1, _ :: k :: cs => FOKg own f.2.1 k cs
  | 10, ty :: k :: cs => FOKp own false f.2.1 k ty cs
  | 11, ty :: k :: cs => FOKp own true f.2.1 k ty cs
  | 2, ci :: _ => NOK own f.2.1 ci
  | 4, _ => Cond.classLink own f.2.1 "java/lang/Object" ∈ lw_all
  | 5, x => COK own f.2.1 x
  | 6, n :: cs => IOK own f.2.1 (cs.take n) (cs.drop n)
  | 7, 9 :: _ => AOK own f.2.1
  | 7, 10 :: _ => Cond.methodLink own f.2.1 Lib.Math.max.name ∈ lw_all
  | 7, 11 :: _ => Cond.methodLink own f.2.1 Lib.Math.min.name ∈ lw_all
  | 7, 0 :: n :: _ :: k :: _ => gk k ∧ SOKc own f.2.1 n (mi k).1
  | 8, 0 :: n :: _ :: k :: _ => gk k ∧ POKc own f.2.1 n (mi k).1 (mi k).2.2
  | 8, 8 :: _ => oiOK own f.2.1
  | 9, 0 :: n :: _ :: k :: cs => gk k ∧ ∀ ci ∈ cs, VOKc own f.2.1 n ci (mi k).1
  | 9, 1 :: n :: _ :: ps => ∀ q ∈ evens ps, gk q.2 ∧ VOKc own f.2.1 n q.1 (mi q.2).1
  | 9, 7 :: n :: _ => n = 202 ∧ gcOK own f.2.1
  | _, _ => False
def ldcB (own : String) (idx : Nat) (x ws : List Nat) : Bool :=
  match x with
  | 0 :: n :: _ => anyW ws (Cond.constant own idx (Int32.ofNat n))
  | 1 :: n :: _ => (strL.any fun q => decide (q.1 = own) && Nat.beq q.2.1 idx && Nat.beq q.2.2.2 n) || (Nat.beq n 202 && anyW ws (Cond.classLink own idx "[Ljava/lang/Object;"))
  | _ => true
theorem strB_ok {own : String} {idx n : Nat} (h : (strL.any fun q => decide (q.1 = own) && Nat.beq q.2.1 idx && Nat.beq q.2.2.2 n) = true) : ∃ tx, (own, idx, tx, n) ∈ strL := by
  obtain ⟨⟨a, b, c, d⟩, h1, h2⟩ := List.any_eq_true.mp h
  simp only [Bool.and_eq_true, decide_eq_true_eq] at h2
  obtain ⟨⟨e1, e2⟩, e3⟩ := h2
  have e2 := Nat.eq_of_beq_eq_true e2
  have e3 := Nat.eq_of_beq_eq_true e3
  try dsimp only at e1 e2 e3
  subst e1; subst e2; subst e3
  exact ⟨c, h1⟩
theorem ldcB_ok {own : String} {idx : Nat} {x ws : List Nat} (h : ldcB own idx x ws = true) : ldcOK own idx x := by
  unfold ldcB at h
  unfold ldcOK
  split
  · exact anyW_in h
  · rcases (Bool.or_eq_true _ _).mp h with h | h
    · exact Or.inl (strB_ok h)
    · rw [Bool.and_eq_true] at h
      exact Or.inr ⟨Nat.eq_of_beq_eq_true h.1, anyW_in h.2⟩
  · trivial
def ldcwB (own : String) (idx : Nat) (x ws : List Nat) : Bool :=
  match x with
  | [0, n] => anyW ws (Cond.constant own idx (Int32.ofNat n))
  | [1, n] => strL.any fun q => decide (q.1 = own) && Nat.beq q.2.1 idx && Nat.beq q.2.2.2 n
  | _ => false
def gsB (own : String) (idx : Nat) (x ws : List Nat) : Bool :=
  match x with
  | 0 :: n :: _ => Nat.beq n 1 && anyW ws (Cond.fieldLink own idx "java/lang/String" "COMPACT_STRINGS" "Z")
  | 1 :: n :: _ => (Nat.beq n 200 && anyW ws (Cond.fieldLink own idx "java/util/ArrayList" "DEFAULTCAPACITY_EMPTY_ELEMENTDATA" "[Ljava/lang/Object;")) || (Nat.beq n 201 && anyW ws (Cond.fieldLink own idx "jdk/internal/util/Preconditions" "SIOOBE_FORMATTER" "Ljava/util/function/BiFunction;"))
  | _ => true
theorem gsB_ok {own : String} {idx : Nat} {x ws : List Nat} (h : gsB own idx x ws = true) : gsOK own idx x := by
  unfold gsOK
  split
  · obtain ⟨h1, h2⟩ := (Bool.and_eq_true _ _).mp h
    exact ⟨Nat.eq_of_beq_eq_true h1, anyW_in h2⟩
  · rcases (Bool.or_eq_true _ _).mp h with h | h
    · obtain ⟨h1, h2⟩ := (Bool.and_eq_true _ _).mp h
      exact Or.inl ⟨Nat.eq_of_beq_eq_true h1, anyW_in h2⟩
    · obtain ⟨h1, h2⟩ := (Bool.and_eq_true _ _).mp h
      exact Or.inr ⟨Nat.eq_of_beq_eq_true h1, anyW_in h2⟩
  · trivial
/-- the classes whose field k is what ref names -/
def fcsB (k : Nat) (ref nm ds : String) (ws : List Nat) (ini : Option (Bool × String)) (cs : List Nat) : Bool :=
  cs.all fun ci => match vwCl[ci]? with
    | some q => decide (k < q.2.2) && decide ((q.2.1 k).2.1 = nm) && decide ((q.2.1 k).2.2.1 = ds) && (decide ((q.2.1 k).1 = ref) || anyW ws (Cond.sameField ref (q.2.1 k).1 nm ds)) && (match ini with
      | none => true
      | some (b, own) => !(q.2.1 k).2.2.2 || (b && decide ((q.2.1 k).1 = own)))
    | none => false
theorem fcsB_ok {k : Nat} {ref nm ds : String} {ws : List Nat} {ini : Option (Bool × String)} {cs : List Nat} (h : fcsB k ref nm ds ws ini cs = true) : ∀ ci ∈ cs, ∃ q, vwCl[ci]? = some q ∧ k < q.2.2 ∧ (q.2.1 k).2.1 = nm ∧ (q.2.1 k).2.2.1 = ds ∧ ((q.2.1 k).1 = ref ∨ Cond.sameField ref (q.2.1 k).1 nm ds ∈ lw_all) ∧ (∀ b own, ini = some (b, own) → (q.2.1 k).2.2.2 = false ∨ ((q.2.1 k).2.2.2 = true ∧ b = true ∧ (q.2.1 k).1 = own)) := by
  intro ci hci
  have h1 := List.all_eq_true.mp h ci hci
  split at h1
  next q hq =>
    simp only [Bool.and_eq_true, decide_eq_true_eq] at h1
    obtain ⟨⟨⟨⟨a1, a2⟩, a3⟩, a4⟩, a5⟩ := h1
    refine ⟨q, hq, a1, a2, a3, ?_, ?_⟩
    · rcases (Bool.or_eq_true _ _).mp a4 with a4 | a4
      · exact Or.inl (of_decide_eq_true a4)
      · exact Or.inr (anyW_in a4)
    · intro b own hbo
      subst hbo
      dsimp only at a5
      cases hf : (q.2.1 k).2.2.2 with
      | false => exact Or.inl rfl
      | true =>
        rw [hf] at a5
        simp only [Bool.not_true, Bool.false_or, Bool.and_eq_true, decide_eq_true_eq] at a5
        exact Or.inr ⟨rfl, a5.1, a5.2⟩
  · cases h1
def fokgB (own : String) (idx k : Nat) (cs ws : List Nat) : Bool :=
  (ws.any fun n => match wd n with
    | some (.fieldLink o i ref nm ds) => decide (o = own) && Nat.beq i idx && fcsB k ref nm ds ws none cs
    | _ => false) || nstF.any fun q => decide (q.1 = own) && Nat.beq q.2.1 idx && fcsB k q.2.2.1 q.2.2.2.1 q.2.2.2.2.1 ws none cs
theorem fokgB_ok {own : String} {idx k : Nat} {cs ws : List Nat} (h : fokgB own idx k cs ws = true) : FOKg own idx k cs := by
  rcases (Bool.or_eq_true _ _).mp h with h | h
  · obtain ⟨n, -, h1⟩ := List.any_eq_true.mp h
    split at h1
    next o i ref nm ds hw =>
      simp only [Bool.and_eq_true, decide_eq_true_eq] at h1
      obtain ⟨⟨e1, e2⟩, e3⟩ := h1
      have e2 := Nat.eq_of_beq_eq_true e2
      subst e1; subst e2
      refine ⟨ref, nm, ds, Or.inl (wd_in hw), fun ci hci => ?_⟩
      obtain ⟨q, a1, a2, a3, a4, a5, -⟩ := fcsB_ok e3 ci hci
      exact ⟨q, a1, a2, a3, a4, a5⟩
    · cases h1
  · obtain ⟨⟨a, b, ref, nm, ds, host⟩, h0, h1⟩ := List.any_eq_true.mp h
    simp only [Bool.and_eq_true, decide_eq_true_eq] at h1
    obtain ⟨⟨e1, e2⟩, e3⟩ := h1
    have e2 := Nat.eq_of_beq_eq_true e2
    try dsimp only at e1 e2 e3
    subst e1; subst e2
    refine ⟨ref, nm, ds, Or.inr ⟨host, h0⟩, fun ci hci => ?_⟩
    obtain ⟨q, a1, a2, a3, a4, a5, -⟩ := fcsB_ok e3 ci hci
    exact ⟨q, a1, a2, a3, a4, a5⟩
def tyB (ty : Nat) (f : FieldType) : Bool :=
  match ty, f with
  | 0, .int => true
  | 1, .object _ => true
  | 1, .array _ => true
  | 2, .boolean => true
  | 3, .byte => true
  | _, _ => false
theorem tyB_ok {ty : Nat} {f : FieldType} (h : tyB ty f = true) : tyOK ty f := by
  unfold tyB at h
  split at h
  · trivial
  · trivial
  · trivial
  · trivial
  · trivial
  · cases h
def fokpB (own : String) (ini : Bool) (idx k ty : Nat) (cs ws : List Nat) : Bool :=
  ws.any fun n => match wd n with
    | some (.fieldLink o i ref nm ds) => decide (o = own) && Nat.beq i idx && fcsB k ref nm ds ws (some (ini, own)) cs && (match parseFieldDescriptor ds with | some f => tyB ty f | none => false)
    | _ => false
theorem fokpB_ok {own : String} {ini : Bool} {idx k ty : Nat} {cs ws : List Nat} (h : fokpB own ini idx k ty cs ws = true) : FOKp own ini idx k ty cs := by
  obtain ⟨n, -, h1⟩ := List.any_eq_true.mp h
  split at h1
  next o i ref nm ds hw =>
    simp only [Bool.and_eq_true, decide_eq_true_eq] at h1
    obtain ⟨⟨⟨e1, e2⟩, e3⟩, e4⟩ := h1
    have e2 := Nat.eq_of_beq_eq_true e2
    subst e1; subst e2
    split at e4
    next f hf =>
      refine ⟨ref, nm, ds, f, wd_in hw, hf, tyB_ok e4, fun ci hci => ?_⟩
      obtain ⟨q, a1, a2, a3, a4, a5, a6⟩ := fcsB_ok e3 ci hci
      exact ⟨q, a1, a2, a3, a4, a5, a6 _ _ rfl⟩
    · cases e4
  · cases h1
def nokB (own : String) (idx ci : Nat) (ws : List Nat) : Bool :=
  match vwCl[ci]? with
  | some q => anyW ws (Cond.classLink own idx q.1) && anyW ws (Cond.instantiable q.1 q.2.2) && anyW ws (Cond.initialized q.1)
  | none => false
theorem nokB_ok {own : String} {idx ci : Nat} {ws : List Nat} (h : nokB own idx ci ws = true) : NOK own idx ci := by
  unfold nokB at h
  split at h
  next q hq =>
    simp only [Bool.and_eq_true] at h
    exact ⟨q, hq, anyW_in h.1.1, anyW_in h.1.2, anyW_in h.2⟩
  · cases h
def nameB (ci : Nat) (nm : String) : Bool :=
  match vwCl[ci]? with
  | some q => decide (q.1 = nm)
  | none => false
theorem nameB_ok {ci : Nat} {nm : String} (h : nameB ci nm = true) : ∃ q, vwCl[ci]? = some q ∧ q.1 = nm := by
  unfold nameB at h
  split at h
  next q hq => exact ⟨q, hq, of_decide_eq_true h⟩
  · cases h
def cokB (own : String) (idx : Nat) (cs ws : List Nat) : Bool :=
  ws.any fun n => match wd n with
    | some (.classLink o i nm) => decide (o = own) && Nat.beq i idx && cs.all fun ci => nameB ci nm || (match vwCl[ci]? with | some q => casL.contains (q.1, nm) | none => false) || (Nat.beq ci 102 && decide (nm = "[B"))
    | _ => false
theorem cokB_ok {own : String} {idx : Nat} {cs ws : List Nat} (h : cokB own idx cs ws = true) : COK own idx cs := by
  obtain ⟨n, -, h1⟩ := List.any_eq_true.mp h
  split at h1
  next o i nm hw =>
    simp only [Bool.and_eq_true, decide_eq_true_eq] at h1
    obtain ⟨⟨e1, e2⟩, e3⟩ := h1
    have e2 := Nat.eq_of_beq_eq_true e2
    subst e1; subst e2
    refine ⟨nm, wd_in hw, fun ci hci => ?_⟩
    have h2 := List.all_eq_true.mp e3 ci hci
    rcases (Bool.or_eq_true _ _).mp h2 with h2 | h2
    · rcases (Bool.or_eq_true _ _).mp h2 with h2 | h2
      · obtain ⟨q, q1, q2⟩ := nameB_ok h2
        exact Or.inl ⟨q, q1, Or.inl q2⟩
      · split at h2
        next q hq => exact Or.inl ⟨q, hq, Or.inr (List.contains_iff_mem.mp h2)⟩
        · cases h2
    · rw [Bool.and_eq_true] at h2
      exact Or.inr ⟨Nat.eq_of_beq_eq_true h2.1, of_decide_eq_true h2.2⟩
  · cases h1
def iokB (own : String) (idx : Nat) (cs ds ws : List Nat) : Bool :=
  ws.any fun n => match wd n with
    | some (.classLink o i nm) => decide (o = own) && Nat.beq i idx && (cs.all fun ci => nameB ci nm) && ds.all fun ci => (match vwCl[ci]? with | some q => ncL.contains (q.1, nm) | none => false)
    | _ => false
theorem iokB_ok {own : String} {idx : Nat} {cs ds ws : List Nat} (h : iokB own idx cs ds ws = true) : IOK own idx cs ds := by
  obtain ⟨n, -, h1⟩ := List.any_eq_true.mp h
  split at h1
  next o i nm hw =>
    simp only [Bool.and_eq_true, decide_eq_true_eq] at h1
    obtain ⟨⟨⟨e1, e2⟩, e3⟩, e4⟩ := h1
    have e2 := Nat.eq_of_beq_eq_true e2
    subst e1; subst e2
    refine ⟨nm, wd_in hw, fun ci hci => nameB_ok (List.all_eq_true.mp e3 ci hci), fun ci hci => ?_⟩
    have h2 := List.all_eq_true.mp e4 ci hci
    split at h2
    next q hq => exact ⟨q, hq, List.contains_iff_mem.mp h2⟩
    · cases h2
  · cases h1
def aokB (own : String) (idx : Nat) (ws : List Nat) : Bool := anyW ws (Cond.methodLink own idx arraycopyName) && anyW ws (Cond.native arraycopyName) && anyW ws (Cond.static arraycopyName) && anyW ws (Cond.initialized "java/lang/System")
theorem aokB_ok {own : String} {idx : Nat} {ws : List Nat} (h : aokB own idx ws = true) : AOK own idx := by
  unfold aokB at h
  simp only [Bool.and_eq_true] at h
  exact ⟨anyW_in h.1.1.1, anyW_in h.1.1.2, anyW_in h.1.2, anyW_in h.2⟩
def gkB (k : Nat) : Bool := Nat.blt k 372 && !Nat.beq k 76 && !Nat.beq k 371 && !Nat.beq k 364 && !Nat.beq k 365
theorem gkB_ok {k : Nat} (h : gkB k = true) : gk k := by
  unfold gkB at h
  simp only [Bool.and_eq_true, Bool.not_eq_true'] at h
  refine ⟨by simpa [Nat.blt_eq] using h.1.1.1.1, fun q => ?_, fun q => ?_, fun q => ?_, fun q => ?_⟩
  · subst q; simp at h
  · subst q; simp at h
  · subst q; simp at h
  · subst q; simp at h
def mlB (own : String) (idx : Nat) (y : MethodName) (ws : List Nat) : Bool := anyW ws (Cond.methodLink own idx y) || nstM.any fun q => decide (q.1 = own) && Nat.beq q.2.1 idx && decide (q.2.2.1 = y)
theorem mlB_ok {own : String} {idx : Nat} {y : MethodName} {ws : List Nat} (h : mlB own idx y ws = true) : Cond.methodLink own idx y ∈ lw_all ∨ ∃ host, (own, idx, y, host) ∈ nstM := by
  rcases (Bool.or_eq_true _ _).mp h with h | h
  · exact Or.inl (anyW_in h)
  · obtain ⟨⟨a, b, z, host⟩, h0, h1⟩ := List.any_eq_true.mp h
    simp only [Bool.and_eq_true, decide_eq_true_eq] at h1
    obtain ⟨⟨e1, e2⟩, e3⟩ := h1
    have e2 := Nat.eq_of_beq_eq_true e2
    try dsimp only at e1 e2 e3
    subst e1; subst e2; subst e3
    exact Or.inr ⟨host, h0⟩
def nparB (y : MethodName) (n : Nat) : Bool :=
  match parseMethodDescriptor y.desc with
  | some d => Nat.beq d.parameters.length n
  | none => false
theorem nparB_ok {y : MethodName} {n : Nat} (h : nparB y n = true) : npar y n := by
  unfold nparB at h
  unfold npar
  split at h
  next d hd => rw [hd]; exact congrArg some (Nat.eq_of_beq_eq_true h)
  · cases h
def sokB (own : String) (idx n : Nat) (y : MethodName) (ws : List Nat) : Bool := mlB own idx y ws && anyW ws (Cond.static y) && nparB y n
theorem sokB_ok {own : String} {idx n : Nat} {y : MethodName} {ws : List Nat} (h : sokB own idx n y ws = true) : SOKc own idx n y := by
  unfold sokB at h
  simp only [Bool.and_eq_true] at h
  exact ⟨mlB_ok h.1.1, anyW_in h.1.2, nparB_ok h.2⟩
def pokB (own : String) (idx n : Nat) (y : MethodName) (ret : Option FieldType) (ws : List Nat) : Bool :=
  anyW ws (Cond.instanceMethod y) && nparB y n && ((ret.isNone && decide (y.name = "<init>") && mlB own idx y ws) || (decide (¬ y.name = "<init>") && anyW ws (Cond.methodLink own idx y) && anyW ws (Cond.sameMethod y.cls y.cls y.name y.desc) && anyW ws (Cond.superclass own y.cls)))
theorem pokB_ok {own : String} {idx n : Nat} {y : MethodName} {ret : Option FieldType} {ws : List Nat} (h : pokB own idx n y ret ws = true) : POKc own idx n y ret := by
  unfold pokB at h
  simp only [Bool.and_eq_true, Bool.or_eq_true, decide_eq_true_eq] at h
  obtain ⟨⟨h1, h2⟩, h3⟩ := h
  rcases h3 with ⟨⟨a, b⟩, c⟩ | ⟨⟨⟨a, b⟩, c⟩, d⟩
  · have hr : ret = none := by
      cases ret with
      | none => rfl
      | some t => cases a
    exact Or.inl ⟨hr, b, mlB_ok c, anyW_in h1, nparB_ok h2⟩
  · exact Or.inr ⟨a, anyW_in b, anyW_in c, anyW_in d, anyW_in h1, nparB_ok h2⟩
def oiB (own : String) (idx : Nat) (ws : List Nat) : Bool := anyW ws (Cond.methodLink own idx Lib.objectInit) && anyW ws (Cond.instanceMethod Lib.objectInit) && anyW ws (Cond.code Lib.objectInit ⟨#[0xb1]⟩ 1 none)
theorem oiB_ok {own : String} {idx : Nat} {ws : List Nat} (h : oiB own idx ws = true) : oiOK own idx := by
  unfold oiB at h
  simp only [Bool.and_eq_true] at h
  exact ⟨anyW_in h.1.1, anyW_in h.1.2, anyW_in h.2⟩
def declB (z : MethodName) (ws : List Nat) : Bool := decL.contains z || (anyW ws (Cond.instanceMethod z) && ws.any fun n => match wd n with
  | some (.code y _ _ _) => decide (y = z)
  | _ => false)
theorem declB_ok {z : MethodName} {ws : List Nat} (h : declB z ws = true) : declOK z := by
  rcases (Bool.or_eq_true _ _).mp h with h | h
  · exact Or.inr (List.contains_iff_mem.mp h)
  · rw [Bool.and_eq_true] at h
    obtain ⟨n, -, h1⟩ := List.any_eq_true.mp h.2
    split at h1
    next y b m0 r0 hw =>
      have := of_decide_eq_true h1
      subst this
      exact Or.inl ⟨anyW_in h.1, b, m0, r0, wd_in hw⟩
    · cases h1
def vokB (own : String) (idx n ci : Nat) (y : MethodName) (ws : List Nat) : Bool :=
  match vwCl[ci]? with
  | some q => anyW ws (Cond.instanceMethod y) && ((anyW ws (Cond.methodLink own idx y) && nparB y n && (anyW ws (Cond.selects q.1 y y) || (anyW ws (Cond.sameMethod y.cls y.cls y.name y.desc) && prvL.contains y))) ||
      ws.any fun n1 => match wd n1 with
        | some (.methodLink o i x) => decide (o = own) && Nat.beq i idx && nparB x n && anyW ws (Cond.selects q.1 x y) && ws.any fun n2 => match wd n2 with
          | some (.sameMethod a b c d) => decide (a = x.cls) && decide (c = x.name) && decide (d = x.desc) && declB ⟨b, x.name, x.desc⟩ ws && decide (b ≠ "java/lang/invoke/MethodHandle") && decide (b ≠ "java/lang/invoke/VarHandle")
          | _ => false
        | _ => false)
  | none => false
theorem vokB_ok {own : String} {idx n ci : Nat} {y : MethodName} {ws : List Nat} (h : vokB own idx n ci y ws = true) : VOKc own idx n ci y := by
  unfold vokB at h
  split at h
  next q hq =>
    refine ⟨q, hq, ?_⟩
    rw [Bool.and_eq_true] at h
    obtain ⟨h0, h⟩ := h
    have h0 := anyW_in h0
    rcases (Bool.or_eq_true _ _).mp h with h | h
    · simp only [Bool.and_eq_true, Bool.or_eq_true] at h
      obtain ⟨⟨h1, h2⟩, h3⟩ := h
      rcases h3 with h3 | ⟨h3, h4⟩
      · exact Or.inl ⟨anyW_in h1, h0, anyW_in h3, nparB_ok h2⟩
      · exact Or.inr (Or.inr ⟨anyW_in h1, h0, anyW_in h3, List.contains_iff_mem.mp h4, nparB_ok h2⟩)
    · obtain ⟨n1, -, h1⟩ := List.any_eq_true.mp h
      split at h1
      next o i x hw =>
        simp only [Bool.and_eq_true, decide_eq_true_eq] at h1
        obtain ⟨⟨⟨⟨e1, e2⟩, e3⟩, e4⟩, e5⟩ := h1
        have e2 := Nat.eq_of_beq_eq_true e2
        subst e1; subst e2
        obtain ⟨n2, -, h2⟩ := List.any_eq_true.mp e5
        split at h2
        next a b c d hw2 =>
          simp only [Bool.and_eq_true, decide_eq_true_eq] at h2
          obtain ⟨⟨⟨⟨⟨f1, f2⟩, f3⟩, f4⟩, f5⟩, f6⟩ := h2
          subst f1; subst f2; subst f3
          exact Or.inr (Or.inl ⟨x, b, wd_in hw, wd_in hw2, declB_ok f4, ⟨f5, f6⟩, anyW_in e4, h0, nparB_ok e3⟩)
        · cases h2
      · cases h1
  · cases h
def gcB (own : String) (idx : Nat) (ws : List Nat) : Bool := anyW ws (Cond.methodLink own idx ⟨"java/lang/Object", "getClass", "()Ljava/lang/Class;"⟩) && anyW ws (Cond.selects "[Ljava/lang/Object;" ⟨"java/lang/Object", "getClass", "()Ljava/lang/Class;"⟩ ⟨"java/lang/Object", "getClass", "()Ljava/lang/Class;"⟩) && anyW ws (Cond.instanceMethod ⟨"java/lang/Object", "getClass", "()Ljava/lang/Class;"⟩) && anyW ws (Cond.native ⟨"java/lang/Object", "getClass", "()Ljava/lang/Class;"⟩)
theorem gcB_ok {own : String} {idx : Nat} {ws : List Nat} (h : gcB own idx ws = true) : gcOK own idx := by
  unfold gcB at h
  simp only [Bool.and_eq_true] at h
  exact ⟨anyW_in h.1.1.1, anyW_in h.1.1.2, anyW_in h.1.2, anyW_in h.2⟩
/-- a link, checked: with the numbers of the words that it needs -/
def lfB (own : String) (f : Nat × Nat × List Nat) (ws : List Nat) : Bool :=
  match f.1, f.2.2 with
  | 0, x => ldcB own f.2.1 x ws
  | 12, x => ldcwB own f.2.1 x ws
  | 13, n :: _ => anyW ws (Cond.constantLong own f.2.1 (Int64.ofNat n))
  | 14, x => gsB own f.2.1 x ws
  | 1, _ :: k :: cs => fokgB own f.2.1 k cs ws
  | 10, ty :: k :: cs => fokpB own false f.2.1 k ty cs ws
  | 11, ty :: k :: cs => fokpB own true f.2.1 k ty cs ws
  | 2, ci :: _ => nokB own f.2.1 ci ws
  | 4, _ => anyW ws (Cond.classLink own f.2.1 "java/lang/Object")
  | 5, x => cokB own f.2.1 x ws
  | 6, n :: cs => iokB own f.2.1 (cs.take n) (cs.drop n) ws
  | 7, 9 :: _ => aokB own f.2.1 ws
  | 7, 10 :: _ => anyW ws (Cond.methodLink own f.2.1 Lib.Math.max.name)
  | 7, 11 :: _ => anyW ws (Cond.methodLink own f.2.1 Lib.Math.min.name)
  | 7, 0 :: n :: _ :: k :: _ => gkB k && sokB own f.2.1 n (mi k).1 ws
  | 8, 0 :: n :: _ :: k :: _ => gkB k && pokB own f.2.1 n (mi k).1 (mi k).2.2 ws
  | 8, 8 :: _ => oiB own f.2.1 ws
  | 9, 0 :: n :: _ :: k :: cs => gkB k && cs.all fun ci => vokB own f.2.1 n ci (mi k).1 ws
  | 9, 1 :: n :: _ :: ps => (evens ps).all fun q => gkB q.2 && vokB own f.2.1 n q.1 (mi q.2).1 ws
  | 9, 7 :: n :: _ => Nat.beq n 202 && gcB own f.2.1 ws
  | _, _ => false
theorem lfB_ok {own : String} {f : Nat × Nat × List Nat} {ws : List Nat} (h : lfB own f ws = true) : LNKf own f := by
  obtain ⟨k, idx, x⟩ := f
  unfold lfB at h
  dsimp only at h
  split at h
  · exact ldcB_ok h
  · unfold ldcwB at h
    split at h
    next n => exact Or.inl ⟨anyW_in h, by simp⟩
    next n =>
      obtain ⟨tx, h1⟩ := strB_ok h
      exact Or.inr ⟨n, tx, rfl, h1⟩
    · cases h
  · exact anyW_in h
  · exact gsB_ok h
  · exact fokgB_ok h
  · exact fokpB_ok h
  · exact fokpB_ok h
  · exact nokB_ok h
  · exact anyW_in h
  · exact cokB_ok h
  · exact iokB_ok h
  · exact aokB_ok h
  · exact anyW_in h
  · exact anyW_in h
  · rw [Bool.and_eq_true] at h
    exact ⟨gkB_ok h.1, sokB_ok h.2⟩
  · rw [Bool.and_eq_true] at h
    exact ⟨gkB_ok h.1, pokB_ok h.2⟩
  · exact oiB_ok h
  · rw [Bool.and_eq_true] at h
    exact ⟨gkB_ok h.1, fun ci hci => vokB_ok (List.all_eq_true.mp h.2 ci hci)⟩
  · intro q hq
    have h1 := List.all_eq_true.mp h q hq
    rw [Bool.and_eq_true] at h1
    exact ⟨gkB_ok h1.1, vokB_ok h1.2⟩
  · rw [Bool.and_eq_true] at h
    exact ⟨Nat.eq_of_beq_eq_true h.1, gcB_ok h.2⟩
  · cases h
/-- a class's links -/
abbrev LTb : Type := List (Nat × Nat × List Nat)
def ltB (own : String) (T : List ((Nat × Nat × List Nat) × List Nat)) : Bool := T.all fun q => lfB own q.1 q.2
theorem ltB_ok {own : String} {T : List ((Nat × Nat × List Nat) × List Nat)} (h : ltB own T = true) : ∀ f ∈ T.map (·.1), LNKf own f := by
  intro f hf
  obtain ⟨q, hq, rfl⟩ := List.mem_map.mp hf
  exact lfB_ok (List.all_eq_true.mp h q hq)
def ltIn (T : LTb) (k idx : Nat) (x : List Nat) : Bool := T.any fun f => Nat.beq f.2.1 idx && Nat.beq f.1 k && decide (f.2.2 = x)
theorem ltIn_ok {T : LTb} {own : String} (hT : ∀ f ∈ T, LNKf own f) {k idx : Nat} {x : List Nat} (h : ltIn T k idx x = true) : LNKf own (k, idx, x) := by
  obtain ⟨⟨a, b, c⟩, h1, h2⟩ := List.any_eq_true.mp h
  simp only [Bool.and_eq_true, decide_eq_true_eq] at h2
  obtain ⟨⟨e1, e2⟩, e3⟩ := h2
  have e1 := Nat.eq_of_beq_eq_true e1
  have e2 := Nat.eq_of_beq_eq_true e2
  try dsimp only at e1 e2 e3
  subst e1; subst e2; subst e3
  exact hT _ h1
