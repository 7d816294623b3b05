/-! SOUNDNESS, 13: a method's code checked by computation -/
set_option maxRecDepth 100000
def atypB (t : Nat) (a : ArrayType) : Bool :=
  match t, a with
  | 0, .int => true
  | 1, .boolean => true
  | 2, .byte => true
  | 3, .long => true
  | _, _ => false
theorem atypB_ok {t : Nat} {a : ArrayType} (h : atypB t a = true) : atyp t a := by
  unfold atypB at h
  split at h
  · trivial
  · trivial
  · trivial
  · trivial
  · cases h
/-- an instruction's link: AW the numbers of the words on arrays' classes -/
def lnkB (AW : List Nat) (ini : Bool) (T : LTb) (pc : Nat) (i : Instr) (x : List Nat) : Bool :=
  match i with
  | .bipush n => decide ((Int8.ofInt n).toInt32 = Int32.ofInt n)
  | .sipush n => decide ((Int16.ofInt n).toInt32 = Int32.ofInt n)
  | .ldc idx => ltIn T 0 idx x
  | .ldc_w idx => ltIn T 12 idx x
  | .ldc2_w idx => ltIn T 13 idx x
  | .getstatic idx => ltIn T 14 idx x
  | .getfield idx => ltIn T 1 idx x
  | .putfield idx => match ini with
    | true => ltIn T 11 idx x
    | false => ltIn T 10 idx x
  | .new idx => ltIn T 2 idx x
  | .newarray a => match x with
    | t :: _ => atypB t a && anyW AW (Cond.arrayClass (newarray.typeOf a))
    | _ => true
  | .anewarray idx => ltIn T 4 idx x
  | .checkcast idx => ltIn T 5 idx x
  | .instanceof idx => ltIn T 6 idx x
  | .invokestatic idx => ltIn T 7 idx x
  | .invokespecial idx => ltIn T 8 idx x
  | .invokevirtual idx => ltIn T 9 idx x
  | .ifCond _ off => match x with
    | t :: nx :: _ => decide ((pc : Int) + off = (t : Int)) && Nat.beq nx (pc + 3)
    | _ => true
  | .if_icmp _ off => match x with
    | t :: nx :: _ => decide ((pc : Int) + off = (t : Int)) && Nat.beq nx (pc + 3)
    | _ => true
  | .if_acmp _ off => match x with
    | t :: nx :: _ => decide ((pc : Int) + off = (t : Int)) && Nat.beq nx (pc + 3)
    | _ => true
  | .ifnull off => match x with
    | t :: nx :: _ => decide ((pc : Int) + off = (t : Int)) && Nat.beq nx (pc + 3)
    | _ => true
  | .ifnonnull off => match x with
    | t :: nx :: _ => decide ((pc : Int) + off = (t : Int)) && Nat.beq nx (pc + 3)
    | _ => true
  | .goto off => match x with
    | t :: _ => decide ((pc : Int) + off = (t : Int))
    | _ => true
  | .tableswitch df lo hi offs => match x with
    | d :: ts => decide ((pc : Int) + df = (d : Int) ∧ ts.map Int.ofNat = offs.toList.map (fun o => (pc : Int) + o) ∧ hi = lo + ts.length - 1 ∧ -2000000000 ≤ lo ∧ hi ≤ 2000000000)
    | _ => true
  | .lookupswitch df ps => match x with
    | d :: ts => decide ((pc : Int) + df = (d : Int) ∧ ts.map Int.ofNat = ps.toList.map (fun o => (pc : Int) + o.2) ∧ (ps.toList.zip (ps.toList.drop 1)).all (fun (a, next) => a.1 < next.1) = true ∧ ∀ q ∈ ps.toList, (Int32.ofInt q.1).toInt = q.1)
    | _ => true
  | .ireturn => false
  | .areturn => false
  | .return_ => false
  | _ => true
theorem br_ok {pc t nx : Nat} {off : Int} (h : (decide ((pc : Int) + off = (t : Int)) && Nat.beq nx (pc + 3)) = true) : (pc : Int) + off = (t : Int) ∧ nx = pc + 3 := by
  rw [Bool.and_eq_true] at h
  exact ⟨of_decide_eq_true h.1, Nat.eq_of_beq_eq_true h.2⟩
theorem lnkB_ok {y : MethodName} {ret : Option FieldType} {AW : List Nat} {T : LTb} {pc : Nat} {i : Instr} {x : List Nat} (hT : ∀ f ∈ T, LNKf y.cls f) (h : lnkB AW (decide (y.name = "<init>")) T pc i x = true) : LNK y ret pc i x := by
  unfold LNK
  split
  · exact of_decide_eq_true h
  · exact of_decide_eq_true h
  · exact ltIn_ok hT h
  · exact ltIn_ok hT h
  · have h1 := ltIn_ok (k := 13) hT h
    split
    · exact h1
    · trivial
  · exact ltIn_ok hT h
  · have h1 := ltIn_ok (k := 1) hT h
    split
    · exact h1
    · trivial
  · split
    next ty k cs =>
      cases hi : decide (y.name = "<init>") with
      | true =>
        rw [hi] at h
        exact ltIn_ok (k := 11) hT h
      | false =>
        rw [hi] at h
        exact ltIn_ok (k := 10) hT h
    · trivial
  · have h1 := ltIn_ok (k := 2) hT h
    split
    · exact h1
    · trivial
  · split
    next t ts a =>
      obtain ⟨h1, h2⟩ := (Bool.and_eq_true _ _).mp h
      exact ⟨atypB_ok h1, anyW_in h2⟩
    · trivial
  · exact ltIn_ok hT h
  · exact ltIn_ok hT h
  · have h1 := ltIn_ok (k := 6) hT h
    split
    · exact h1
    · trivial
  · have h1 := ltIn_ok (k := 7) hT h
    split
    · exact h1
    · exact h1
    · exact h1
    · exact h1
    · trivial
  · have h1 := ltIn_ok (k := 8) hT h
    split
    · exact h1
    · exact h1
    · trivial
  · have h1 := ltIn_ok (k := 9) hT h
    split
    · exact h1
    · exact h1
    · exact h1
    · trivial
  · split
    · exact br_ok h
    · trivial
  · split
    · exact br_ok h
    · trivial
  · split
    · exact br_ok h
    · trivial
  · split
    · exact br_ok h
    · trivial
  · split
    · exact br_ok h
    · trivial
  · split
    · exact of_decide_eq_true h
    · trivial
  · split
    · exact of_decide_eq_true h
    · trivial
  · split
    · exact of_decide_eq_true h
    · trivial
  · cases h
  · cases h
  · cases h
  · trivial
def retB (ret : Option FieldType) (i : Instr) (x : List Nat) : Bool :=
  match i with
  | .ireturn => match x, ret with
    | [], some .int => true
    | 1 :: _, some .boolean => true
    | 2 :: _, some .byte => true
    | 3 :: _, some .char => true
    | _, _ => false
  | .areturn => match ret with
    | some (.object _) => true
    | some (.array _) => true
    | _ => false
  | .return_ => match ret with
    | none => true
    | _ => false
  | _ => false
theorem retB_ok {y : MethodName} {ret : Option FieldType} {e : Ent} (h : retB ret e.2.1 e.2.2.2 = true) (hn : e.2.2.1 = 1) : SPm y ret e ∧ isX e.2.1 = true := by
  obtain ⟨pc, i, n, x⟩ := e
  dsimp only at h hn ⊢
  unfold retB at h
  split at h
  · refine ⟨⟨?_, hn, Or.inl rfl⟩, rfl⟩
    split at h
    · trivial
    · trivial
    · trivial
    · trivial
    · cases h
  · refine ⟨⟨?_, hn, Or.inr (Or.inl rfl)⟩, rfl⟩
    split at h
    next n => exact Or.inl ⟨n, rfl⟩
    next t => exact Or.inr ⟨t, rfl⟩
    · cases h
  · refine ⟨⟨?_, hn, Or.inr (Or.inr rfl)⟩, rfl⟩
    split at h
    · exact rfl
    · cases h
  · cases h
def decB (cc : ByteArray) (pc : Nat) (i : Instr) (n : Nat) : Bool :=
  match decode cc pc with
  | .ok q => decide (q = (i, n))
  | .error _ => false
theorem decB_ok {cc : ByteArray} {pc n : Nat} {i : Instr} (h : decB cc pc i n = true) : decode cc pc = .ok (i, n) := by
  unfold decB at h
  split at h
  next q hq => rw [hq, of_decide_eq_true h]
  · cases h
def entB (AW : List Nat) (ini : Bool) (T : LTb) (ret : Option FieldType) (pc : Nat) (e : Ent) : Bool :=
  match isRet e.2.1 with
  | true => retB ret e.2.1 e.2.2.2 && Nat.beq e.2.2.1 1
  | false => lnkB AW ini T pc e.2.1 e.2.2.2 && (Nat.beq e.2.2.1 (ilen e.2.1) || isSw e.2.1)
theorem entB_ok {y : MethodName} {ret : Option FieldType} {AW : List Nat} {T : LTb} {pc : Nat} {e : Ent} (hT : ∀ f ∈ T, LNKf y.cls f) (h2 : entB AW (decide (y.name = "<init>")) T ret pc e = true) : (LNK y ret pc e.2.1 e.2.2.2 ∧ isRet e.2.1 = false ∧ (e.2.2.1 = ilen e.2.1 ∨ isSw e.2.1 = true)) ∨ (SPm y ret e ∧ isX e.2.1 = true) := by
  unfold entB at h2
  split at h2
  next hr =>
    obtain ⟨h4, h5⟩ := (Bool.and_eq_true _ _).mp h2
    exact Or.inr (retB_ok h4 (Nat.eq_of_beq_eq_true h5))
  next hr =>
    obtain ⟨h4, h5⟩ := (Bool.and_eq_true _ _).mp h2
    exact Or.inl ⟨lnkB_ok hT h4, hr, ((Bool.or_eq_true _ _).mp h5).imp Nat.eq_of_beq_eq_true id⟩
def chk (AW : List Nat) (ini : Bool) (T : LTb) (ret : Option FieldType) (cc : ByteArray) : List Ent → List UInt8 → Nat → Nat → Bool
  | [], _, pc, nx => Nat.beq pc nx
  | e :: r, bs, pc, nx => match decS bs with
    | some (i, n, bs2) => decide (i = e.2.1) && Nat.beq n e.2.2.1 && entB AW ini T ret pc e && (match noK e.2.1, r with
      | true, [] => true
      | _, _ => chk AW ini T ret cc r bs2 (pc + n) nx)
    | none => decB cc pc e.2.1 e.2.2.1 && entB AW ini T ret pc e && (match noK e.2.1, r with
      | true, [] => true
      | _, _ => false)
theorem chk_ok {y : MethodName} {ret : Option FieldType} {AW : List Nat} {T : LTb} {cc : ByteArray} (hT : ∀ f ∈ T, LNKf y.cls f) : ∀ (es : List Ent) (bs : List UInt8) (pc nx : Nat), cc.data.toList.drop pc = bs → chk AW (decide (y.name = "<init>")) T ret cc es bs pc nx = true → chainOK y ret cc (SPm y ret) pc es nx
  | [], bs, pc, nx, hb, h => Nat.eq_of_beq_eq_true h
  | e :: r, bs, pc, nx, hb, h => by
    unfold chk at h
    split at h
    next i n bs2 hd =>
      obtain ⟨h123, h4⟩ := (Bool.and_eq_true _ _).mp h
      obtain ⟨h12, h3⟩ := (Bool.and_eq_true _ _).mp h123
      obtain ⟨h1, h2⟩ := (Bool.and_eq_true _ _).mp h12
      have h1 := of_decide_eq_true h1
      have h2 := Nat.eq_of_beq_eq_true h2
      obtain ⟨d1, d2⟩ := decS_ok hb hd
      rw [h1, h2] at d1
      refine ⟨d1, entB_ok hT h3, ?_⟩
      rw [h2] at d2 h4
      split at h4
      next hn => exact Or.inl ⟨hn, rfl⟩
      · exact Or.inr (chk_ok hT _ _ _ _ d2 h4)
    next hd =>
      obtain ⟨h12, h4⟩ := (Bool.and_eq_true _ _).mp h
      obtain ⟨h1, h3⟩ := (Bool.and_eq_true _ _).mp h12
      refine ⟨decB_ok h1, entB_ok hT h3, ?_⟩
      split at h4
      next hn => exact Or.inl ⟨hn, rfl⟩
      · cases h4
/-- a method, checked (but for its code's word): the number of its class's word -/
def valB (AW : List Nat) (own : String) (T : LTb) (q : Nat × Nat) : Bool :=
  decide ((mi q.1).1.cls = own) && plainName own && isW q.2 (Cond.initialized own) && decide (own ≠ "java/lang/invoke/MethodHandle") && decide (own ≠ "java/lang/invoke/VarHandle") && Nat.ble (cd q.1).1 40 &&
  (cd q.1).2.1.all fun b => chk AW (decide ((mi q.1).1.name = "<init>")) T (mi q.1).2.2 (mi q.1).2.1 b.2.1 ((mi q.1).2.1.data.toList.drop b.1) b.1 b.2.2
def CW (k : Nat) : Prop := Cond.code (mi k).1 (mi k).2.1 (cd k).1 (mi k).2.2 ∈ lw_all
theorem valB_ok {AW : List Nat} {own : String} {T : LTb} {q : Nat × Nat} (hT : ∀ f ∈ T, LNKf own f) (hc : CW q.1) (h : valB AW own T q = true) : VAL q.1 := by
  unfold valB at h
  simp only [Bool.and_eq_true, decide_eq_true_eq] at h
  obtain ⟨⟨⟨⟨⟨⟨h1, h2⟩, h4⟩, h5⟩, h6⟩, h7⟩, h8⟩ := h
  subst h1
  refine ⟨h2, ⟨hc, isW_in h4, ⟨h5, h6⟩, Nat.le_of_ble_eq_true h7⟩, fun b hb => chk_ok hT _ _ _ _ rfl (List.all_eq_true.mp h8 b hb)⟩
