/-! SOUNDNESS, 1: the machine's heap holds an abstract one; locals; instructions that touch locals and stack alone -/
set_option maxRecDepth 100000
def toV (v : AV) : Value :=
  match v with
  | .inl x => .int x
  | .inr (.inl o) => va_rf o
  | .inr (.inr (.inl x)) => .long x
  | .inr (.inr (.inr _)) => .null
/-- numbers of a run: classes by number, fields' slots, arrays' classes; the heap at the start -/
abbrev GD : Type := (Nat → ClassId) × (Nat → Nat → Nat) × (Nat → ClassId) × Heap
def cellAt (D : GD) (a : Nat) (e : HC) (H : Heap) : Prop :=
  match e with
  | .inl x => H[a]? = some (vp_cell (D.2.2.1 x.1) x.2)
  | .inr x => va_at (D.1, D.2.1) vwCl (a, .inr (x.1, x.2.map toV)) H
def RH (g : GG) (D : GD) (h : AH) (H : Heap) : Prop :=
  H.size = h.2.1 ∧ (∀ (a : Nat) (e : HC), h.1 a = some e → cellAt D a e H) ∧ (∀ q : Nat, q < g.1.1 → H[q]? = D.2.2.2[q]?) ∧ g.1.1 ≤ H.size
def LH (ls : Array Slot) (nL : Nat) (L : List AV) : Prop := ls.size = nL ∧ lv_wf ls ∧ L.length = nL ∧ ∀ (i : Nat) (v : AV), L[i]? = some v → one v = true → ls[i]? = some (.val (toV v))
theorem one_cat {v : AV} (h : one v = true) : (toV v).category = 1 := by
  match v with
  | .inl x => rfl
  | .inr (.inl none) => rfl
  | .inr (.inl (some a)) => rfl
  | .inr (.inr (.inl _)) => cases h
  | .inr (.inr (.inr _)) => cases h
/-- what is known of the locals, as the kit's list -/
def lhL (nL : Nat) (L : List AV) : List (Nat × Value) := (List.range nL).filterMap fun j => match L[j]? with
  | some v => if one v = true then some (j, toV v) else none
  | none => none
theorem lhL_mem {nL : Nat} {L : List AV} {q : Nat × Value} : q ∈ lhL nL L ↔ ∃ v, q.1 < nL ∧ L[q.1]? = some v ∧ one v = true ∧ q.2 = toV v := by
  unfold lhL
  constructor
  · intro h
    obtain ⟨j, hj, e⟩ := List.mem_filterMap.mp h
    have hj := List.mem_range.mp hj
    split at e
    next v hv =>
      split at e
      next h1 => cases e; exact ⟨v, hj, hv, h1, rfl⟩
      next => cases e
    next => cases e
  · rintro ⟨v, h1, h2, h3, h4⟩
    refine List.mem_filterMap.mpr ⟨q.1, List.mem_range.mpr h1, ?_⟩
    rw [h2]
    simp only [h3, if_true]
    rw [← h4]
theorem LH.has {ls : Array Slot} {nL : Nat} {L : List AV} (h : LH ls nL L) : lv_has ls nL (lhL nL L) := by
  refine ⟨h.1, h.2.1, fun q hq => ?_⟩
  obtain ⟨v, h1, h2, h3, h4⟩ := lhL_mem.mp hq
  rw [h4]
  exact h.2.2.2 _ v h2 h3
theorem LH.set {ls ls' : Array Slot} {nL i : Nat} {L : List AV} {v : AV} (h : LH ls nL L) (hv : one v = true) (h2 : lv_has ls' nL ((i, toV v) :: (lhL nL L).filter (fun q => !(q.1 == i) && !(q.1 + 1 == i && q.2.category == 2)))) : LH ls' nL (L.set i v) := by
  refine ⟨h2.1, h2.2.1, by rw [List.length_set]; exact h.2.2.1, fun j w hj hw => ?_⟩
  by_cases hij : j = i
  · subst hij
    have : w = v := by
      rw [List.getElem?_set] at hj
      split at hj
      · split at hj
        · exact (Option.some.inj hj).symm
        · cases hj
      · rename_i hne; exact absurd rfl hne
    rw [this]
    exact h2.2.2 (j, toV v) List.mem_cons_self
  · rw [List.getElem?_set_ne (Ne.symm hij)] at hj
    have hl : j < nL := by rw [← h.2.2.1]; exact (List.getElem?_eq_some_iff.mp hj).1
    refine h2.2.2 (j, toV w) (List.mem_cons_of_mem _ (List.mem_filter.mpr ⟨lhL_mem.mpr ⟨w, hl, hj, hw, rfl⟩, ?_⟩))
    have hc := one_cat hw
    simp [hij, hc]
theorem LH.sub {ls : Array Slot} {nL : Nat} {L L' : List AV} (h : LH ls nL L) (hl : L'.length = L.length) (hs : ∀ (i : Nat) (v : AV), L'[i]? = some v → one v = true → L[i]? = some v) : LH ls nL L' :=
  ⟨h.1, h.2.1, hl.trans h.2.2.1, fun i v hi hv => h.2.2.2 i v (hs i v hi hv) hv⟩
theorem mkL_len : ∀ (bs : List Bool) (L : List AV), (mkL bs L).length = L.length
  | [], [] => rfl
  | [], _ :: _ => rfl
  | _ :: _, [] => rfl
  | b :: bs, v :: vs => by show (mkL bs vs).length + 1 = vs.length + 1; rw [mkL_len bs vs]
theorem mkL_sub : ∀ (bs : List Bool) (L : List AV) (i : Nat) (v : AV), (mkL bs L)[i]? = some v → one v = true → L[i]? = some v
  | [], [], _, _, h, _ => h
  | [], _ :: _, _, _, h, _ => h
  | _ :: _, [], _, _, h, _ => h
  | b :: bs, w :: vs, 0, v, h, hv => by
    cases b with
    | true => exact h
    | false => cases h; cases hv
  | b :: bs, w :: vs, i + 1, v, h, hv => mkL_sub bs vs i v h hv
section SND
variable {p : Program} {l : Launch} {e : Env} {R : Room} {s : State} {m : MethodId} {args : Array Value} {below : List Frame} {meth : Method} {c : Code} {Q : State → Prop} {g : GG} {D : GD} {h0 : AH} {cc : ByteArray} {nL : Nat}
/-- the walk of a method body stands at pc with these locals, this stack, a heap that holds h: it comes to Q -/
def VV (p : Program) (l : Launch) (e : Env) (R : Room) (s : State) (m : MethodId) (args : Array Value) (below : List Frame) (meth : Method) (c : Code) (Q : State → Prop) (g : GG) (D : GD) (h0 : AH) (nL : Nat) (h : AH) (pc : Nat) (L S : List AV) : Prop :=
  ∀ (H : Heap) (locs : List Loc) (cells slots : Nat) (ls : Array Slot), RH g D h H → (∀ q ∈ locs, g.1.1 ≤ q.base) → (cells + h0.2.1 = h.2.1 ∧ h.2.1 ≤ max h0.2.1 g.1.2.1) → (slots + h0.2.2 = h.2.2 ∧ h.2.2 ≤ max h0.2.2 g.1.2.2) → LH ls nL L → W p l e R s m args below meth c H locs cells slots Q (F0 m pc ls (S.map toV))
theorem vv_aload (hx : p.tables.exec = Jvm.exec) (hb : c.code = cc) {h : AH} {pc i n : Nat} {L S : List AV} {o : Option Nat} {ins : Instr} (hd : decode cc pc = .ok (ins, n)) (hi : (ins = .aload i ∧ n = 2) ∨ (∃ k : Fin 4, ins = .aload_n k ∧ k.val = i ∧ n = 1)) (hl : L[i]? = some (.inr (.inl o)))
    (k : VV p l e R s m args below meth c Q g D h0 nL h (pc + n) L (.inr (.inl o) :: S)) : VV p l e R s m args below meth c Q g D h0 nL h pc L S := by
  intro H locs cells slots ls hR hL hc hs hl'
  have h1 := hl'.2.2.2 i _ hl rfl
  have kk := k H locs cells slots ls hR hL hc hs hl'
  rcases hi with ⟨rfl, rfl⟩ | ⟨kf, rfl, hk, rfl⟩
  · cases o with
    | none => exact lv_aloadN hx hb hd h1 kk
    | some a => exact lv_aload hx hb hd h1 kk
  · cases o with
    | none => exact lv_aload_nN hx hb hd hk h1 kk
    | some a => exact lv_aload_n hx hb hd hk h1 kk
theorem vv_iload (hx : p.tables.exec = Jvm.exec) (hb : c.code = cc) {h : AH} {pc i n : Nat} {L S : List AV} {o : Int32} {ins : Instr} (hd : decode cc pc = .ok (ins, n)) (hi : (ins = .iload i ∧ n = 2) ∨ (∃ k : Fin 4, ins = .iload_n k ∧ k.val = i ∧ n = 1)) (hl : L[i]? = some (.inl o))
    (k : VV p l e R s m args below meth c Q g D h0 nL h (pc + n) L (.inl o :: S)) : VV p l e R s m args below meth c Q g D h0 nL h pc L S := by
  intro H locs cells slots ls hR hL hc hs hl'
  have h1 := hl'.2.2.2 i _ hl rfl
  have kk := k H locs cells slots ls hR hL hc hs hl'
  rcases hi with ⟨rfl, rfl⟩ | ⟨kf, rfl, hk, rfl⟩
  · exact lv_iload hx hb hd h1 kk
  · exact lv_iload_n hx hb hd hk h1 kk
theorem vv_istore (hx : p.tables.exec = Jvm.exec) (hb : c.code = cc) {h : AH} {pc i n : Nat} {L S : List AV} {o : Int32} {ins : Instr} (hd : decode cc pc = .ok (ins, n)) (hi : (ins = .istore i ∧ n = 2) ∨ (∃ k : Fin 4, ins = .istore_n k ∧ k.val = i ∧ n = 1)) (hl : i < L.length)
    (k : VV p l e R s m args below meth c Q g D h0 nL h (pc + n) (L.set i (.inl o)) S) : VV p l e R s m args below meth c Q g D h0 nL h pc L (.inl o :: S) := by
  intro H locs cells slots ls hR hL hc hs hl'
  rw [hl'.2.2.1] at hl
  rcases hi with ⟨rfl, rfl⟩ | ⟨kf, rfl, hk, rfl⟩
  · exact lv_istore hx hb hd hl'.has hl rfl fun ls' h2 => k H locs cells slots ls' hR hL hc hs (hl'.set (v := .inl o) rfl h2)
  · exact lv_istore_n hx hb hd hk hl'.has hl rfl fun ls' h2 => k H locs cells slots ls' hR hL hc hs (hl'.set (v := .inl o) rfl h2)
theorem vv_astore (hx : p.tables.exec = Jvm.exec) (hb : c.code = cc) {h : AH} {pc i n : Nat} {L S : List AV} {o : Option Nat} {ins : Instr} (hd : decode cc pc = .ok (ins, n)) (hi : (ins = .astore i ∧ n = 2) ∨ (∃ k : Fin 4, ins = .astore_n k ∧ k.val = i ∧ n = 1)) (hl : i < L.length)
    (k : VV p l e R s m args below meth c Q g D h0 nL h (pc + n) (L.set i (.inr (.inl o))) S) : VV p l e R s m args below meth c Q g D h0 nL h pc L (.inr (.inl o) :: S) := by
  intro H locs cells slots ls hR hL hc hs hl'
  rw [hl'.2.2.1] at hl
  rcases hi with ⟨rfl, rfl⟩ | ⟨kf, rfl, hk, rfl⟩
  · cases o with
    | none => exact lv_astoreN hx hb hd hl'.has hl rfl fun ls' h2 => k H locs cells slots ls' hR hL hc hs (hl'.set (v := .inr (.inl none)) rfl h2)
    | some a => exact lv_astore hx hb hd hl'.has hl rfl fun ls' h2 => k H locs cells slots ls' hR hL hc hs (hl'.set (v := .inr (.inl (some a))) rfl h2)
  · cases o with
    | none => exact lv_astore_nN hx hb hd hk hl'.has hl rfl fun ls' h2 => k H locs cells slots ls' hR hL hc hs (hl'.set (v := .inr (.inl none)) rfl h2)
    | some a => exact lv_astore_n hx hb hd hk hl'.has hl rfl fun ls' h2 => k H locs cells slots ls' hR hL hc hs (hl'.set (v := .inr (.inl (some a))) rfl h2)
theorem vv_iinc (hx : p.tables.exec = Jvm.exec) (hb : c.code = cc) {h : AH} {pc i : Nat} {n : Int} {L S : List AV} {x : Int32} (hd : decode cc pc = .ok (.iinc i n, 3)) (hl : L[i]? = some (.inl x))
    (k : VV p l e R s m args below meth c Q g D h0 nL h (pc + 3) (L.set i (.inl (x + Int32.ofInt n))) S) : VV p l e R s m args below meth c Q g D h0 nL h pc L S := by
  intro H locs cells slots ls hR hL hc hs hl'
  have hi : i < nL := by rw [← hl'.2.2.1]; exact (List.getElem?_eq_some_iff.mp hl).1
  obtain ⟨j, hj⟩ := List.getElem?_of_mem (lhL_mem.mpr ⟨_, hi, hl, rfl, rfl⟩ : (i, Value.int x) ∈ lhL nL L)
  exact lv_iinc hx hb hd hl'.has hj rfl hi rfl fun ls' h2 => k H locs cells slots ls' hR hL hc hs (hl'.set (v := .inl (x + Int32.ofInt n)) rfl h2)
theorem toV_rf (o : Option Nat) : toV (.inr (.inl o)) = va_rf o := rfl
end SND
