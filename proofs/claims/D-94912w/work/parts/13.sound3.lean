/-! SOUNDNESS, 3: arrays, new objects, casts -/
set_option maxRecDepth 100000
theorem KK.tys {g : GG} {D : GD} {s : State} (h : KK g D s) {t : Nat} {ty : FieldType} (ht : tyA t = some ty) : va_K (D.1, D.2.1) vwCl [(D.2.2.1 t, ty)] s := by
  refine ⟨h.1.1, fun k q hk => ?_⟩
  have hz : k < 1 := (List.getElem?_eq_some_iff.mp hk).1
  obtain rfl : k = 0 := by omega
  cases hk
  exact ⟨(h.2.1 t ty ht).1, (h.2.1 t ty ht).2.1⟩
section SND
variable {p : Program} {l : Launch} {e : Env} {R : Room} {s : State} {m : MethodId} {args : Array Value} {below : List Frame} {meth : Method} {c : Code} {Q : State → Prop} {g : GG} {D : GD} {cc : ByteArray} {H : Heap} {locs : List Loc} {cells slots pc : Nat} {ls : Array Slot} {rest : List Value} {h : AH}
theorem w_aldI (hx : p.tables.exec = Jvm.exec) (hb : c.code = cc) (hK : KK g D s) (hR : RH g D h H) {a n : Nat} {f : Nat → Int32} {i : Int32} (ha : h.1 a = some (.inl (0, n, .inl f))) (hi : inb i n = true) (hd : decode cc pc = .ok (.iaload, 1))
    (kk : W p l e R s m args below meth c H locs cells slots Q (F0 m (pc + 1) ls (.int (f i.toNatClampNeg) :: rest))) : W p l e R s m args below meth c H locs cells slots Q (F0 m pc ls (.int i :: .ref a :: rest)) :=
  va_iald hx hb (hK.tys (t := 0) rfl) (hR.arr ha) 0 0 rfl rfl (inb_in hi) hd kk
theorem w_aldB (hx : p.tables.exec = Jvm.exec) (hb : c.code = cc) (hK : KK g D s) (hR : RH g D h H) {a n t : Nat} {f : Nat → Int32} {i : Int32} (ht : t = 1 ∨ t = 2) (ha : h.1 a = some (.inl (t, n, .inl f))) (hi : inb i n = true) (hd : decode cc pc = .ok (.baload, 1))
    (kk : W p l e R s m args below meth c H locs cells slots Q (F0 m (pc + 1) ls (.int (f i.toNatClampNeg) :: rest))) : W p l e R s m args below meth c H locs cells slots Q (F0 m pc ls (.int i :: .ref a :: rest)) := by
  rcases ht with rfl | rfl
  · exact va_zald hx hb (hK.tys (t := 1) rfl) (hR.arr ha) 0 0 rfl rfl (inb_in hi) hd kk
  · exact va_bald hx hb (hK.tys (t := 2) rfl) (hR.arr ha) 0 0 rfl rfl (inb_in hi) hd kk
theorem w_aldJ (hx : p.tables.exec = Jvm.exec) (hb : c.code = cc) (hK : KK g D s) (hR : RH g D h H) {a n : Nat} {f : Nat → Int64} {i : Int32} (ha : h.1 a = some (.inl (3, n, .inr (.inl f)))) (hi : inb i n = true) (hd : decode cc pc = .ok (.laload, 1))
    (kk : W p l e R s m args below meth c H locs cells slots Q (F0 m (pc + 1) ls (.long (f i.toNatClampNeg) :: rest))) : W p l e R s m args below meth c H locs cells slots Q (F0 m pc ls (.int i :: .ref a :: rest)) :=
  va_lald hx hb (hK.tys (t := 3) rfl) (hR.arr ha) 0 0 rfl rfl (inb_in hi) hd kk
theorem w_aldP (hx : p.tables.exec = Jvm.exec) (hb : c.code = cc) (hK : KK g D s) (hR : RH g D h H) {a n : Nat} {f : Nat → Option Nat} {i : Int32} (ha : h.1 a = some (.inl (4, n, .inr (.inr (.inr (.inr f)))))) (hi : inb i n = true) (hd : decode cc pc = .ok (.aaload, 1))
    (kk : W p l e R s m args below meth c H locs cells slots Q (F0 m (pc + 1) ls (va_rf (f i.toNatClampNeg) :: rest))) : W p l e R s m args below meth c H locs cells slots Q (F0 m pc ls (.int i :: .ref a :: rest)) :=
  va_aldq hx hb (hK.tys (t := 4) rfl) (hR.arr ha) 0 0 rfl rfl (inb_in hi) hd kk
theorem tyA_of {t : Nat} (h : t < 5) : ∃ ty, tyA t = some ty := by
  have : t = 0 ∨ t = 1 ∨ t = 2 ∨ t = 3 ∨ t = 4 := by omega
  rcases this with rfl | rfl | rfl | rfl | rfl <;> exact ⟨_, rfl⟩
theorem w_alen (hx : p.tables.exec = Jvm.exec) (hb : c.code = cc) (hK : KK g D s) (hR : RH g D h H) {a t : Nat} {x : vp_A} (ha : h.1 a = some (.inl (t, x))) (ht : t < 5) (hd : decode cc pc = .ok (.arraylength, 1))
    (kk : W p l e R s m args below meth c H locs cells slots Q (F0 m (pc + 1) ls (.int (Int32.ofNat x.1) :: rest))) : W p l e R s m args below meth c H locs cells slots Q (F0 m pc ls (.ref a :: rest)) := by
  obtain ⟨ty, hty⟩ := tyA_of ht
  exact va_alen hx hb (hK.tys hty) (hR.arr ha) 0 0 rfl rfl rfl hd kk
theorem ay_set (t : ClassId) (n k : Nat) (f : Nat → Int32) (x : Int32) : (vp_cell t (n, .inl f)).setSlot k (.int x) = vp_cell t (n, .inl (fun j => if j = k then x else f j)) := by
  rw [vp_cell_i, vp_cell_i, arrV_store]
  congr 1
  funext q
  by_cases hq : q = k
  · subst hq; simp [updV]
  · simp [updV, hq]
theorem ay_setJ (t : ClassId) (n k : Nat) (f : Nat → Int64) (x : Int64) : (vp_cell t (n, .inr (.inl f))).setSlot k (.long x) = vp_cell t (n, .inr (.inl (fun j => if j = k then x else f j))) := by
  rw [vp_cell_l, vp_cell_l, arrV_store]
  congr 1
  funext q
  by_cases hq : q = k
  · subst hq; simp [updV]
  · simp [updV, hq]
theorem ay_setP (t : ClassId) (n k : Nat) (f : Nat → Option Nat) (x : Option Nat) : (vp_cell t (n, .inr (.inr (.inr (.inr f))))).setSlot k (va_rf x) = vp_cell t (n, .inr (.inr (.inr (.inr (fun j => if j = k then x else f j))))) := by
  rw [vp_cell_q, vp_cell_q, arrV_store]
  congr 1
  funext q
  by_cases hq : q = k
  · subst hq; simp [updV]
  · simp [updV, hq]
theorem inb_cell {i : Int32} {n : Nat} {t : ClassId} {F : Nat → Value} (h : inb i n = true) : ¬ (i < 0 ∨ (arrV t n F).slots.size ≤ i.toNatClampNeg) := by
  rw [arrV_size]; exact inb_in h
theorem w_astI (hx : p.tables.exec = Jvm.exec) (hb : c.code = cc) (hK : KK g D s) (hR : RH g D h H) {a n : Nat} {f : Nat → Int32} {i x : Int32} (ha : h.1 a = some (.inl (0, n, .inl f))) (hba : g.1.1 ≤ a) (hi : inb i n = true) (hd : decode cc pc = .ok (.iastore, 1))
    (kk : ∀ (H1 : Heap) (L : List Loc), RH g D (hset h a (.inl (0, n, .inl (fun j => if j = i.toNatClampNeg then stN 0 x else f j)))) H1 → (∀ q ∈ L, q.base = a) → W p l e R s m args below meth c H1 (locs ++ L) cells slots Q (F0 m (pc + 1) ls rest)) : W p l e R s m args below meth c H locs cells slots Q (F0 m pc ls (.int x :: .int i :: .ref a :: rest)) := by
  refine W.iast hx hb (hR.2.1 a _ ha) ((hK.2.1 0 .int rfl).1 n (fun j => .int (f j))) (fun q => by cases q) (inb_cell hi) rfl rfl hd fun H1 w1 w2 w3 => ?_
  refine kk H1 _ (hR.set hba ?_ w2 w3) (fun q hq => by rw [List.mem_singleton.mp hq])
  show H1[a]? = some (vp_cell _ _)
  rw [w1]
  exact congrArg some (ay_set _ _ _ _ _)
theorem w_astJ (hx : p.tables.exec = Jvm.exec) (hb : c.code = cc) (hK : KK g D s) (hR : RH g D h H) {a n : Nat} {f : Nat → Int64} {i : Int32} {x : Int64} (ha : h.1 a = some (.inl (3, n, .inr (.inl f)))) (hba : g.1.1 ≤ a) (hi : inb i n = true) (hd : decode cc pc = .ok (.lastore, 1))
    (kk : ∀ (H1 : Heap) (L : List Loc), RH g D (hset h a (.inl (3, n, .inr (.inl (fun j => if j = i.toNatClampNeg then x else f j))))) H1 → (∀ q ∈ L, q.base = a) → W p l e R s m args below meth c H1 (locs ++ L) cells slots Q (F0 m (pc + 1) ls rest)) : W p l e R s m args below meth c H locs cells slots Q (F0 m pc ls (.long x :: .int i :: .ref a :: rest)) := by
  refine W.last hx hb (hR.2.1 a _ ha) ((hK.2.1 3 .long rfl).1 n (fun j => .long (f j))) (fun q => by cases q) (inb_cell hi) rfl rfl hd fun H1 w1 w2 w3 => ?_
  refine kk H1 _ (hR.set hba ?_ w2 w3) (fun q hq => by rw [List.mem_singleton.mp hq])
  show H1[a]? = some (vp_cell _ _)
  rw [w1]
  exact congrArg some (ay_setJ _ _ _ _ _)
theorem w_astB (hx : p.tables.exec = Jvm.exec) (hb : c.code = cc) (hK : KK g D s) (hR : RH g D h H) {a n t : Nat} {f : Nat → Int32} {i x : Int32} (ht : t = 1 ∨ t = 2) (ha : h.1 a = some (.inl (t, n, .inl f))) (hba : g.1.1 ≤ a) (hi : inb i n = true) (hz : t = 1 → x = 0 ∨ x = 1) (hd : decode cc pc = .ok (.bastore, 1))
    (kk : ∀ (H1 : Heap) (L : List Loc), RH g D (hset h a (.inl (t, n, .inl (fun j => if j = i.toNatClampNeg then stN t x else f j)))) H1 → (∀ q ∈ L, q.base = a) → W p l e R s m args below meth c H1 (locs ++ L) cells slots Q (F0 m (pc + 1) ls rest)) : W p l e R s m args below meth c H locs cells slots Q (F0 m pc ls (.int x :: .int i :: .ref a :: rest)) := by
  rcases ht with rfl | rfl
  · refine W.zast hx hb (hR.2.1 a _ ha) ((hK.2.1 1 .boolean rfl).1 n (fun j => .int (f j))) (fun q => by cases q) (inb_cell hi) rfl rfl hd fun H1 w1 w2 w3 => ?_
    refine kk H1 _ (hR.set hba ?_ w2 w3) (fun q hq => by rw [List.mem_singleton.mp hq])
    show H1[a]? = some (vp_cell _ _)
    have e1 : narrow .boolean (.int x) = .int x := by
      rcases hz rfl with q | q
      · subst q; decide
      · subst q; decide
    rw [w1, e1]
    exact congrArg some (ay_set _ _ _ _ _)
  · refine W.bast hx hb (hR.2.1 a _ ha) ((hK.2.1 2 .byte rfl).1 n (fun j => .int (f j))) (fun q => by cases q) (inb_cell hi) rfl rfl hd fun H1 w1 w2 w3 => ?_
    refine kk H1 _ (hR.set hba ?_ w2 w3) (fun q hq => by rw [List.mem_singleton.mp hq])
    show H1[a]? = some (vp_cell _ _)
    rw [w1]
    show some ((vp_cell _ _).setSlot _ (.int x.toInt8.toInt32)) = _
    exact congrArg some (ay_set _ _ _ _ _)
theorem RH.recv {hK : KK g D s} (hR : RH g D h H) {a ci : Nat} {fs : List AV} (ha : h.1 a = some (.inr (ci, fs))) {q : vw_C} (hq : vwCl[ci]? = some q) : ∃ cell : Cell, H[a]? = some cell ∧ cell.vm.isStatics = false ∧ s.vm.findClass q.1 = some cell.cls :=
  va_recv hK.1 (hR.one ha) hq (q0 := 0) rfl
/-- what an array of objects may hold, at the machine -/
theorem hok_any (hK : KK g D s) (hR : RH g D h H) {a : Nat} (hv : hok h (some a) = true) : va_Any "java/lang/Object" s H a := by
  unfold hok at hv
  split at hv
  next h1 => cases h1
  next b h1 =>
    cases h1
    split at hv
    next ci fs ha =>
      have hci : ci < 22 := of_decide_eq_true hv
      obtain ⟨q, hq⟩ : ∃ q, vwCl[ci]? = some q := ⟨_, List.getElem?_eq_getElem (by show ci < 26; omega)⟩
      obtain ⟨cell, g1, g2, g3⟩ := hR.recv (hK := hK) ha hq
      have hcas : (q.1, "java/lang/Object") ∈ casL := by
        have hz : ∀ i, i < 22 → ∀ q, vwCl[i]? = some q → (q.1, "java/lang/Object") ∈ casL := by
          intro i hi q hq
          have : (vwCl[i]?.map (fun q => (q.1, "java/lang/Object"))) = casL[i]? := by
            have hz : ∀ i, i < 22 → (vwCl[i]?.map (fun q => (q.1, "java/lang/Object"))) = casL[i]? := by
              intro i hi
              have hi2 : i = 0 ∨ i = 1 ∨ i = 2 ∨ i = 3 ∨ i = 4 ∨ i = 5 ∨ i = 6 ∨ i = 7 ∨ i = 8 ∨ i = 9 ∨ i = 10 ∨ i = 11 ∨ i = 12 ∨ i = 13 ∨ i = 14 ∨ i = 15 ∨ i = 16 ∨ i = 17 ∨ i = 18 ∨ i = 19 ∨ i = 20 ∨ i = 21 := by omega
              rcases hi2 with rfl | rfl | rfl | rfl | rfl | rfl | rfl | rfl | rfl | rfl | rfl | rfl | rfl | rfl | rfl | rfl | rfl | rfl | rfl | rfl | rfl | rfl <;> rfl
            exact hz i hi
          rw [hq] at this
          exact List.mem_of_getElem? this.symm
        exact hz ci hci q hq
      obtain ⟨c0, t0, f1, f2, f3⟩ := Cond.castable_spec (va_Nw.use (A := #[]) rfl (hK.2.2.2.2.1 _ hcas))
      obtain ⟨kC, hkC, -⟩ := Vm.findClass_spec g3
      refine ⟨cell, g1, g2, ⟨kC, hkC⟩, fun comp hcomp => ?_⟩
      cases g3.symm.trans f1
      cases hcomp.symm.trans f2
      exact f3
    next => cases hv
theorem w_astP (hx : p.tables.exec = Jvm.exec) (hb : c.code = cc) (hK : KK g D s) (hR : RH g D h H) {a n : Nat} {f : Nat → Option Nat} {i : Int32} {x : Option Nat} (ha : h.1 a = some (.inl (4, n, .inr (.inr (.inr (.inr f)))))) (hba : g.1.1 ≤ a) (hi : inb i n = true) (hv : hok h x = true) (hd : decode cc pc = .ok (.aastore, 1))
    (kk : ∀ (H1 : Heap) (L : List Loc), RH g D (hset h a (.inl (4, n, .inr (.inr (.inr (.inr (fun j => if j = i.toNatClampNeg then x else f j))))))) H1 → (∀ q ∈ L, q.base = a) → W p l e R s m args below meth c H1 (locs ++ L) cells slots Q (F0 m (pc + 1) ls rest)) : W p l e R s m args below meth c H locs cells slots Q (F0 m pc ls (va_rf x :: .int i :: .ref a :: rest)) := by
  have ht := (hK.2.1 4 _ rfl).2.1
  cases x with
  | none =>
    refine va_WaastN (C := "java/lang/Object") hx hb (hR.2.1 a _ ha) ((hK.2.1 4 _ rfl).1 n (fun j => va_rf (f j))) (fun h => by cases h) (inb_cell hi) rfl rfl hd fun H1 w1 w2 w3 => ?_
    refine kk H1 _ (hR.set hba ?_ w2 w3) (fun q hq => by rw [List.mem_singleton.mp hq])
    show H1[a]? = some (vp_cell _ _)
    rw [w1]
    exact congrArg some (ay_setP _ _ _ _ none)
  | some v =>
    have hin := inb_in hi
    have hlt : i.toNatClampNeg < n := Nat.not_le.mp fun q => hin (Or.inr q)
    have h0 : ¬ i < 0 := fun q => hin (Or.inl q)
    obtain ⟨cellV, g1, g3, ⟨kC, hkC⟩, hasg⟩ := hok_any hK hR hv
    obtain ⟨kA, comp, k1, k2, k3, -⟩ := ht
    obtain ⟨kE, hkE, -⟩ := Vm.findClass_spec k3
    refine W.aast hx hb (hR.2.1 a _ ha) (fun q h => by cases h) (fun h => by cases h) k1 k2 rfl hkE ⟨h0, by show _ < (arrV _ _ _).slots.size; rw [arrV_size]; exact hlt⟩ g1 (fun q h => by rw [h] at g3; cases g3) hkC (hasg _ k3) rfl rfl hd fun H1 w1 w2 w3 => ?_
    refine kk H1 _ (hR.set hba ?_ w2 w3) (fun q hq => by rw [List.mem_singleton.mp hq])
    show H1[a]? = some (vp_cell _ _)
    rw [w1]
    exact congrArg some (ay_setP _ _ _ _ (some v))
/-- what links a 'new' -/
def NOK (own : String) (idx ci : Nat) : Prop := ∃ q, vwCl[ci]? = some q ∧ Cond.classLink own idx q.1 ∈ lw_all ∧ Cond.instantiable q.1 q.2.2 ∈ lw_all ∧ Cond.initialized q.1 ∈ lw_all
theorem dfl_ok : ∀ ci, ci < 26 → ∀ q, vwCl[ci]? = some q → (dflF ci).length = q.2.2 ∧ ∀ k, k < q.2.2 → (parseFieldDescriptor (q.2.1 k).2.2.1).map defaultValue = ((dflF ci)[k]?).map toV := by
  have h : ∀ ci, ci < 26 → ((vwCl[ci]?).map fun q => decide ((dflF ci).length = q.2.2) && (List.range q.2.2).all fun k => decide ((parseFieldDescriptor (q.2.1 k).2.2.1).map defaultValue = ((dflF ci)[k]?).map toV)) = some true := by decide +kernel
  intro ci hci q hq
  have h1 := h ci hci
  rw [hq] at h1
  have h2 := Option.some.inj h1
  rw [Bool.and_eq_true] at h2
  refine ⟨of_decide_eq_true h2.1, fun k hk => ?_⟩
  exact of_decide_eq_true (List.all_eq_true.mp h2.2 k (List.mem_range.mpr hk))
theorem w_new (hx : p.tables.exec = Jvm.exec) (hb : c.code = cc) (hts : ∀ w ∈ lw_all, w.before args s = true) {own : String} (hown : s.vm.findClass own = some m.cls) (hK : KK g D s) (hR : RH g D h H) {idx ci : Nat} (hN : NOK own idx ci) (hcells : cells + 1 ≤ R.cells) (hslots : slots + (dflF ci).length ≤ R.slots) (hd : decode cc pc = .ok (.new idx, 3))
    (kk : ∀ H1 : Heap, RH g D (hpush h (.inr (ci, dflF ci)) (dflF ci).length) H1 → W p l e R s m args below meth c H1 locs (cells + 1) (slots + (dflF ci).length) Q (F0 m (pc + 3) ls (.ref h.2.1 :: rest))) : W p l e R s m args below meth c H locs cells slots Q (F0 m pc ls rest) := by
  obtain ⟨q, hq, h1, h2, h3⟩ := hN
  have hci : ci < 26 := (List.getElem?_eq_some_iff.mp hq).1
  obtain ⟨d1, d2⟩ := dfl_ok ci hci q hq
  obtain ⟨hin, ty0, hty0, hnm⟩ := cls_ok q (List.mem_of_getElem? hq)
  have hKn := hK.1.1 ci _ hq
  rw [d1] at hslots kk
  refine W.newcK hx hb hown (hts _ h1) (hts _ h2) (hts _ h3) rfl hd hcells hslots hKn.2.1 hR.1 fun H1 kC hkC e1 z1 o1 => ?_
  refine kk H1 (hR.push ?_ (by rw [hR.1]; exact z1) (fun a ha => o1 a (by rw [← hR.1]; exact ha)))
  refine ⟨_, hq, (u_born ty0 hts hin hKn hkC e1 hty0).to fun k hk => ?_⟩
  have h5 := d2 k hk
  rw [hty0 k hk] at h5
  show defaultValue (ty0 k) = vp_V ((dflF ci).map toV) k
  unfold vp_V
  rw [List.getD_eq_getElem?_getD, List.getElem?_map, ← h5]
  rfl
def atyp (t : Nat) (a : ArrayType) : Prop :=
  match t, a with
  | 0, .int => True
  | 1, .boolean => True
  | 2, .byte => True
  | 3, .long => True
  | _, _ => False
theorem w_newA (hx : p.tables.exec = Jvm.exec) (hb : c.code = cc) (hK : KK g D s) (hR : RH g D h H) {t : Nat} {at' : ArrayType} (hat : atyp t at') (harr : (Cond.arrayClass (newarray.typeOf at')).before args s = true) {n : Int32} (hn : ¬ n < 0) (hN : n.toNatClampNeg ≤ 60000000) (hcells : cells + 1 ≤ R.cells) (hslots : slots + n.toNatClampNeg ≤ R.slots) (hd : decode cc pc = .ok (.newarray at', 2))
    (kk : ∀ H1 : Heap, RH g D (hpush h (.inl (t, n.toNatClampNeg, dflA t)) n.toNatClampNeg) H1 → W p l e R s m args below meth c H1 locs (cells + 1) (slots + n.toNatClampNeg) Q (F0 m (pc + 2) ls (.ref h.2.1 :: rest))) : W p l e R s m args below meth c H locs cells slots Q (F0 m pc ls (.int n :: rest)) := by
  have key : ∀ (ty : FieldType), tyA t = some ty → newarray.typeOf at' = ty → componentBytes ty ≤ 8 → (∀ cA, vp_cell cA (n.toNatClampNeg, dflA t) = arrV cA n.toNatClampNeg (fun _ => defaultValue ty)) → W p l e R s m args below meth c H locs cells slots Q (F0 m pc ls (.int n :: rest)) := by
    intro ty h1 h2 h3 h4
    refine va_newaK hx hb harr rfl hd rfl hn rfl (by rw [h2]; exact Nat.le_trans (Nat.mul_le_mul hN h3) (by decide)) hcells hslots hR.1 fun H1 cA e1 z1 o1 hAr hNm => ?_
    refine kk H1 (hR.push ?_ (by rw [hR.1]; exact z1) (fun a ha => o1 a (by rw [← hR.1]; exact ha)))
    rw [h2] at e1 hNm
    have h5 := (hK.2.1 t ty h1).2.2
    cases hNm.symm.trans h5
    show H1[h.2.1]? = some (vp_cell _ _)
    rw [e1, h4]
  unfold atyp at hat
  split at hat
  · exact key .int rfl rfl (by decide) (fun _ => rfl)
  · exact key .boolean rfl rfl (by decide) (fun _ => rfl)
  · exact key .byte rfl rfl (by decide) (fun _ => rfl)
  · exact key .long rfl rfl (by decide) (fun _ => rfl)
  · exact hat.elim
theorem w_newP (hx : p.tables.exec = Jvm.exec) (hb : c.code = cc) (hts : ∀ w ∈ lw_all, w.before args s = true) {own : String} (hown : s.vm.findClass own = some m.cls) (hK : KK g D s) (hR : RH g D h H) {idx : Nat} (hl : Cond.classLink own idx "java/lang/Object" ∈ lw_all) {n : Int32} (hn : ¬ n < 0) (hN : n.toNatClampNeg ≤ 60000000) (hcells : cells + 1 ≤ R.cells) (hslots : slots + n.toNatClampNeg ≤ R.slots) (hd : decode cc pc = .ok (.anewarray idx, 3))
    (kk : ∀ H1 : Heap, RH g D (hpush h (.inl (4, n.toNatClampNeg, dflA 4)) n.toNatClampNeg) H1 → W p l e R s m args below meth c H1 locs (cells + 1) (slots + n.toNatClampNeg) Q (F0 m (pc + 3) ls (.ref h.2.1 :: rest))) : W p l e R s m args below meth c H locs cells slots Q (F0 m pc ls (.int n :: rest)) := by
  refine W.anew hx hb hown (hts _ hl) (va_AO.use hK.2.2.2.2.2.2.2.2.2.2.2.2.2.2) rfl hd rfl hn (by omega) hcells hslots fun cA kA comp h1 h2 h3 h4 => ?_
  rw [hR.1]
  refine kk _ (hR.push ?_ (by simp) (fun a ha => by rw [Array.getElem?_push, if_neg (Nat.ne_of_lt ha)]))
  have h5 := (hK.2.1 4 _ rfl).2.2
  cases h1.symm.trans h5
  show (H.push _)[h.2.1]? = some (vp_cell _ _)
  rw [← hR.1]
  simp only [Array.getElem?_push_size]
  have e1 : vp_cell (D.2.2.1 4) (n.toNatClampNeg, dflA 4) = arrV (D.2.2.1 4) n.toNatClampNeg (fun _ => Value.null) := rfl
  rw [e1, ← arrV_new]
/-- what links a checkcast -/
def COK (own : String) (idx : Nat) (cs : List Nat) : Prop := ∃ nm, Cond.classLink own idx nm ∈ lw_all ∧ ∀ ci ∈ cs, (∃ q, vwCl[ci]? = some q ∧ (q.1 = nm ∨ (q.1, nm) ∈ casL)) ∨ (ci = 102 ∧ nm = "[B")
theorem w_cast (hx : p.tables.exec = Jvm.exec) (hb : c.code = cc) (hts : ∀ w ∈ lw_all, w.before args s = true) {own : String} (hown : s.vm.findClass own = some m.cls) (hK : KK g D s) (hR : RH g D h H) {idx : Nat} {cs : List Nat} (hC : COK own idx cs) {o v : Option Nat} (hv : hcast h o cs = some v) (hd : decode cc pc = .ok (.checkcast idx, 3))
    (kk : W p l e R s m args below meth c H locs cells slots Q (F0 m (pc + 3) ls (va_rf v :: rest))) : W p l e R s m args below meth c H locs cells slots Q (F0 m pc ls (va_rf o :: rest)) := by
  obtain ⟨nm, hl, hcs⟩ := hC
  cases o with
  | none =>
    cases hv
    exact lv_castN hx hb hd kk
  | some a =>
    unfold hcast at hv
    dsimp only at hv
    split at hv
    next ci fs ha =>
      split at hv
      next hc =>
        cases hv
        have hc := List.contains_iff_mem.mp hc
        rcases hcs ci hc with ⟨q, hq, hn⟩ | ⟨rfl, -⟩
        · have hr := hR.recv (hK := hK) ha hq
          rcases hn with rfl | hn
          · exact va_castS hx hb hown (hts _ hl) (hK.1.1 ci _ hq).2 hr hd kk
          · exact va_castY hx hb hown (hts _ hl) (hK.2.2.2.2.1 _ hn) hr hd kk
        · obtain ⟨r, h1, -⟩ := hR.2.1 a _ ha
          cases h1
      next => cases hv
    next t x ha =>
      split at hv
      next hc =>
        cases hv
        have hc := List.contains_iff_mem.mp hc
        rcases hcs _ hc with ⟨q, hq, -⟩ | ⟨ht, rfl⟩
        · have : 100 + t < 26 := (List.getElem?_eq_some_iff.mp hq).1
          omega
        · obtain rfl : t = 2 := by omega
          exact va_castA hx hb hown (hts _ hl) (hR.arr ha) 0 rfl ((by decide +kernel : "[" ++ FieldType.byte.toString = "[B") ▸ (hK.2.1 2 _ rfl).2.2) hd kk
      next => cases hv
    next => cases hv
/-- what links an instanceof: the classes that are, those that aren't -/
def IOK (own : String) (idx : Nat) (cs ds : List Nat) : Prop := ∃ nm, Cond.classLink own idx nm ∈ lw_all ∧ (∀ ci ∈ cs, ∃ q, vwCl[ci]? = some q ∧ q.1 = nm) ∧ ∀ ci ∈ ds, ∃ q, vwCl[ci]? = some q ∧ (q.1, nm) ∈ ncL
theorem w_inst (hx : p.tables.exec = Jvm.exec) (hb : c.code = cc) (hts : ∀ w ∈ lw_all, w.before args s = true) {own : String} (hown : s.vm.findClass own = some m.cls) (hK : KK g D s) (hR : RH g D h H) {idx : Nat} {cs ds : List Nat} (hC : IOK own idx cs ds) {o : Option Nat} {v : Int32} (hv : hinst h o cs ds = some v) (hd : decode cc pc = .ok (.instanceof idx, 3))
    (kk : W p l e R s m args below meth c H locs cells slots Q (F0 m (pc + 3) ls (.int v :: rest))) : W p l e R s m args below meth c H locs cells slots Q (F0 m pc ls (va_rf o :: rest)) := by
  obtain ⟨nm, hl, hcs, hds⟩ := hC
  cases o with
  | none =>
    cases hv
    exact lv_instN hx hb hd kk
  | some a =>
    unfold hinst at hv
    dsimp only at hv
    split at hv
    next ci fs ha =>
      split at hv
      next hc =>
        cases hv
        obtain ⟨q, hq, rfl⟩ := hcs ci (List.contains_iff_mem.mp hc)
        exact va_instS hx hb hown (hts _ hl) (hK.1.1 ci _ hq).2 (hR.recv (hK := hK) ha hq) hd kk
      next =>
        split at hv
        next hc =>
          cases hv
          obtain ⟨q, hq, hn⟩ := hds ci (List.contains_iff_mem.mp hc)
          exact va_instNo hx hb hown (hts _ hl) (hK.2.2.2.2.2.2.2.1 _ hn) (hR.recv (hK := hK) ha hq) hd kk
        next => cases hv
    next => cases hv
end SND
