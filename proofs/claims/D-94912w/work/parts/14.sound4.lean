/-! SOUNDNESS, 4: System.arraycopy; calls -/
set_option maxRecDepth 100000
theorem wt_cat (S : List AV) : ((S.map toV).map fun v => v.category).sum ≤ wt S := by
  induction S with
  | nil => exact Nat.le_refl _
  | cons v r ih =>
    rw [List.map_cons, List.map_cons, List.sum_cons]
    have h1 : (toV v).category + wt r ≤ wt (v :: r) := by
      match v with
      | .inl x => exact Nat.le_of_eq (Nat.add_comm 1 _)
      | .inr (.inl none) => exact Nat.le_of_eq (Nat.add_comm 1 _)
      | .inr (.inl (some a)) => exact Nat.le_of_eq (Nat.add_comm 1 _)
      | .inr (.inr (.inl x)) => exact Nat.le_of_eq (Nat.add_comm 2 _)
      | .inr (.inr (.inr _)) => exact Nat.le_of_eq (Nat.add_comm 1 _)
    omega
theorem i32_nn (z : Int32) (hz : ¬ z < 0) : z.toInt = (z.toNatClampNeg : Int) := by
  have hz0 : (0 : Int) ≤ z.toInt := by
    have := Int32.not_lt.mp hz
    simpa using Int32.le_iff_toInt_le.mp this
  show z.toInt = ((z.toInt.toNat : Nat) : Int)
  omega
section SND
variable {p : Program} {l : Launch} {e : Env} {R : Room} {s : State} {m : MethodId} {args : Array Value} {below : List Frame} {meth : Method} {c : Code} {Q : State → Prop} {g : GG} {D : GD} {cc : ByteArray} {H : Heap} {locs : List Loc} {cells slots pc : Nat} {ls : Array Slot} {rest : List Value} {h : AH}
/-- what links System.arraycopy -/
def AOK (own : String) (idx : Nat) : Prop := Cond.methodLink own idx arraycopyName ∈ lw_all ∧ Cond.native arraycopyName ∈ lw_all ∧ Cond.static arraycopyName ∈ lw_all ∧ Cond.initialized "java/lang/System" ∈ lw_all
theorem w_copyI (hx : p.tables.exec = Jvm.exec) (hb : c.code = cc) (hml : c.maxLocals = ls.size) (hts : ∀ w ∈ lw_all, w.before args s = true) {own : String} (hown : s.vm.findClass own = some m.cls) (hK : KK g D s) (hR : RH g D h H) {idx : Nat} (hA : AOK own idx) {a b t n0 n1 : Nat} {f f2 : Nat → Int32} {sp dp n : Int32} (hba : g.1.1 ≤ b) (ht : t = 0 ∨ t = 2) (ha : h.1 a = some (.inl (t, n0, .inl f))) (hb2 : h.1 b = some (.inl (t, n1, .inl f2))) (h1 : ¬ sp < 0) (h2 : ¬ dp < 0) (h3 : ¬ n < 0) (h4 : sp.toNatClampNeg + n.toNatClampNeg ≤ n0) (h5 : dp.toNatClampNeg + n.toNatClampNeg ≤ n1) (hfit : t = 2 → ∀ i, i < n.toNatClampNeg → fits .byte (.int (f (sp.toNatClampNeg + i))) = true)
    (hframes : 1 ≤ R.frames) (hlocals : (rest.map fun v => v.category).sum + (nativeFrameWords "java/lang/System" "arraycopy" 5 + 11) ≤ R.locals) (hd : decode cc pc = .ok (.invokestatic idx, 3))
    (kk : ∀ (H1 : Heap) (L : List Loc), RH g D (hset h b (.inl (t, n1, .inl (va_cpy f f2 sp.toNatClampNeg dp.toNatClampNeg n.toNatClampNeg)))) H1 → (∀ q ∈ L, q.base = b) → W p l e R s m args below meth c H1 (locs ++ L) cells slots Q (F0 m (pc + 3) ls rest)) : W p l e R s m args below meth c H locs cells slots Q (F0 m pc ls (.int n :: .int dp :: .ref b :: .int sp :: .ref a :: rest)) := by
  obtain ⟨A1, A2, A3, A4⟩ := hA
  obtain ⟨ty, hty, hprim, hfit2⟩ : ∃ ty, tyA t = some ty ∧ refKind ty = false ∧ ∀ i, i < n.toNatClampNeg → fits ty (.int (f (sp.toNatClampNeg + i))) = true := by
    rcases ht with rfl | rfl
    · exact ⟨.int, rfl, rfl, fun _ _ => rfl⟩
    · exact ⟨.byte, rfl, rfl, fun i hi => hfit rfl i hi⟩
  intro T hT X
  have hc0 : H[a]? = some (vp_cell (D.2.2.1 t) (n0, .inl f)) := hR.2.1 a _ ha
  have hc1 : H[b]? = some (vp_cell (D.2.2.1 t) (n1, .inl f2)) := hR.2.1 b _ hb2
  obtain ⟨-, k0, hk0, cm0, hkk0⟩ := (hK.2.1 t ty hty).1 n0 (fun j => .int (f j))
  obtain ⟨-, k1, hk1, cm1, hkk1⟩ := (hK.2.1 t ty hty).1 n1 (fun j => .int (f2 j))
  obtain ⟨vm', X', step⟩ := X.arraycopy hx hown (hts _ A1) (hts _ A2) (hts _ A3) (hts _ A4) (src := a) (dst := b) (cs := vp_cell (D.2.2.1 t) (n0, .inl f)) (cd := vp_cell (D.2.2.1 t) (n1, .inl f2)) (srcPos := sp) (destPos := dp) (n := n) (by rw [hT]; exact hc0) (by rw [hT]; exact hc1)
    (fun _ h => by cases h) (fun _ h => by cases h) (fun h => by cases h) (fun h => by cases h) hk0 hk1 hkk0 hkk1 (by simp [hprim]) h1 h2 h3
    (by rw [i32_nn sp h1, i32_nn n h3]; show ¬ _ > ((arrV (D.2.2.1 t) n0 (fun j => .int (f j))).slots.size : Int); rw [arrV_size]; omega)
    (by rw [i32_nn dp h2, i32_nn n h3]; show ¬ _ > ((arrV (D.2.2.1 t) n1 (fun j => .int (f2 j))).slots.size : Int); rw [arrV_size]; omega)
    (fun vm₁ _ i hi => by
      have e : (vp_cell (D.2.2.1 t) (n0, .inl f)).slots.getD (sp.toNatClampNeg + i) .null = .int (f (sp.toNatClampNeg + i)) := by
        show (arrV (D.2.2.1 t) n0 (fun j => .int (f j))).slots.getD _ _ = _
        rw [Array.getD_eq_getD_getElem?, arrV_read _ _ (by omega)]
        rfl
      refine ⟨?_, ?_⟩
      · rw [e]
        exact hfit2 i hi
      · rw [e]
        exact trivial)
    (g := F0 m pc ls (.int n :: .int dp :: .ref b :: .int sp :: .ref a :: rest)) rfl (by rw [hml]) (rest := rest) rfl (by rw [hb]; exact hd) hframes (by show 2 * 0 + _ + _ ≤ _; omega)
  have e1 : copied (vp_cell (D.2.2.1 t) (n0, .inl f)) (vp_cell (D.2.2.1 t) (n1, .inl f2)) sp dp n = vp_cell (D.2.2.1 t) (n1, .inl (va_cpy f f2 sp.toNatClampNeg dp.toNatClampNeg n.toNatClampNeg)) := va_copied (fun z => .int z) _ _ f f2 h4
  rw [e1] at X' step
  have hl : b < H.size := (Array.getElem?_eq_some_iff.mp hc1).1
  have hheap : ((T.setVm vm').setCell b (vp_cell (D.2.2.1 t) (n1, .inl (va_cpy f f2 sp.toNatClampNeg dp.toNatClampNeg n.toNatClampNeg)))).heap = H.setIfInBounds b (vp_cell (D.2.2.1 t) (n1, .inl (va_cpy f f2 sp.toNatClampNeg dp.toNatClampNeg n.toNatClampNeg))) := by rw [← hT]; rfl
  have oq : ∀ q : Nat, q ≠ b → (H.setIfInBounds b (vp_cell (D.2.2.1 t) (n1, .inl (va_cpy f f2 sp.toNatClampNeg dp.toNatClampNeg n.toNatClampNeg))))[q]? = H[q]? := fun q hq => by simp [Array.getElem?_setIfInBounds, Ne.symm hq]
  obtain ⟨t, a1, b1⟩ := kk _ _ (hR.set hba (show (H.setIfInBounds b _)[b]? = some _ by simp [Array.getElem?_setIfInBounds, hl]) (by simp) oq) (fun q hq => by
    obtain ⟨z, -, hz⟩ := List.mem_map.mp hq
    rw [← hz]) _ hheap X'
  exact ⟨t, step t a1, b1⟩
theorem w_copyP (hx : p.tables.exec = Jvm.exec) (hb : c.code = cc) (hml : c.maxLocals = ls.size) (hts : ∀ w ∈ lw_all, w.before args s = true) {own : String} (hown : s.vm.findClass own = some m.cls) (hK : KK g D s) (hR : RH g D h H) {idx : Nat} (hA : AOK own idx) {a b n0 n1 : Nat} {f f2 : Nat → Option Nat} {sp dp n : Int32} (hba : g.1.1 ≤ b) (ha : h.1 a = some (.inl (4, n0, .inr (.inr (.inr (.inr f)))))) (hb2 : h.1 b = some (.inl (4, n1, .inr (.inr (.inr (.inr f2)))))) (h1 : ¬ sp < 0) (h2 : ¬ dp < 0) (h3 : ¬ n < 0) (h4 : sp.toNatClampNeg + n.toNatClampNeg ≤ n0) (h5 : dp.toNatClampNeg + n.toNatClampNeg ≤ n1) (hel : ∀ i, i < n.toNatClampNeg → hok h (f (sp.toNatClampNeg + i)) = true)
    (hframes : 1 ≤ R.frames) (hlocals : (rest.map fun v => v.category).sum + (nativeFrameWords "java/lang/System" "arraycopy" 5 + 11) ≤ R.locals) (hd : decode cc pc = .ok (.invokestatic idx, 3))
    (kk : ∀ (H1 : Heap) (L : List Loc), RH g D (hset h b (.inl (4, n1, .inr (.inr (.inr (.inr (va_cpy f f2 sp.toNatClampNeg dp.toNatClampNeg n.toNatClampNeg))))))) H1 → (∀ q ∈ L, q.base = b) → W p l e R s m args below meth c H1 (locs ++ L) cells slots Q (F0 m (pc + 3) ls rest)) : W p l e R s m args below meth c H locs cells slots Q (F0 m pc ls (.int n :: .int dp :: .ref b :: .int sp :: .ref a :: rest)) := by
  obtain ⟨A1, A2, A3, A4⟩ := hA
  have hty := hK.2.1 4 _ rfl
  intro T hT X
  have hc0 : H[a]? = some (vp_cell (D.2.2.1 4) (n0, .inr (.inr (.inr (.inr f))))) := hR.2.1 a _ ha
  have hc1 : H[b]? = some (vp_cell (D.2.2.1 4) (n1, .inr (.inr (.inr (.inr f2))))) := hR.2.1 b _ hb2
  obtain ⟨-, k0, hk0, cm0, hkk0⟩ := hty.1 n0 (fun j => va_rf (f j))
  obtain ⟨-, k1, hk1, cm1, hkk1⟩ := hty.1 n1 (fun j => va_rf (f2 j))
  obtain ⟨vm', X', step⟩ := X.arraycopy hx hown (hts _ A1) (hts _ A2) (hts _ A3) (hts _ A4) (src := a) (dst := b) (cs := vp_cell (D.2.2.1 4) (n0, .inr (.inr (.inr (.inr f))))) (cd := vp_cell (D.2.2.1 4) (n1, .inr (.inr (.inr (.inr f2))))) (srcPos := sp) (destPos := dp) (n := n) (by rw [hT]; exact hc0) (by rw [hT]; exact hc1)
    (fun _ h => by cases h) (fun _ h => by cases h) (fun h => by cases h) (fun h => by cases h) hk0 hk1 hkk0 hkk1 rfl h1 h2 h3
    (by rw [i32_nn sp h1, i32_nn n h3]; show ¬ _ > ((arrV (D.2.2.1 4) n0 (fun j => va_rf (f j))).slots.size : Int); rw [arrV_size]; omega)
    (by rw [i32_nn dp h2, i32_nn n h3]; show ¬ _ > ((arrV (D.2.2.1 4) n1 (fun j => va_rf (f2 j))).slots.size : Int); rw [arrV_size]; omega)
    (fun vm₁ hal i hi => by
      have e : (vp_cell (D.2.2.1 4) (n0, .inr (.inr (.inr (.inr f))))).slots.getD (sp.toNatClampNeg + i) .null = va_rf (f (sp.toNatClampNeg + i)) := by
        show (arrV (D.2.2.1 4) n0 (fun j => va_rf (f j))).slots.getD _ _ = _
        rw [Array.getD_eq_getD_getElem?, arrV_read _ _ (by omega)]
        rfl
      rw [e]
      cases hy : f (sp.toNatClampNeg + i) with
      | none => exact ⟨rfl, trivial⟩
      | some y =>
        have hz := hel i hi
        rw [hy] at hz
        obtain ⟨cellV, g1, g2, ⟨kC, hkC⟩, hasg⟩ := hok_any hK hR hz
        obtain ⟨kA, comp, r1, r2, r3, -⟩ := hty.2.1
        cases hk1.symm.trans r1
        cases hkk1.symm.trans r2
        obtain ⟨kE, hkE, -⟩ := Vm.findClass_spec r3
        obtain ⟨kC', hkC', -⟩ := hal.2.2 _ _ hkC
        obtain ⟨kE', hkE', -⟩ := hal.2.2 _ _ hkE
        refine ⟨rfl, cellV, (show T.heap[y]? = some cellV by rw [hT]; exact g1), (fun q h => by rw [h] at g2; cases g2), ⟨kC', hkC'⟩, ?_, ?_⟩
        · exact ⟨kE', hkE'⟩
        · show vm₁.assignable _ _ = true
          rw [hal.assignable]
          exact hasg _ r3)
    (g := F0 m pc ls (.int n :: .int dp :: .ref b :: .int sp :: .ref a :: rest)) rfl (by rw [hml]) (rest := rest) rfl (by rw [hb]; exact hd) hframes (by show 2 * 0 + _ + _ ≤ _; omega)
  have e1 : copied (vp_cell (D.2.2.1 4) (n0, .inr (.inr (.inr (.inr f))))) (vp_cell (D.2.2.1 4) (n1, .inr (.inr (.inr (.inr f2))))) sp dp n = vp_cell (D.2.2.1 4) (n1, .inr (.inr (.inr (.inr (va_cpy f f2 sp.toNatClampNeg dp.toNatClampNeg n.toNatClampNeg))))) := by
    rw [vp_cell_q, vp_cell_q, vp_cell_q]
    exact va_copied (fun z => va_rf z) _ _ f f2 h4
  rw [e1] at X' step
  have hl : b < H.size := (Array.getElem?_eq_some_iff.mp hc1).1
  have hheap : ((T.setVm vm').setCell b (vp_cell (D.2.2.1 4) (n1, .inr (.inr (.inr (.inr (va_cpy f f2 sp.toNatClampNeg dp.toNatClampNeg n.toNatClampNeg))))))).heap = H.setIfInBounds b (vp_cell (D.2.2.1 4) (n1, .inr (.inr (.inr (.inr (va_cpy f f2 sp.toNatClampNeg dp.toNatClampNeg n.toNatClampNeg)))))) := by rw [← hT]; rfl
  have oq : ∀ q : Nat, q ≠ b → (H.setIfInBounds b (vp_cell (D.2.2.1 4) (n1, .inr (.inr (.inr (.inr (va_cpy f f2 sp.toNatClampNeg dp.toNatClampNeg n.toNatClampNeg)))))))[q]? = H[q]? := fun q hq => by simp [Array.getElem?_setIfInBounds, Ne.symm hq]
  obtain ⟨t, a1, b1⟩ := kk _ _ (hR.set hba (show (H.setIfInBounds b _)[b]? = some _ by simp [Array.getElem?_setIfInBounds, hl]) (by simp) oq) (fun q hq => by
    obtain ⟨z, -, hz⟩ := List.mem_map.mp hq
    rw [← hz]) _ hheap X'
  exact ⟨t, step t a1, b1⟩
theorem nfw_copy : nativeFrameWords "java/lang/System" "arraycopy" 5 ≤ 20 := by decide
theorem w_copy (hx : p.tables.exec = Jvm.exec) (hb : c.code = cc) (hml : c.maxLocals = ls.size) (hts : ∀ w ∈ lw_all, w.before args s = true) {own : String} (hown : s.vm.findClass own = some m.cls) (hK : KK g D s) (hR : RH g D h H) {idx : Nat} (hA : AOK own idx) {o d : Option Nat} {sp dp n : Int32} {h' : AH} (hv : hcopy g h o sp d dp n = some h') {r : List AV} (hw : wt r ≤ 8) (hframes : 1 ≤ R.frames) (hlocals : 40 ≤ R.locals) (hd : decode cc pc = .ok (.invokestatic idx, 3))
    (kk : ∀ (H1 : Heap) (L : List Loc), RH g D h' H1 → (∀ q ∈ L, g.1.1 ≤ q.base) → h'.2 = h.2 → W p l e R s m args below meth c H1 (locs ++ L) cells slots Q (F0 m (pc + 3) ls (r.map toV))) : W p l e R s m args below meth c H locs cells slots Q (F0 m pc ls (.int n :: .int dp :: va_rf d :: .int sp :: va_rf o :: r.map toV)) := by
  have hcat := wt_cat r
  have hn := nfw_copy
  unfold hcopy at hv
  split at hv
  next a b =>
    split at hv
    next t m0 f u k f2 ha hb2 =>
      split at hv
      next hg =>
        obtain ⟨g1, rfl, g3, g4, g5, g6, g7, g8, g9⟩ := hg
        cases hv
        exact w_copyI hx hb hml hts hown hK hR hA g1 g3 ha hb2 g4 g5 g6 g7 g8 g9 hframes (by omega) hd fun H1 L w1 w2 => kk H1 L w1 (fun q hq => by rw [w2 q hq]; exact g1) rfl
      next => cases hv
    next t m0 f u k f2 ha hb2 =>
      split at hv
      next hg =>
        obtain ⟨g1, rfl, rfl, g4, g5, g6, g7, g8, g9⟩ := hg
        cases hv
        exact w_copyP hx hb hml hts hown hK hR hA g1 ha hb2 g4 g5 g6 g7 g8 g9 hframes (by omega) hd fun H1 L w1 w2 => kk H1 L w1 (fun q hq => by rw [w2 q hq]; exact g1) rfl
      next => cases hv
    next => cases hv
  next => cases hv
end SND
