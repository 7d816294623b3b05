/-! SOUNDNESS, 8: one instruction that touches locals and stack alone -/
set_option maxRecDepth 100000
section SND
variable {p : Program} {l : Launch} {e : Env} {R : Room} {s : State} {m : MethodId} {args : Array Value} {below : List Frame} {meth : Method} {c : Code} {Q : State → Prop} {g : GG} {D : GD} {h0 : AH} {cc : ByteArray} {nL : Nat} {h : AH} {pc n : Nat} {L S L' S' : List AV} {x : List Nat} {i : Instr}
theorem KK.Z {C nm d : String} {v : Value} (hK : KK g D s) (hsz : g.1.1 ≤ s.heap.size) (hlow : ∀ q : Nat, q < g.1.1 → s.heap[q]? = D.2.2.2[q]?) (hZ : va_Z C nm d v (fun q => g.1.1 ≤ q) s D.2.2.2) : va_Z C nm d v (fun q => g.1.1 ≤ q) s s.heap := by
  obtain ⟨cf, kf, fi, f, a, cell, h1, h2, h3, h4, h5, h6, h7, h8⟩ := hZ
  exact ⟨cf, kf, fi, f, a, cell, h1, h2, h3, h4, by rw [hlow a (Nat.not_le.mp h8)]; exact h5, h6, h7, h8⟩
theorem vaS_of {H : Heap} {locs : List Loc} (hR : RH g D h H) (hle : s.heap.size ≤ H.size) (hlow : ∀ q : Nat, q < g.1.1 → s.heap[q]? = D.2.2.2[q]?) (hL : ∀ q ∈ locs, g.1.1 ≤ q.base) : va_S (fun q => g.1.1 ≤ q) s.heap H locs :=
  ⟨hle, fun q _ h2 => by rw [hR.2.2.1 q (Nat.not_le.mp h2), hlow q (Nat.not_le.mp h2)], hL⟩
set_option maxHeartbeats 4000000 in
theorem stepP (hx : p.tables.exec = Jvm.exec) (hb : c.code = cc) (hts : ∀ w ∈ lw_all, w.before args s = true) {y : MethodName} {ret : Option FieldType} (hown : s.vm.findClass y.cls = some m.cls) (hK : KK g D s) (h0s : s.heap.size = h0.2.1) (h0b : g.1.1 ≤ s.heap.size) (hlow : ∀ q : Nat, q < g.1.1 → s.heap[q]? = D.2.2.2[q]?)
    (hl : LNK y ret pc i x) (hn : n = ilen i) (hd : decode cc pc = .ok (i, n)) (hp : pst g i x L S = some (L', S')) (k : VV p l e R s m args below meth c Q g D h0 nL h (pc + n) L' S') : VV p l e R s m args below meth c Q g D h0 nL h pc L S := by
  subst hn
  unfold pst at hp
  split at hp
  · -- iconst
    cases hp; intro H locs cells slots ls hR hL hc hs hl'
    exact lv_iconst hx hb hd rfl (k H locs cells slots ls hR hL hc hs hl')
  · cases hp; intro H locs cells slots ls hR hL hc hs hl'
    exact lv_bipush hx hb hd hl (k H locs cells slots ls hR hL hc hs hl')
  · cases hp; intro H locs cells slots ls hR hL hc hs hl'
    exact lv_sipush hx hb hd hl (k H locs cells slots ls hR hL hc hs hl')
  · -- ldc
    split at hp
    · cases hp; intro H locs cells slots ls hR hL hc hs hl'
      exact lv_ldc hx hb hown (hts _ hl) hd (k H locs cells slots ls hR hL hc hs hl')
    · cases hp; intro H locs cells slots ls hR hL hc hs hl'
      rcases hl with ⟨tx, hl⟩ | ⟨rfl, hl⟩
      · exact va_ldcS hx hb hown (hK.2.2.2.2.2.2.2.2.1 _ hl) hd (k H locs cells slots ls hR hL hc hs hl')
      · exact va_ldcM hx hb hown (hts _ hl) hK.2.2.2.2.2.2.2.2.2.2.2.2.1 hd (k H locs cells slots ls hR hL hc hs hl')
    · cases hp
  · -- ldc_w
    split at hp
    · cases hp; intro H locs cells slots ls hR hL hc hs hl'
      rcases hl with ⟨hl, -⟩ | ⟨n, tx, hl, -⟩
      · exact lv_ldcw hx hb hown (hts _ hl) hd (k H locs cells slots ls hR hL hc hs hl')
      · cases hl
    · cases hp; intro H locs cells slots ls hR hL hc hs hl'
      rcases hl with ⟨-, hl⟩ | ⟨n, tx, hl, hl2⟩
      · exact absurd rfl hl
      · cases hl
        exact w_ldcwS hx hb hown (hK.2.2.2.2.2.2.2.2.1 _ hl2) hd (k H locs cells slots ls hR hL hc hs hl')
    · cases hp
  · -- ldc2_w
    split at hp
    · cases hp; intro H locs cells slots ls hR hL hc hs hl'
      exact lv_ldc2 hx hb hown (hts _ hl) hd (k H locs cells slots ls hR hL hc hs hl')
    · cases hp
  · -- getstatic
    split at hp
    · cases hp; intro H locs cells slots ls hR hL hc hs hl'
      obtain ⟨rfl, hl⟩ := hl
      have hle : s.heap.size ≤ H.size := by rw [hR.1, h0s]; omega
      exact va_gets hx hb (hK.Z h0b hlow hK.2.2.2.2.2.2.2.2.2.1) (vaS_of hR hle hlow hL) hown (hts _ hl) (fun _ h => h) hd (k H locs cells slots ls hR hL hc hs hl')
    · cases hp; intro H locs cells slots ls hR hL hc hs hl'
      have hle : s.heap.size ≤ H.size := by rw [hR.1, h0s]; omega
      rcases hl with ⟨rfl, hl⟩ | ⟨rfl, hl⟩
      · exact va_gets hx hb (hK.Z h0b hlow hK.2.2.2.2.2.2.2.2.2.2.1) (vaS_of hR hle hlow hL) hown (hts _ hl) (fun _ h => h) hd (k H locs cells slots ls hR hL hc hs hl')
      · exact va_gets hx hb (hK.Z h0b hlow hK.2.2.2.2.2.2.2.2.2.2.2.1) (vaS_of hR hle hlow hL) hown (hts _ hl) (fun _ h => h) hd (k H locs cells slots ls hR hL hc hs hl')
    · cases hp
  · -- aconst_null
    cases hp; intro H locs cells slots ls hR hL hc hs hl'
    exact lv_null hx hb hd (k H locs cells slots ls hR hL hc hs hl')
  · obtain ⟨v, h1, rfl, rfl⟩ := ldl_of hp
    exact vv_iload hx hb hd (Or.inr ⟨_, rfl, rfl, rfl⟩) h1 k
  · obtain ⟨v, h1, rfl, rfl⟩ := ldl_of hp
    exact vv_iload hx hb hd (Or.inl ⟨rfl, rfl⟩) h1 k
  · obtain ⟨v, h1, rfl, rfl⟩ := ldp_of hp
    exact vv_aload hx hb hd (Or.inr ⟨_, rfl, rfl, rfl⟩) h1 k
  · obtain ⟨v, h1, rfl, rfl⟩ := ldp_of hp
    exact vv_aload hx hb hd (Or.inl ⟨rfl, rfl⟩) h1 k
  · obtain ⟨v, r, rfl, h1, rfl, rfl⟩ := stl_of hp
    exact vv_istore hx hb hd (Or.inr ⟨_, rfl, rfl, rfl⟩) h1 k
  · obtain ⟨v, r, rfl, h1, rfl, rfl⟩ := stl_of hp
    exact vv_istore hx hb hd (Or.inl ⟨rfl, rfl⟩) h1 k
  · obtain ⟨v, r, rfl, h1, rfl, rfl⟩ := stp_of hp
    exact vv_astore hx hb hd (Or.inr ⟨_, rfl, rfl, rfl⟩) h1 k
  · obtain ⟨v, r, rfl, h1, rfl, rfl⟩ := stp_of hp
    exact vv_astore hx hb hd (Or.inl ⟨rfl, rfl⟩) h1 k
  · obtain ⟨a, b, r, rfl, rfl, rfl⟩ := bin_of hp
    intro H locs cells slots ls hR hL hc hs hl'
    exact lv_iadd hx hb hd (k H locs cells slots ls hR hL hc hs hl')
  · obtain ⟨a, b, r, rfl, rfl, rfl⟩ := bin_of hp
    intro H locs cells slots ls hR hL hc hs hl'
    exact lv_isub hx hb hd (k H locs cells slots ls hR hL hc hs hl')
  · obtain ⟨a, b, r, rfl, rfl, rfl⟩ := bin_of hp
    intro H locs cells slots ls hR hL hc hs hl'
    exact lv_imul hx hb hd (k H locs cells slots ls hR hL hc hs hl')
  · obtain ⟨a, b, r, rfl, rfl, rfl⟩ := bin_of hp
    intro H locs cells slots ls hR hL hc hs hl'
    exact lv_iand hx hb hd (k H locs cells slots ls hR hL hc hs hl')
  · obtain ⟨a, b, r, rfl, rfl, rfl⟩ := bin_of hp
    intro H locs cells slots ls hR hL hc hs hl'
    exact lv_ior hx hb hd (k H locs cells slots ls hR hL hc hs hl')
  · obtain ⟨a, b, r, rfl, rfl, rfl⟩ := bin_of hp
    intro H locs cells slots ls hR hL hc hs hl'
    exact lv_ishl hx hb hd (k H locs cells slots ls hR hL hc hs hl')
  · obtain ⟨a, b, r, rfl, rfl, rfl⟩ := bin_of hp
    intro H locs cells slots ls hR hL hc hs hl'
    exact lv_ishr hx hb hd (k H locs cells slots ls hR hL hc hs hl')
  · obtain ⟨a, b, r, rfl, rfl, rfl⟩ := bin_of hp
    intro H locs cells slots ls hR hL hc hs hl'
    exact lv_iushr hx hb hd rfl (k H locs cells slots ls hR hL hc hs hl')
  · obtain ⟨a, r, rfl, rfl, rfl⟩ := una_of hp
    intro H locs cells slots ls hR hL hc hs hl'
    exact lv_i2l hx hb hd rfl (k H locs cells slots ls hR hL hc hs hl')
  · obtain ⟨a, r, rfl, rfl, rfl⟩ := una_of hp
    intro H locs cells slots ls hR hL hc hs hl'
    exact lv_i2b hx hb hd rfl (k H locs cells slots ls hR hL hc hs hl')
  · obtain ⟨a, r, rfl, rfl, rfl⟩ := una_of hp
    intro H locs cells slots ls hR hL hc hs hl'
    exact lv_i2c hx hb hd rfl (k H locs cells slots ls hR hL hc hs hl')
  · split at hp
    · cases hp
      intro H locs cells slots ls hR hL hc hs hl'
      exact lv_l2i hx hb hd rfl (k H locs cells slots ls hR hL hc hs hl')
    · cases hp
  · obtain ⟨a, b, r, rfl, rfl, rfl⟩ := binJ_of hp
    intro H locs cells slots ls hR hL hc hs hl'
    exact lv_ladd hx hb hd (k H locs cells slots ls hR hL hc hs hl')
  · obtain ⟨a, b, r, rfl, rfl, rfl⟩ := binJ_of hp
    intro H locs cells slots ls hR hL hc hs hl'
    exact lv_lmul hx hb hd (k H locs cells slots ls hR hL hc hs hl')
  · obtain ⟨a, b, r, rfl, rfl, rfl⟩ := binJ_of hp
    intro H locs cells slots ls hR hL hc hs hl'
    exact W.lcmp hx hb hd (k H locs cells slots ls hR hL hc hs hl')
  · split at hp
    next v hv =>
      cases hp
      exact vv_iinc hx hb hd hv k
    · cases hp
  · split at hp
    next v r =>
      split at hp
      next h1 =>
        cases hp
        intro H locs cells slots ls hR hL hc hs hl'
        exact lv_dup hx hb hd (one_cat h1) (k H locs cells slots ls hR hL hc hs hl')
      · cases hp
    · cases hp
  · split at hp
    next v w r =>
      split at hp
      next h1 =>
        cases hp
        rw [Bool.and_eq_true] at h1
        intro H locs cells slots ls hR hL hc hs hl'
        exact lv_dup_x1 hx hb hd (one_cat h1.1) (one_cat h1.2) (k H locs cells slots ls hR hL hc hs hl')
      · cases hp
    · cases hp
  · split at hp
    next v w r =>
      split at hp
      next h1 =>
        cases hp
        rw [Bool.and_eq_true] at h1
        intro H locs cells slots ls hR hL hc hs hl'
        exact lv_dup2_11 hx hb hd (one_cat h1.1) (one_cat h1.2) (k H locs cells slots ls hR hL hc hs hl')
      · cases hp
    · cases hp
  · split at hp
    next v r =>
      split at hp
      next h1 =>
        cases hp
        intro H locs cells slots ls hR hL hc hs hl'
        exact lv_pop hx hb hd (one_cat h1) (k H locs cells slots ls hR hL hc hs hl')
      · cases hp
    · cases hp
  · cases hp
end SND
