/-! SOUNDNESS, 10: one instruction that reads or changes the heap, calls, jumps -/
set_option maxRecDepth 100000
def isRet (i : Instr) : Bool :=
  match i with
  | .ireturn => true
  | .areturn => true
  | .return_ => true
  | .athrow => true
  | _ => false
def isSw (i : Instr) : Bool :=
  match i with
  | .tableswitch _ _ _ _ => true
  | .lookupswitch _ _ => true
  | _ => false
/-- what the calls of a method keep -/
def CH (l : Launch) (g : GG) (D : GD) (d : Nat) (C : Nat → List AV → AH → Option AR) : Prop := ∀ k, gk k → ∀ as h z, C k as h = some z → CKOK (mi k) (cd k).1 ∧ MetK l g D d (mi k) (cd k).1 as h z
theorem mm_max : Cond.static Lib.Math.max.name ∈ lw_all ∧ Cond.initialized "java/lang/Math" ∈ lw_all ∧ Cond.code Lib.Math.max.name Lib.Math.max.code 2 (some .int) ∈ lw_all := ⟨lw_g (lw_at lw_m2 77 rfl) rfl, lw_g (lw_at lw_m1 15 rfl) rfl, lw_g (lw_at lw_m2 78 rfl) rfl⟩
theorem mm_min : Cond.static Lib.Math.min.name ∈ lw_all ∧ Cond.code Lib.Math.min.name Lib.Math.min.code 2 (some .int) ∈ lw_all := ⟨lw_g (lw_at lw_m2 95 rfl) rfl, lw_g (lw_at lw_m2 96 rfl) rfl⟩
section SND
variable {p : Program} {l : Launch} {e : Env} {R : Room} {s : State} {m : MethodId} {args : Array Value} {below : List Frame} {meth : Method} {c : Code} {Q : State → Prop} {g : GG} {D : GD} {h0 : AH} {cc : ByteArray} {nL : Nat} {h : AH} {pc n d : Nat} {L S : List AV} {x : List Nat} {i : Instr} {C : Nat → List AV → AH → Option AR} {K : List AV → AH → Option AR} {J : Nat → List AV → Option AR} {z : AR}
/-- a call, whatever its form -/
theorem w_callK (hml : c.maxLocals = nL) (hK : KK g D s) (hts : ∀ w ∈ lw_all, w.before args s = true) (hC : CH l g D d C) (hfr : d + 1 ≤ R.frames) (hlo : 60 * (d + 1) ≤ R.locals) (hce : g.1.2.1 ≤ R.cells + h0.2.1) (hsl : g.1.2.2 ≤ R.slots + h0.2.2)
    {k ret : Nat} (hk : gk k) {as r : List AV} {gs : List Value} (hz : kres ret (C k as h) r K = some z) (hp : ∀ (H : Heap) (ls : Array Slot), RH g D h H → ls.size = nL → CKOK (mi k) (cd k).1 → Prim p l e R s m args below meth c H (mi k).1 (F0 m pc ls gs) (r.map toV) (as.map toV).toArray)
    (hKk : ∀ S' h', K S' h' = some z → VV p l e R s m args below meth c Q g D h0 nL h' (pc + 3) L S') :
    ∀ (H : Heap) (locs : List Loc) (cells slots : Nat) (ls : Array Slot), RH g D h H → (∀ q ∈ locs, g.1.1 ≤ q.base) → (cells + h0.2.1 = h.2.1 ∧ h.2.1 ≤ max h0.2.1 g.1.2.1) → (slots + h0.2.2 = h.2.2 ∧ h.2.2 ≤ max h0.2.2 g.1.2.2) → LH ls nL L → W p l e R s m args below meth c H locs cells slots Q (F0 m pc ls gs) := by
  intro H locs cells slots ls hR hL hc hs hl'
  obtain ⟨w, hw, S', hS', hst⟩ := kres_of hz
  obtain ⟨hck, hM⟩ := hC k hk _ _ _ hw
  refine w_call hK hts hR (hp H ls hR hl'.1 hck) hM hck.1 hck.2.1 hfr hlo hck.2.2.2 (by omega) (by omega) fun H1 L1 w1 w2 w3 w4 => ?_
  rw [← hst]
  exact hKk S' w.2 hS' H1 (locs ++ L1) _ _ ls w1 (fun q hq => (List.mem_append.mp hq).elim (hL q) (w2 q)) ⟨by omega, by omega⟩ ⟨by omega, by omega⟩ hl'
set_option maxHeartbeats 8000000 in
theorem stepH (hx : p.tables.exec = Jvm.exec) (hb : c.code = cc) (hml : c.maxLocals = nL) (hts : ∀ w ∈ lw_all, w.before args s = true) {y : MethodName} {ret : Option FieldType} (hown : s.vm.findClass y.cls = some m.cls) (hini : y.name = "<init>" → meth.name = "<init>") (hK : KK g D s)
    (hC : CH l g D d C) (hfr : d + 1 ≤ R.frames) (hlo : 60 * (d + 1) ≤ R.locals) (hce : g.1.2.1 ≤ R.cells + h0.2.1) (hsl : g.1.2.2 ≤ R.slots + h0.2.2)
    (hl : LNK y ret pc i x) (hn : n = ilen i ∨ isSw i = true) (hd : decode cc pc = .ok (i, n)) (hr : isRet i = true → VV p l e R s m args below meth c Q g D h0 nL h pc L S) (hz : hst g C i x S h K J = some z)
    (hKk : ∀ S' h', K S' h' = some z → VV p l e R s m args below meth c Q g D h0 nL h' (pc + n) L S') (hJ : ∀ t S', J t S' = some z → VV p l e R s m args below meth c Q g D h0 nL h t L S') : VV p l e R s m args below meth c Q g D h0 nL h pc L S := by
  have e3 : ∀ {o : Option Nat}, toV (.inr (.inl o)) = va_rf o := fun {o} => rfl
  unfold hst at hz
  split at hz
  · -- idiv
    obtain rfl := hn.resolve_right (by decide)
    split at hz
    next b a r =>
      split at hz
      · cases hz
      next h0 => intro H locs cells slots ls hR hL hc hs hl'; exact lv_idiv hx hb hd h0 (hKk _ _ hz H locs cells slots ls hR hL hc hs hl')
    · cases hz
  · -- irem
    obtain rfl := hn.resolve_right (by decide)
    split at hz
    next b a r =>
      split at hz
      · cases hz
      next h0 => intro H locs cells slots ls hR hL hc hs hl'; exact lv_irem hx hb hd h0 (hKk _ _ hz H locs cells slots ls hR hL hc hs hl')
    · cases hz
  · -- lrem
    obtain rfl := hn.resolve_right (by decide)
    split at hz
    next b a r =>
      split at hz
      · cases hz
      next h0 => intro H locs cells slots ls hR hL hc hs hl'; exact lv_lrem hx hb hd h0 (hKk _ _ hz H locs cells slots ls hR hL hc hs hl')
    · cases hz
  · -- getfield
    obtain rfl := hn.resolve_right (by simp [isSw])
    split at hz
    next k cs o r =>
      replace hz := Option.bind_eq_some_iff.mp hz
      obtain ⟨v, hv, hz⟩ := hz
      obtain ⟨a, ci, fs, rfl, g1, g2, g3⟩ := hgetI_of hv
      intro H locs cells slots ls hR hL hc hs hl'
      exact w_get hx hb hts hown hK hR hl g1 g2 g3 hd (hKk _ _ hz H locs cells slots ls hR hL hc hs hl')
    next k cs o r =>
      replace hz := Option.bind_eq_some_iff.mp hz
      obtain ⟨v, hv, hz⟩ := hz
      obtain ⟨a, ci, fs, rfl, g1, g2, g3⟩ := hgetP_of hv
      intro H locs cells slots ls hR hL hc hs hl'
      exact w_get hx hb hts hown hK hR hl g1 g2 g3 hd (hKk _ _ hz H locs cells slots ls hR hL hc hs hl')
    · cases hz
  · -- putfield
    obtain rfl := hn.resolve_right (by simp [isSw])
    have put : ∀ {ty k : Nat} {cs : List Nat} {v : AV} {o : Option Nat} {r : List AV} {h' : AH}, x = ty :: k :: cs → S = v :: .inr (.inl o) :: r → vOK ty v → hput g h o k cs v = some h' → K r h' = some z → VV p l e R s m args below meth c Q g D h0 nL h pc L S := by
      intro ty k cs v o r h' ex eS hvo hv hz
      subst ex; subst eS
      obtain ⟨a, ci, fs, rfl, g1, g2, g3, g4, rfl⟩ := hput_of hv
      intro H locs cells slots ls hR hL hc hs hl'
      refine w_put hx hb hts hown (fun q => hini (of_decide_eq_true q)) hK hR hl g1 g2 g3 g4 hvo hd fun H1 L1 w1 w2 => ?_
      exact hKk _ _ hz H1 (locs ++ L1) cells slots ls w1 (fun q hq => (List.mem_append.mp hq).elim (hL q) (fun hq => by rw [w2 q hq]; exact g2)) hc hs hl'
    split at hz
    next k cs v o r =>
      obtain ⟨h', hv, hz⟩ := Option.bind_eq_some_iff.mp hz
      exact put rfl rfl trivial hv hz
    next k cs v o r =>
      obtain ⟨h', hv, hz⟩ := Option.bind_eq_some_iff.mp hz
      exact put rfl rfl trivial hv hz
    next k cs v o r =>
      obtain ⟨h', hv, hz⟩ := Option.bind_eq_some_iff.mp hz
      unfold hputZ at hv
      split at hv
      next h2 => exact put rfl rfl h2 hv hz
      · cases hv
    next k cs v o r =>
      obtain ⟨h', hv, hz⟩ := Option.bind_eq_some_iff.mp hz
      unfold hputB at hv
      split at hv
      next h2 => exact put rfl rfl h2 hv hz
      · cases hv
    · cases hz
  · -- iaload
    obtain rfl := hn.resolve_right (by decide)
    split at hz
    next j o r =>
      replace hz := Option.bind_eq_some_iff.mp hz
      obtain ⟨v, hv, hz⟩ := hz
      obtain ⟨a, t, n, f, rfl, g1, g2, g3, rfl⟩ := haldI_of hv
      obtain rfl := List.mem_singleton.mp g2
      intro H locs cells slots ls hR hL hc hs hl'
      exact w_aldI hx hb hK hR g1 g3 hd (hKk _ _ hz H locs cells slots ls hR hL hc hs hl')
    · cases hz
  · -- baload
    obtain rfl := hn.resolve_right (by decide)
    split at hz
    next j o r =>
      replace hz := Option.bind_eq_some_iff.mp hz
      obtain ⟨v, hv, hz⟩ := hz
      obtain ⟨a, t, n, f, rfl, g1, g2, g3, rfl⟩ := haldI_of hv
      intro H locs cells slots ls hR hL hc hs hl'
      exact w_aldB hx hb hK hR (by simpa using g2) g1 g3 hd (hKk _ _ hz H locs cells slots ls hR hL hc hs hl')
    · cases hz
  · -- laload
    obtain rfl := hn.resolve_right (by decide)
    split at hz
    next j o r =>
      replace hz := Option.bind_eq_some_iff.mp hz
      obtain ⟨v, hv, hz⟩ := hz
      obtain ⟨a, n, f, rfl, g1, g3, rfl⟩ := haldJ_of hv
      intro H locs cells slots ls hR hL hc hs hl'
      exact w_aldJ hx hb hK hR g1 g3 hd (hKk _ _ hz H locs cells slots ls hR hL hc hs hl')
    · cases hz
  · -- aaload
    obtain rfl := hn.resolve_right (by decide)
    split at hz
    next j o r =>
      replace hz := Option.bind_eq_some_iff.mp hz
      obtain ⟨v, hv, hz⟩ := hz
      obtain ⟨a, n, f, rfl, g1, g3, rfl⟩ := haldP_of hv
      intro H locs cells slots ls hR hL hc hs hl'
      exact w_aldP hx hb hK hR g1 g3 hd (hKk _ _ hz H locs cells slots ls hR hL hc hs hl')
    · cases hz
  · -- iastore
    obtain rfl := hn.resolve_right (by decide)
    split at hz
    next v j o r =>
      obtain ⟨h', hv, hz⟩ := Option.bind_eq_some_iff.mp hz
      obtain ⟨a, t, n, f, rfl, g1, g2, g3, g4, g5, rfl⟩ := hastI_of hv
      obtain rfl := List.mem_singleton.mp g3
      intro H locs cells slots ls hR hL hc hs hl'
      exact w_astI hx hb hK hR g1 g2 g4 hd fun H1 L1 w1 w2 => hKk _ _ hz H1 (locs ++ L1) cells slots ls w1 (fun q hq => (List.mem_append.mp hq).elim (hL q) (fun hq => by rw [w2 q hq]; exact g2)) hc hs hl'
    · cases hz
  · -- bastore
    obtain rfl := hn.resolve_right (by decide)
    split at hz
    next v j o r =>
      obtain ⟨h', hv, hz⟩ := Option.bind_eq_some_iff.mp hz
      obtain ⟨a, t, n, f, rfl, g1, g2, g3, g4, g5, rfl⟩ := hastI_of hv
      intro H locs cells slots ls hR hL hc hs hl'
      exact w_astB hx hb hK hR (by simpa using g3) g1 g2 g4 g5 hd fun H1 L1 w1 w2 => hKk _ _ hz H1 (locs ++ L1) cells slots ls w1 (fun q hq => (List.mem_append.mp hq).elim (hL q) (fun hq => by rw [w2 q hq]; exact g2)) hc hs hl'
    · cases hz
  · -- aastore
    obtain rfl := hn.resolve_right (by decide)
    split at hz
    next v j o r =>
      obtain ⟨h', hv, hz⟩ := Option.bind_eq_some_iff.mp hz
      obtain ⟨a, n, f, rfl, g1, g2, g4, g5, rfl⟩ := hastP_of hv
      intro H locs cells slots ls hR hL hc hs hl'
      exact w_astP hx hb hK hR g1 g2 g4 g5 hd fun H1 L1 w1 w2 => hKk _ _ hz H1 (locs ++ L1) cells slots ls w1 (fun q hq => (List.mem_append.mp hq).elim (hL q) (fun hq => by rw [w2 q hq]; exact g2)) hc hs hl'
    · cases hz
  · -- arraylength
    obtain rfl := hn.resolve_right (by decide)
    split at hz
    next o r =>
      replace hz := Option.bind_eq_some_iff.mp hz
      obtain ⟨v, hv, hz⟩ := hz
      obtain ⟨a, t, n, f, rfl, g1, g2, rfl⟩ := hlen_of hv
      intro H locs cells slots ls hR hL hc hs hl'
      exact w_alen hx hb hK hR g1 g2 hd (hKk _ _ hz H locs cells slots ls hR hL hc hs hl')
    · cases hz
  · -- new
    obtain rfl := hn.resolve_right (by simp [isSw])
    split at hz
    next cs =>
      obtain ⟨q, hq, -⟩ := hl
      cases hq
    next ci cs =>
      obtain ⟨h', hv, hz⟩ := Option.bind_eq_some_iff.mp hz
      obtain ⟨g1, g2, rfl⟩ := hnew_of hv
      intro H locs cells slots ls hR hL hc hs hl'
      exact w_new hx hb hts hown hK hR hl (by omega) (by omega) hd fun H1 w1 => hKk _ _ hz H1 locs _ _ ls w1 hL ⟨by show _ = h.2.1 + 1; omega, by show h.2.1 + 1 ≤ _; omega⟩ ⟨by show _ = h.2.2 + _; omega, by show h.2.2 + _ ≤ _; omega⟩ hl'
    · cases hz
  · -- newarray
    obtain rfl := hn.resolve_right (by simp [isSw])
    split at hz
    next t ts n r =>
      obtain ⟨h', hv, hz⟩ := Option.bind_eq_some_iff.mp hz
      obtain ⟨g1, g2, g3, g4, rfl⟩ := hnewA_of hv
      obtain ⟨hl1, hl2⟩ := hl
      intro H locs cells slots ls hR hL hc hs hl'
      exact w_newA hx hb hK hR hl1 (hts _ hl2) g1 g2 (by omega) (by omega) hd fun H1 w1 => hKk _ _ hz H1 locs _ _ ls w1 hL ⟨by show _ = h.2.1 + 1; omega, by show h.2.1 + 1 ≤ _; omega⟩ ⟨by show _ = h.2.2 + _; omega, by show h.2.2 + _ ≤ _; omega⟩ hl'
    · cases hz
  · -- anewarray
    obtain rfl := hn.resolve_right (by simp [isSw])
    split at hz
    next n r =>
      obtain ⟨h', hv, hz⟩ := Option.bind_eq_some_iff.mp hz
      obtain ⟨g1, g2, g3, g4, rfl⟩ := hnewA_of hv
      intro H locs cells slots ls hR hL hc hs hl'
      exact w_newP hx hb hts hown hK hR hl g1 g2 (by omega) (by omega) hd fun H1 w1 => hKk _ _ hz H1 locs _ _ ls w1 hL ⟨by show _ = h.2.1 + 1; omega, by show h.2.1 + 1 ≤ _; omega⟩ ⟨by show _ = h.2.2 + _; omega, by show h.2.2 + _ ≤ _; omega⟩ hl'
    · cases hz
  · -- checkcast
    obtain rfl := hn.resolve_right (by simp [isSw])
    split at hz
    next o r =>
      replace hz := Option.bind_eq_some_iff.mp hz
      obtain ⟨v, hv, hz⟩ := hz
      intro H locs cells slots ls hR hL hc hs hl'
      exact w_cast hx hb hts hown hK hR hl hv hd (hKk _ _ hz H locs cells slots ls hR hL hc hs hl')
    · cases hz
  · -- instanceof
    obtain rfl := hn.resolve_right (by simp [isSw])
    split at hz
    next k cs o r =>
      replace hz := Option.bind_eq_some_iff.mp hz
      obtain ⟨v, hv, hz⟩ := hz
      intro H locs cells slots ls hR hL hc hs hl'
      exact w_inst hx hb hts hown hK hR hl hv hd (hKk _ _ hz H locs cells slots ls hR hL hc hs hl')
    · cases hz
  · -- invokestatic
    obtain rfl := hn.resolve_right (by simp [isSw])
    split at hz
    next xs =>
      split at hz
      next n dp d' sp o r =>
        replace hz := gst_of hz
        obtain ⟨hw, hz⟩ := hz
        obtain ⟨h', hv, hz⟩ := Option.bind_eq_some_iff.mp hz
        intro H locs cells slots ls hR hL hc hs hl'
        refine w_copy hx hb (hml.trans hl'.1.symm) hts hown hK hR hl hv hw (by omega) (by omega) hd fun H1 L1 w1 w2 w3 => ?_
        exact hKk _ _ hz H1 (locs ++ L1) cells slots ls w1 (fun q hq => (List.mem_append.mp hq).elim (hL q) (w2 q)) (by rw [w3]; exact hc) (by rw [w3]; exact hs) hl'
      · cases hz
    next xs =>
      split at hz
      next b a r =>
        replace hz := gst_of hz
        obtain ⟨hw, hz⟩ := hz
        have hcat := wt_cat r
        intro H locs cells slots ls hR hL hc hs hl'
        exact va_mmax hx hb (hml.trans hl'.1.symm) hown (hts _ hl) (hts _ mm_max.1) (hts _ mm_max.2.1) (hts _ mm_max.2.2) (by omega) (by omega) (by omega) (by omega) hd (hKk _ _ hz H locs cells slots ls hR hL hc hs hl')
      · cases hz
    next xs =>
      split at hz
      next b a r =>
        replace hz := gst_of hz
        obtain ⟨hw, hz⟩ := hz
        have hcat := wt_cat r
        intro H locs cells slots ls hR hL hc hs hl'
        exact va_mmin hx hb (hml.trans hl'.1.symm) hown (hts _ hl) (hts _ mm_min.1) (hts _ mm_max.2.1) (hts _ mm_min.2) (by omega) (by omega) (by omega) (by omega) hd (hKk _ _ hz H locs cells slots ls hR hL hc hs hl')
      · cases hz
    next n ret k xs =>
      split at hz
      next as r hpop =>
        replace hz := gst_of hz
        obtain ⟨hw, hz⟩ := hz
        obtain ⟨rfl, hlen⟩ := popN_0 hpop
        exact w_callK hml hK hts hC hfr hlo hce hsl hl.1 hz (fun H ls hR hls hck => prim_S hx hb (hml.trans hls.symm) hts hK hown hck hl.2 hlen hw hd) hKk
      · cases hz
    · cases hz
  · -- invokespecial
    obtain rfl := hn.resolve_right (by simp [isSw])
    split at hz
    next n ret k cs =>
      split at hz
      next as o r hpop =>
        replace hz := gst_of hz
        obtain ⟨hw, hz⟩ := hz
        obtain ⟨rfl, hlen⟩ := popN_0 hpop
        replace hz := Option.bind_eq_some_iff.mp hz
        obtain ⟨a, hv, hz⟩ := hz
        obtain ⟨ci, fs, rfl, g1, g2⟩ := hcls_of hv
        exact w_callK hml hK hts hC hfr hlo hce hsl hl.1 hz (fun H ls hR hls hck => prim_P hx hb (hml.trans hls.symm) hts hK hR hown hck hl.2 hlen hw hd g1) hKk
      · cases hz
    next xs =>
      split at hz
      next o r =>
        replace hz := gst_of hz
        obtain ⟨hw, hz⟩ := hz
        replace hz := Option.bind_eq_some_iff.mp hz
        obtain ⟨a, hv, hz⟩ := hz
        cases hv
        have hcat := wt_cat r
        intro H locs cells slots ls hR hL hc hs hl'
        exact W.objInit hx hb hown (hts _ hl.1) (hts _ hl.2.1) (hts _ hl.2.2) (g := F0 m pc ls _) rfl (by show ls.size = _; rw [hml]; exact hl'.1) (a := a) (rest := r.map toV) rfl hd (by omega) (by show 2 * 0 + _ + 12 ≤ _; omega) (hKk _ _ hz H locs cells slots ls hR hL hc hs hl')
      · cases hz
    · cases hz
  · -- invokevirtual
    obtain rfl := hn.resolve_right (by simp [isSw])
    split at hz
    next n ret k cs =>
      split at hz
      next as o r hpop =>
        replace hz := gst_of hz
        obtain ⟨hw, hz⟩ := hz
        obtain ⟨rfl, hlen⟩ := popN_0 hpop
        replace hz := Option.bind_eq_some_iff.mp hz
        obtain ⟨a, hv, hz⟩ := hz
        obtain ⟨ci, fs, rfl, g1, g2⟩ := hcls_of hv
        exact w_callK hml hK hts hC hfr hlo hce hsl hl.1 hz (fun H ls hR hls hck => prim_V hx hb (hml.trans hls.symm) hts hK hR hown hck g1 (hl.2 ci g2) hlen hw hd) hKk
      · cases hz
    next n xs =>
      split at hz
      next o r =>
        replace hz := gst_of hz
        obtain ⟨hw, hz⟩ := hz
        replace hz := Option.bind_eq_some_iff.mp hz
        obtain ⟨a, hv, hz⟩ := hz
        obtain ⟨b, y, rfl, g1⟩ := hisA_of hv
        obtain ⟨rfl, l1, l2, l3, l4⟩ := hl
        have hcat := wt_cat r
        intro H locs cells slots ls hR hL hc hs hl'
        refine va_getC (a := b) hx hb (hml.trans hl'.1.symm) hown (hts _ l1) (va_Dc.use hK.2.2.2.2.2.2.2.2.2.2.2.2.2.1) (hts _ l2) (hts _ l3) (hts _ l4) hK.2.2.2.2.2.2.2.2.2.2.2.2.1 ?_ (by omega) (by omega) hd (hKk _ _ hz H locs cells slots ls hR hL hc hs hl')
        refine ⟨_, hR.2.1 b _ g1, ?_, ?_⟩
        · obtain ⟨n, y⟩ := y
          rcases y with y | y | y | y | y <;> rfl
        · have h5 := (hK.2.1 4 _ rfl).2.2
          rw [(by decide +kernel : "[" ++ (FieldType.object "java/lang/Object").toString = "[Ljava/lang/Object;")] at h5
          rw [h5]
          obtain ⟨n, y⟩ := y
          rcases y with y | y | y | y | y <;> rfl
      · cases hz
    next n ret ps =>
      split at hz
      next as o r hpop =>
        replace hz := gst_of hz
        obtain ⟨hw, hz⟩ := hz
        obtain ⟨rfl, hlen⟩ := popN_0 hpop
        replace hz := Option.bind_eq_some_iff.mp hz
        obtain ⟨a, hv, hz⟩ := hz
        obtain ⟨ci, fs, rfl, g1, g2⟩ := hdis_of hv
        exact w_callK hml hK hts hC hfr hlo hce hsl (hl _ g2).1 hz (fun H ls hR hls hck => prim_V hx hb (hml.trans hls.symm) hts hK hR hown hck g1 (hl _ g2).2 hlen hw hd) hKk
      · cases hz
    · cases hz
  · -- ifCond
    obtain rfl := hn.resolve_right (by simp [isSw])
    split at hz
    next t nx xs a r =>
      obtain ⟨hl, rfl⟩ := hl
      intro H locs cells slots ls hR hL hc hs hl'
      have A : J t r = some z → _ := fun q => hJ _ _ q H locs cells slots ls hR hL hc hs hl'
      have B : J (pc + 3) r = some z → _ := fun q => hJ _ _ q H locs cells slots ls hR hL hc hs hl'
      split at hz
      · exact lv_if_eq hx hb hd hl (fun q => A ((if_pos q).symm.trans hz)) (fun q => B ((if_neg q).symm.trans hz))
      · exact lv_if_ne hx hb hd hl (fun q => A ((if_pos q).symm.trans hz)) (fun q => B ((if_neg (fun w => w q)).symm.trans hz))
      · exact lv_if_lt hx hb hd hl (fun q => A ((if_pos q).symm.trans hz)) (fun q => B ((if_neg q).symm.trans hz))
      · exact lv_if_ge hx hb hd hl (fun q => A ((if_pos q).symm.trans hz)) (fun q => B ((if_neg q).symm.trans hz))
      · exact lv_if_gt hx hb hd hl (fun q => A ((if_pos q).symm.trans hz)) (fun q => B ((if_neg q).symm.trans hz))
      · exact lv_if_le hx hb hd hl (fun q => A ((if_pos q).symm.trans hz)) (fun q => B ((if_neg q).symm.trans hz))
    · cases hz
  · -- if_icmp
    obtain rfl := hn.resolve_right (by simp [isSw])
    split at hz
    next t nx xs b a r =>
      obtain ⟨hl, rfl⟩ := hl
      intro H locs cells slots ls hR hL hc hs hl'
      have A : J t r = some z → _ := fun q => hJ _ _ q H locs cells slots ls hR hL hc hs hl'
      have B : J (pc + 3) r = some z → _ := fun q => hJ _ _ q H locs cells slots ls hR hL hc hs hl'
      split at hz
      · exact lv_icmp_eq hx hb hd hl (fun q => A ((if_pos q).symm.trans hz)) (fun q => B ((if_neg q).symm.trans hz))
      · exact lv_icmp_ne hx hb hd hl (fun q => A ((if_pos q).symm.trans hz)) (fun q => B ((if_neg (fun w => w q)).symm.trans hz))
      · exact lv_icmp_lt hx hb hd hl (fun q => A ((if_pos q).symm.trans hz)) (fun q => B ((if_neg q).symm.trans hz))
      · exact lv_icmp_ge hx hb hd hl (fun q => A ((if_pos q).symm.trans hz)) (fun q => B ((if_neg q).symm.trans hz))
      · exact lv_icmp_gt hx hb hd hl (fun q => A ((if_pos q).symm.trans hz)) (fun q => B ((if_neg q).symm.trans hz))
      · exact lv_icmp_le hx hb hd hl (fun q => A ((if_pos q).symm.trans hz)) (fun q => B ((if_neg q).symm.trans hz))
    · cases hz
  · -- if_acmp
    obtain rfl := hn.resolve_right (by simp [isSw])
    split at hz
    next t nx xs b a r =>
      obtain ⟨hl, rfl⟩ := hl
      intro H locs cells slots ls hR hL hc hs hl'
      have A : J t r = some z → _ := fun q => hJ _ _ q H locs cells slots ls hR hL hc hs hl'
      have B : J (pc + 3) r = some z → _ := fun q => hJ _ _ q H locs cells slots ls hR hL hc hs hl'
      split at hz
      · exact lv_acmp_eq (rx := a) (ry := b) hx hb hd hl (fun q => A ((if_pos q).symm.trans hz)) (fun q => B ((if_neg q).symm.trans hz))
      · exact lv_acmp_ne (rx := a) (ry := b) hx hb hd hl (fun q => A ((if_pos q).symm.trans hz)) (fun q => B ((if_neg (fun w => w q)).symm.trans hz))
    · cases hz
  · -- ifnull
    obtain rfl := hn.resolve_right (by simp [isSw])
    split at hz
    next t nx xs a r =>
      obtain ⟨hl, rfl⟩ := hl
      intro H locs cells slots ls hR hL hc hs hl'
      cases a with
      | none => exact lv_ifnullN hx hb hd hl (hJ _ _ ((if_pos rfl).symm.trans hz) H locs cells slots ls hR hL hc hs hl')
      | some a => exact lv_ifnull (x := a) hx hb hd (hJ _ _ ((if_neg (by simp)).symm.trans hz) H locs cells slots ls hR hL hc hs hl')
    · cases hz
  · -- ifnonnull
    obtain rfl := hn.resolve_right (by simp [isSw])
    split at hz
    next t nx xs a r =>
      obtain ⟨hl, rfl⟩ := hl
      intro H locs cells slots ls hR hL hc hs hl'
      cases a with
      | none => exact lv_ifnonnullN hx hb hd (hJ _ _ ((if_pos rfl).symm.trans hz) H locs cells slots ls hR hL hc hs hl')
      | some a => exact lv_ifnonnull (x := a) hx hb hd hl (hJ _ _ ((if_neg (by simp)).symm.trans hz) H locs cells slots ls hR hL hc hs hl')
    · cases hz
  · -- goto
    obtain rfl := hn.resolve_right (by simp [isSw])
    split at hz
    next t xs =>
      intro H locs cells slots ls hR hL hc hs hl'
      exact lv_goto hx hb hd hl (hJ _ _ hz H locs cells slots ls hR hL hc hs hl')
    · cases hz
  · -- tableswitch
    rename_i df lo hi offs
    split at hz
    next dd ts a r =>
      obtain ⟨l1, l2, l3, l4, l5⟩ := hl
      intro H locs cells slots ls hR hL hc hs hl'
      have hlen : offs.size = ts.length := by
        have := congrArg List.length l2
        simpa using this.symm
      rcases swT_of ts lo hz with ⟨j, t, h1, h2, h3⟩ | ⟨h1, h2⟩
      · have hj : j < ts.length := (List.getElem?_eq_some_iff.mp h1).1
        have ht : a.toInt = lo + j := by
          rw [h2]
          exact Int32.toInt_ofInt_of_le (by omega) (by omega)
        have h4 : (ts.map Int.ofNat)[j]? = some (Int.ofNat t) := by rw [List.getElem?_map, h1]; rfl
        rw [l2, List.getElem?_map] at h4
        obtain ⟨off, h5, h6⟩ := Option.map_eq_some_iff.mp h4
        refine lv_tableIn (off := off) (tgt := t) hx hb hd (by omega) (by omega) ?_ h6 (hJ _ _ h3 H locs cells slots ls hR hL hc hs hl')
        rw [ht, (by omega : (lo + (j : Int) - lo).toNat = j)]
        rw [← Array.getElem?_toList]
        exact h5
      · refine lv_tableOut (tgt := dd) hx hb hd ?_ l1 (hJ _ _ h2 H locs cells slots ls hR hL hc hs hl')
        rcases Int.lt_or_le a.toInt lo with q | q
        · exact Or.inl q
        · rcases Int.lt_or_le hi a.toInt with q2 | q2
          · exact Or.inr q2
          · refine absurd ?_ (h1 (a.toInt - lo).toNat (by omega))
            rw [(by omega : lo + ((a.toInt - lo).toNat : Int) = a.toInt), Int32.ofInt_toInt]
    · cases hz
  · -- lookupswitch
    rename_i df ps
    split at hz
    next dd ts a r =>
      obtain ⟨l1, l2, l3, l4⟩ := hl
      intro H locs cells slots ls hR hL hc hs hl'
      obtain ⟨t, h1, h2⟩ := swL_of l1 _ _ l2 l4 hz
      exact lv_lookup hx hb hd l3 rfl h2 (hJ _ _ h1 H locs cells slots ls hR hL hc hs hl')
    · cases hz
  · exact hr rfl
  · exact hr rfl
  · exact hr rfl
  · exact hr rfl
  · cases hz
end SND
