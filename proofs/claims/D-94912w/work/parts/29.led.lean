/-! the class's led: it answers, or throws a NoSuchElementException -/
set_option maxRecDepth 100000
def nse : String := "java/util/NoSuchElementException"
/-- what Throwable's statics hold -/
def ZZ (g : GG) (D : GD) (U : State) : Prop := vx_Zq Bundle.tN "UNASSIGNED_STACK" Bundle.steD (fun q => g.1.1 ≤ q) U D.2.2.2 ∧ vx_Zq Bundle.tN "SUPPRESSED_SENTINEL" Bundle.listD (fun q => g.1.1 ≤ q) U D.2.2.2
theorem ZZ.warm {g : GG} {D : GD} {s U : State} (hW : s.WarmedH U.vm) (h : ZZ g D s) : ZZ g D U := ⟨h.1.moved hW.alike, h.2.moved hW.alike⟩
theorem ZZ.call {g : GG} {D : GD} {U : State} (h : ZZ g D U) (f : JFrame) (mk : MethodId) (a : Array Value) : ZZ g D (U.calling f mk a) := h.warm (State.WarmedH.refl U)
def PcX (g : GG) (D : GD) (as : List AV) (h : AH) : Array Value → State → Prop := fun v U => PcK g D as h v U ∧ ZZ g D U
theorem PcX.blind {g : GG} {D : GD} {as : List AV} {h : AH} : FrameBlind (PcX g D as h) := fun a U f mk q => ⟨PcK.blind a U f mk q.1, q.2.call _ _ _⟩
def XCL (g : GG) (D : GD) (z : AR) : String → State → State → Prop := fun E _ t => z.1 = some vU ∧ E = nse ∧ RH g D z.2 t.heap
def MetX (l : Launch) (g : GG) (D : GD) (d : Nat) (as : List AV) (h : AH) (z : AR) : Prop :=
  vx_Met l (mi 76).1 (ws_ (mi 76).1 (mi 76).2.1 (cd 76).1 (mi 76).2.2) (rmK g d h) (PcX g D as h) (QcK g D z h) (XCL g D z) (z.2.2.1 - h.2.1) (z.2.2.2 - h.2.2) (fun q => g.1.1 ≤ q)
/-- the words of the throw -/
def ledWs : List Cond := Cond.classLink "OtherTown" 360 nse :: Cond.initialized nse :: vx_at0 "OtherTown" 362 nse ["java/lang/RuntimeException", "java/lang/Exception"]
def SPl (en : Ent) : Prop := SPm (mi 76).1 (mi 76).2.2 en ∨ en = (58, .new 360, 3, [99])
theorem RH.thrown {g : GG} {D : GD} {h : AH} {H H1 : Heap} (hR : RH g D h H) (hz : H1.size = H.size + 1) (oq : ∀ q : Nat, q < H.size → H1[q]? = H[q]?) (n : Nat) : RH g D (h.1, (h.2.1 + 1, n)) H1 := by
  refine ⟨by rw [hz, hR.1], fun b f hf => ?_, fun q hq => ?_, by rw [hz]; exact Nat.le_succ_of_le hR.2.2.2⟩
  · have h1 := hR.2.1 b f hf
    exact h1.kept (oq b h1.lt)
  · rw [oq q (Nat.lt_of_lt_of_le hq hR.2.2.2)]
    exact hR.2.2.1 q hq
theorem led_met {l : Launch} (hl : l.stackTraces = false) {g : GG} {D : GD} {d : Nat} {as : List AV} {h : AH} {z : AR} (hd5 : 5 ≤ d) (hws : ∀ w ∈ ledWs, w ∈ lw_all) (hot : ledWs.all vx_ot = true) (hcd : CDOK (mi 76).1 (mi 76).2.2 (mi 76).2.1 SPl (cd 76)) (hC : CH l g D d (cal g d)) (hz : cal g (d + 1) 76 as h = some z) : MetX l g D (d + 1) as h z := by
  obtain ⟨h1, h2, hz⟩ := cal_of (by decide) hz
  refine vx_ofW (cc := (mi 76).2.1) (maxL := (cd 76).1) (ret := (mi 76).2.2) (by decide) rfl ?_
  intro p e s m args below meth c s₁ B hml hout hP
  obtain ⟨⟨rfl, hR, hK⟩, hZZ⟩ := hP
  have hts := atoms_spec (ws := ws_ (mi 76).1 (mi 76).2.1 (cd 76).1 (mi 76).2.2) B.pre
  have hts2 : ∀ w ∈ lw_all, w.before (as.map toV).toArray s = true := fun w hw => hts w (List.mem_cons_of_mem _ hw)
  obtain ⟨ls, hls, hen⟩ := entry_LH h1 h2
  rw [hen]
  obtain ⟨n, hn⟩ := evk_some.mp hz
  have hown : s.vm.findClass (mi 76).1.cls = some m.cls := findClass_of_methodNamed B.named
  refine runk_sound (d := d) (C := cal g d) (y := (mi 76).1) (ret := (mi 76).2.2) (cc := (mi 76).2.1) (nL := (cd 76).1) (h0 := h) (z := z) (D := D) (SP := SPl) ⟨B.exec, B.bytes, hml, hts2, hown, fun q => by rw [(name_of_methodNamed B.named B.method).1]; exact q, hK, hC, Nat.le_refl _, Nat.le_refl _, ?_, ?_, hR.1, hR.2.2.2, hR.2.2.1⟩ hcd ?_ n 0 (padL (cd 76).1 as) [] h hn s.heap [] 0 0 ls hR (fun q hq => by cases hq) ⟨by omega, by omega⟩ ⟨by omega, by omega⟩ hls
  · show g.1.2.1 ≤ (g.1.2.1 - h.2.1) + h.2.1; omega
  · show g.1.2.2 ≤ (g.1.2.2 - h.2.2) + h.2.2; omega
  · intro en pc h' L S K J w1 w2 w3 w4
    rcases w1 with w1 | w1
    · intro H locs cells slots ls2 a1 a2 a3 a4 a5
      exact vx_ret (ret_sound (D := D) (h0 := h) B.exec B.bytes B.returns B.notSynchronized w1 w2 w3 H locs cells slots ls2 a1 a2 a3 a4 a5)
    · obtain ⟨epc, i, n2, x⟩ := en
      cases w1
      have w3 : gst S (if h'.2.1 + 1 ≤ g.1.2.1 ∧ h'.2.2 + 6 ≤ g.1.2.2 then some (some vU, (h'.1, (h'.2.1 + 1, h'.2.2 + 6))) else (none : Option AR)) = some z := w3
      replace w3 := gst_of w3
      obtain ⟨hw, w3⟩ := w3
      split at w3
      next hlim =>
        cases w3
        intro H locs cells slots ls2 a1 a2 a3 a4 a5
        have hS := vaS_of a1 (by rw [a1.1, hR.1]; omega) hR.2.2.1 a2
        have hk9 : ∀ q : Nat, q < D.2.2.2.size → ¬ g.1.1 ≤ q → s.heap[q]? = D.2.2.2[q]? := fun q _ hq => hR.2.2.1 q (Nat.not_le.mp hq)
        refine vx_throw0 (names := ["java/lang/RuntimeException", "java/lang/Exception"]) (cls := nse) (own := "OtherTown") (ik := 360) (ic := 362) B.exec B.bytes hl hown (by decide +kernel) (by decide +kernel) (hts2 _ (hws _ (by simp [ledWs]))) (hts2 _ (hws _ (by simp [ledWs]))) (fun w hw => hts2 _ (hws _ (by simp [ledWs, hw]))) (fun w hw => List.all_eq_true.mp hot w hw) (hZZ.1.kept hk9) (hZZ.2.kept hk9) hS (by rw [hml]; exact a5.1) w2 (decB_ok (by decide +kernel)) (decB_ok (by decide +kernel)) (decB_ok (by decide +kernel)) (fun x hx => (hout x hx).elim) ?_ ?_ ?_ ?_ B.notSynchronized ?_ a2 ?_ ?_
        · show 2 + 3 < d + 1; omega
        · have hcat := wt_cat S
          show _ + (13 * (2 + 1) + 42) ≤ 60 * (d + 1)
          omega
        · show cells + 1 ≤ g.1.2.1 - h.2.1; omega
        · show slots + 6 ≤ g.1.2.2 - h.2.2; omega
        · exact fun t b1 b2 b3 => ⟨rfl, rfl, a1.thrown b2 b3 _⟩
        · show cells + 1 ≤ h'.2.1 + 1 - h.2.1; omega
        · show slots + 6 ≤ h'.2.2 + 6 - h.2.2; omega
      next => cases w3
