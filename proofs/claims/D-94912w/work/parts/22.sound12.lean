/-! SOUNDNESS, 11: blocks, a method's run, its contract -/
set_option maxRecDepth 100000
/-- instructions behind which the block doesn't go on -/
def noK (i : Instr) : Bool :=
  match i with
  | .ifCond _ _ => true
  | .if_icmp _ _ => true
  | .if_acmp _ _ => true
  | .ifnull _ => true
  | .ifnonnull _ => true
  | .goto _ => true
  | .tableswitch _ _ _ _ => true
  | .lookupswitch _ _ => true
  | .ireturn => true
  | .areturn => true
  | .return_ => true
  | .athrow => true
  | _ => false
/-- instructions that pst leaves alone -/
def isX (i : Instr) : Bool :=
  match i with
  | .ireturn => true
  | .areturn => true
  | .return_ => true
  | .athrow => true
  | .invokestatic _ => true
  | .invokespecial _ => true
  | .new _ => true
  | _ => false
theorem hst_noK {g : GG} {C : Nat → List AV → AH → Option AR} {i : Instr} {x : List Nat} {S : List AV} {h : AH} {J : Nat → List AV → Option AR} (K K' : List AV → AH → Option AR) (hi : noK i = true) : hst g C i x S h K J = hst g C i x S h K' J := by
  unfold noK at hi
  split at hi
  · rfl
  · rfl
  · rfl
  · rfl
  · rfl
  · rfl
  · rfl
  · rfl
  · rfl
  · rfl
  · rfl
  · rfl
  · cases hi
theorem pst_noK {g : GG} {i : Instr} {x : List Nat} {L S : List AV} (hi : noK i = true) : pst g i x L S = none := by
  unfold noK at hi
  split at hi
  · rfl
  · rfl
  · rfl
  · rfl
  · rfl
  · rfl
  · rfl
  · rfl
  · rfl
  · rfl
  · rfl
  · rfl
  · cases hi
theorem pst_isX {g : GG} {i : Instr} {x : List Nat} {L S : List AV} (hi : isX i = true) : pst g i x L S = none := by
  unfold isX at hi
  split at hi
  · rfl
  · rfl
  · rfl
  · rfl
  · rfl
  · rfl
  · rfl
  · cases hi
theorem pst_isSw {g : GG} {i : Instr} {x : List Nat} {L S : List AV} (hi : isSw i = true) : pst g i x L S = none := by
  unfold isSw at hi
  split at hi
  · rfl
  · rfl
  · cases hi
/-- a block's instructions stand in the code one behind the other, each linked as it says; SP: those that are told of elsewhere -/
def chainOK (y : MethodName) (ret : Option FieldType) (cc : ByteArray) (SP : Ent → Prop) : Nat → List Ent → Nat → Prop
  | pc, [], nx => pc = nx
  | pc, e :: r, nx => decode cc pc = .ok (e.2.1, e.2.2.1) ∧ ((LNK y ret pc e.2.1 e.2.2.2 ∧ isRet e.2.1 = false ∧ (e.2.2.1 = ilen e.2.1 ∨ isSw e.2.1 = true)) ∨ (SP (pc, e.2) ∧ isX e.2.1 = true)) ∧ ((noK e.2.1 = true ∧ r = []) ∨ chainOK y ret cc SP (pc + e.2.2.1) r nx)
def CDOK (y : MethodName) (ret : Option FieldType) (cc : ByteArray) (SP : Ent → Prop) (c : CD) : Prop := ∀ b ∈ c.2.1, chainOK y ret cc SP b.1 b.2.1 b.2.2
theorem findB_mem : ∀ (bs : List Blk) (pc : Nat) (b : List Ent × Nat), findB bs pc = some b → (pc, b) ∈ bs
  | [], _, _, h => by cases h
  | a :: r, pc, b, h => by
    unfold findB at h
    split at h
    next hb =>
      cases h
      have := Nat.eq_of_beq_eq_true hb
      subst this
      exact List.mem_cons_self
    next => exact List.mem_cons_of_mem _ (findB_mem r pc b h)
section SND
variable {p : Program} {l : Launch} {e : Env} {R : Room} {s : State} {m : MethodId} {args : Array Value} {below : List Frame} {meth : Method} {c : Code} {Q : State → Prop} {g : GG} {D : GD} {h0 : AH} {cc : ByteArray} {nL : Nat} {d : Nat} {C : Nat → List AV → AH → Option AR} {z : AR} {SP : Ent → Prop}
theorem VV.mk {h : AH} {pc : Nat} {L S : List AV} {bs : List Bool} (k : VV p l e R s m args below meth c Q g D h0 nL h pc (mkL bs L) S) : VV p l e R s m args below meth c Q g D h0 nL h pc L S :=
  fun H locs cells slots ls hR hL hc hs hl => k H locs cells slots ls hR hL hc hs (hl.sub (mkL_len bs L) (mkL_sub bs L))
/-- what holds while a method's body runs -/
def BODY (p : Program) (l : Launch) (R : Room) (s : State) (m : MethodId) (args : Array Value) (meth : Method) (c : Code) (g : GG) (D : GD) (h0 : AH) (cc : ByteArray) (nL d : Nat) (C : Nat → List AV → AH → Option AR) (y : MethodName) : Prop :=
  p.tables.exec = Jvm.exec ∧ c.code = cc ∧ c.maxLocals = nL ∧ (∀ w ∈ lw_all, w.before args s = true) ∧ s.vm.findClass y.cls = some m.cls ∧ (y.name = "<init>" → meth.name = "<init>") ∧ KK g D s ∧
  CH l g D d C ∧ d + 1 ≤ R.frames ∧ 60 * (d + 1) ≤ R.locals ∧ g.1.2.1 ≤ R.cells + h0.2.1 ∧ g.1.2.2 ≤ R.slots + h0.2.2 ∧ s.heap.size = h0.2.1 ∧ g.1.1 ≤ s.heap.size ∧ (∀ q : Nat, q < g.1.1 → s.heap[q]? = D.2.2.2[q]?)
theorem xI_sound {y : MethodName} {ret : Option FieldType} (B : BODY p l R s m args meth c g D h0 cc nL d C y)
    (hSp : ∀ (en : Ent) (pc : Nat) (h : AH) (L S : List AV) (K : List AV → AH → Option AR) (J : Nat → List AV → Option AR), SP (pc, en.2) → decode cc pc = .ok (en.2.1, en.2.2.1) → hst g C en.2.1 en.2.2.2 S h K J = some z → (∀ S' h', K S' h' = some z → VV p l e R s m args below meth c Q g D h0 nL h' (pc + en.2.2.1) L S') → VV p l e R s m args below meth c Q g D h0 nL h pc L S)
    {J : Nat → List AV → List AV → AH → Option AR} (hJ : ∀ t L S h, J t L S h = some z → VV p l e R s m args below meth c Q g D h0 nL h t L S) :
    ∀ (es : List Ent) (pc nx : Nat) (L S : List AV) (h : AH), chainOK y ret cc SP pc es nx → xI g C es nx L S h J = some z → VV p l e R s m args below meth c Q g D h0 nL h pc L S
  | [], pc, nx, L, S, h, hc, hz => by
    have : pc = nx := hc
    subst this
    exact hJ _ _ _ _ hz
  | en :: r, pc, nx, L, S, h, hc, hz => by
    obtain ⟨b1, b2, b3, b4, b5, b6, b7, b8, b9, b10, b11, b12, b13, b14, b15⟩ := id B
    obtain ⟨hd, hl, hr⟩ := hc
    unfold xI at hz
    split at hz
    next q hp =>
      have hno : noK en.2.1 = false := by
        cases hn : noK en.2.1 with
        | false => rfl
        | true =>
          rw [pst_noK hn] at hp
          cases hp
      have hr2 : chainOK y ret cc SP (pc + en.2.2.1) r nx := hr.resolve_left fun w => by rw [w.1] at hno; cases hno
      rcases hl with ⟨l1, l2, l3⟩ | ⟨l1, l2⟩
      · have l4 : en.2.2.1 = ilen en.2.1 := l3.resolve_right fun w => by rw [pst_isSw w] at hp; cases hp
        exact stepP b1 b2 b4 b5 b7 b13 b14 b15 l1 l4 hd hp (xI_sound B hSp hJ r _ nx _ _ _ hr2 hz)
      · rw [pst_isX l2] at hp; cases hp
    next hp =>
      have hstep : ∀ K : List AV → AH → Option AR, hst g C en.2.1 en.2.2.2 S h K (fun t S' => J t L S' h) = some z → (∀ S' h', K S' h' = some z → VV p l e R s m args below meth c Q g D h0 nL h' (pc + en.2.2.1) L S') → VV p l e R s m args below meth c Q g D h0 nL h pc L S := by
        intro K hz hK
        rcases hl with ⟨l1, l2, l3⟩ | ⟨l1, l2⟩
        · exact stepH b1 b2 b3 b4 b5 b6 b7 b8 b9 b10 b11 b12 l1 l3 hd (fun w => by rw [w] at l2; cases l2) hz hK (fun t S' w => hJ _ _ _ _ w)
        · exact hSp en pc h L S K _ l1 hd hz hK
      rcases hr with ⟨hr, -⟩ | hr
      · rw [hst_noK _ (fun _ _ => none) hr] at hz
        exact hstep _ hz (fun S' h' w => by cases w)
      · exact hstep _ hz (fun S' h' w => xI_sound B hSp hJ r _ nx _ _ _ hr w)
theorem runk_sound {y : MethodName} {ret : Option FieldType} {cd : CD} (B : BODY p l R s m args meth c g D h0 cc nL d C y) (hcd : CDOK y ret cc SP cd)
    (hSp : ∀ (en : Ent) (pc : Nat) (h : AH) (L S : List AV) (K : List AV → AH → Option AR) (J : Nat → List AV → Option AR), SP (pc, en.2) → decode cc pc = .ok (en.2.1, en.2.2.1) → hst g C en.2.1 en.2.2.2 S h K J = some z → (∀ S' h', K S' h' = some z → VV p l e R s m args below meth c Q g D h0 nL h' (pc + en.2.2.1) L S') → VV p l e R s m args below meth c Q g D h0 nL h pc L S) :
    ∀ (n pc : Nat) (L S : List AV) (h : AH), runk g C cd n pc L S h = some z → VV p l e R s m args below meth c Q g D h0 nL h pc L S := by
  intro n
  induction n with
  | zero => intro pc L S h hz; cases hz
  | succ n ih =>
    have hJn : ∀ (k pc : Nat) (L S : List AV) (h : AH), xJ g C cd (runk g C cd n) k pc L S h = some z → VV p l e R s m args below meth c Q g D h0 nL h pc L S := by
      intro k
      induction k with
      | zero => intro pc L S h hz; cases hz
      | succ k ihk =>
        intro pc L S h hz
        unfold xJ at hz
        split at hz
        next bs hb => exact VV.mk (ih _ _ _ _ hz)
        next =>
          split at hz
          next b hb => exact xI_sound B hSp ihk b.1 pc b.2 L S h (hcd _ (findB_mem _ _ _ hb)) hz
          next => cases hz
    intro pc L S h hz
    unfold runk at hz
    unfold xB at hz
    split at hz
    next b hb => exact xI_sound B hSp (hJn 60) b.1 pc b.2 L S h (hcd _ (findB_mem _ _ _ hb)) hz
    next => cases hz
end SND
/-- instructions that end a method, as its answer's type has it -/
def SPm (y : MethodName) (ret : Option FieldType) (en : Ent) : Prop := LNK y ret 0 en.2.1 en.2.2.2 ∧ en.2.2.1 = 1 ∧ (en.2.1 = .ireturn ∨ en.2.1 = .areturn ∨ en.2.1 = .return_)
theorem chr_same (v : Int32) : v.toUInt32.toUInt16.toUInt32 = v.toUInt32 % 65536 := by
  apply UInt32.toNat_inj.mp
  simp
section SND
variable {p : Program} {l : Launch} {e : Env} {R : Room} {s : State} {m : MethodId} {args : Array Value} {below : List Frame} {meth : Method} {c : Code} {g : GG} {D : GD} {h0 : AH} {cc : ByteArray} {nL : Nat} {C : Nat → List AV → AH → Option AR} {z : AR}
theorem ret_sound {y : MethodName} {ret : Option FieldType} (hx : p.tables.exec = Jvm.exec) (hb : c.code = cc) (hr : meth.sig.returnType = ret) (hlocks : meth.locks = false) {en : Ent} {pc : Nat} {h : AH} {L S : List AV} {K : List AV → AH → Option AR} {J : Nat → List AV → Option AR} (hl : SPm y ret en) (hd : decode cc pc = .ok (en.2.1, en.2.2.1)) (hz : hst g C en.2.1 en.2.2.2 S h K J = some z) :
    VV p l e R s m args below meth c (MQ below (QcK g D z h0) args s (z.2.2.1 - h0.2.1) (z.2.2.2 - h0.2.2) (fun q => g.1.1 ≤ q)) g D h0 nL h pc L S := by
  obtain ⟨epc, i, n, x⟩ := en
  obtain ⟨hl, hn, hi⟩ := hl
  dsimp only at hl hn hi hd hz
  subst hn
  intro H locs cells slots ls hR hL hc hs hl'
  have fin : ∀ o : Option AV, z = (o, h) → (∀ t : State, t.heap = H → s.WarmedH t.vm → QcK g D z h0 args s (.returned (o.map toV)) t) ∧ z.2.2.1 - h0.2.1 = cells ∧ z.2.2.2 - h0.2.2 = slots := by
    intro o hzo
    subst hzo
    refine ⟨fun t ht hW => ⟨rfl, by rw [ht]; exact hR, ⟨?_, ?_⟩, ?_, ?_⟩, ?_, ?_⟩ <;> (try show _ ≤ _) <;> dsimp only <;> omega
  rcases hi with rfl | rfl | rfl
  · -- ireturn
    have key : ∀ (v : Int32), S = [.inl v] → z = (some (vI v), h) → (∀ ty, ret = some ty → narrow ty (.int v) = .int v) → (∃ ty, ret = some ty) → W p l e R s m args below meth c H locs cells slots (MQ below (QcK g D z h0) args s (z.2.2.1 - h0.2.1) (z.2.2.2 - h0.2.2) (fun q => g.1.1 ≤ q)) (F0 m pc ls (S.map toV)) := by
      intro v hS hzv hn ⟨ty, hty⟩
      obtain ⟨f1, f2, f3⟩ := fin _ hzv
      subst hS
      rw [f2, f3]
      exact W.zret hx hb (hr.trans hty) (hn ty hty) f1 hL hd
    replace hz : (match (generalizing := false) x, S with
      | 1 :: _, [.inl v] => if v = 0 ∨ v = 1 then some (some (vI v), h) else none
      | 2 :: _, [.inl v] => if v.toInt8.toInt32 = v then some (some (vI v), h) else none
      | 3 :: _, [.inl v] => if (v.toUInt32 % 65536).toInt32 = v then some (some (vI v), h) else none
      | [], [.inl v] => some (some (vI v), h)
      | _, _ => (none : Option AR)) = some z := hz
    split at hz
    next v =>
      split at hz
      next hv =>
        cases hz
        have hr2 : ret = some .boolean := by
          cases ret with
          | none => exact (show False from hl).elim
          | some t => cases t <;> first | rfl | exact (show False from hl).elim
        exact key v rfl rfl (fun ty ht => by rw [hr2] at ht; cases ht; rcases hv with rfl | rfl <;> decide) ⟨_, hr2⟩
      · cases hz
    next v =>
      split at hz
      next hv =>
        cases hz
        have hr2 : ret = some .byte := by
          cases ret with
          | none => exact (show False from hl).elim
          | some t => cases t <;> first | rfl | exact (show False from hl).elim
        exact key v rfl rfl (fun ty ht => by rw [hr2] at ht; cases ht; show Value.int v.toInt8.toInt32 = _; rw [hv]) ⟨_, hr2⟩
      · cases hz
    next v =>
      split at hz
      next hv =>
        cases hz
        have hr2 : ret = some .char := by
          cases ret with
          | none => exact (show False from hl).elim
          | some t => cases t <;> first | rfl | exact (show False from hl).elim
        exact key v rfl rfl (fun ty ht => by rw [hr2] at ht; cases ht; show Value.int v.toUInt32.toUInt16.toUInt32.toInt32 = _; rw [chr_same, hv]) ⟨_, hr2⟩
      · cases hz
    next v =>
      cases hz
      have hr2 : ret = some .int := by
        cases ret with
        | none => exact (show False from hl).elim
        | some t => cases t <;> first | rfl | exact (show False from hl).elim
      exact key v rfl rfl (fun ty ht => by rw [hr2] at ht; cases ht; rfl) ⟨_, hr2⟩
    next => cases hz
  · -- areturn
    replace hz : (match (generalizing := false) S with
      | [.inr (.inl v)] => some (some (vP v), h)
      | _ => (none : Option AR)) = some z := hz
    split at hz
    next v =>
      cases hz
      obtain ⟨f1, f2, f3⟩ := fin _ rfl
      have hl : (∃ n, ret = some (.object n)) ∨ ∃ t, ret = some (.array t) := hl
      have hv : va_rf v = .null ∨ ∃ a, va_rf v = .ref a := by
        cases v with
        | none => exact Or.inl rfl
        | some a => exact Or.inr ⟨a, rfl⟩
      show W p l e R s m args below meth c H locs cells slots (MQ below _ args s (h.2.1 - h0.2.1) (h.2.2 - h0.2.2) _) (F0 m pc ls [va_rf v])
      rw [show h.2.1 - h0.2.1 = cells from f2, show h.2.2 - h0.2.2 = slots from f3]
      rcases hl with ⟨n, rfl⟩ | ⟨t, rfl⟩
      · exact W.aret hx hb hr (Or.inl ⟨n, rfl⟩) hv f1 hL hd
      · exact W.aret hx hb hr (Or.inr ⟨t, rfl⟩) hv f1 hL hd
    next => cases hz
  · -- return
    replace hz : (match (generalizing := false) S with
      | [] => some (none, h)
      | _ => (none : Option AR)) = some z := hz
    split at hz
    next =>
      cases hz
      obtain ⟨f1, f2, f3⟩ := fin _ rfl
      have hl : ret = none := hl
      subst hl
      show W p l e R s m args below meth c H locs cells slots (MQ below _ args s (h.2.1 - h0.2.1) (h.2.2 - h0.2.2) _) (F0 m pc ls [])
      rw [show h.2.1 - h0.2.1 = cells from f2, show h.2.2 - h0.2.2 = slots from f3]
      exact W.vret hx hb hr f1 hL hd
    next => cases hz
/-- a method's first locals -/
theorem entry_LH {as : List AV} {nL : Nat} (h1 : as.all one = true) (h2 : as.length ≤ nL) : ∃ ls, LH ls nL (padL nL as) ∧ ∀ mk : MethodId, entryFrame mk (as.map toV).toArray nL = F0 mk 0 ls [] := by
  have hsl : lg_sl (as.map toV) = (as.map toV).map Slot.val := by
    clear h2
    induction as with
    | nil => rfl
    | cons v r ih =>
      rw [List.all_cons, Bool.and_eq_true] at h1
      show (if (toV v).category = 2 then [Slot.val (toV v), Slot.second] else [Slot.val (toV v)]) ++ lg_sl (r.map toV) = _
      rw [if_neg (by rw [one_cat h1.1]; decide), ih h1.2]
      rfl
  have hlen : (lg_sl (as.map toV)).length ≤ nL := by rw [hsl]; simpa using h2
  refine ⟨_, ?_, fun mk => lg_entry_eq mk _ nL⟩
  have hE := lv_entry (as.map toV) hlen
  refine ⟨hE.1, hE.2.1, by unfold padL; simp; omega, fun i v hi hv => ?_⟩
  rw [hsl]
  unfold padL at hi
  rcases Nat.lt_or_ge i as.length with q | q
  · rw [List.getElem?_append_left q] at hi
    have : ((as.map toV).map Slot.val)[i]? = some (.val (toV v)) := by rw [List.getElem?_map, List.getElem?_map, hi]; rfl
    rw [List.getElem?_toArray, List.getElem?_append_left (by simpa using q)]
    exact this
  · rw [List.getElem?_append_right q] at hi
    obtain ⟨w1, w2⟩ := List.getElem?_eq_some_iff.mp hi
    rw [List.getElem_replicate] at w2
    rw [← w2] at hv
    cases hv
end SND
/-- all that is to be checked of a method -/
def VAL (k : Nat) : Prop := plainName (mi k).1.cls = true ∧ CKOK (mi k) (cd k).1 ∧ CDOK (mi k).1 (mi k).2.2 (mi k).2.1 (SPm (mi k).1 (mi k).2.2) (cd k)
theorem met_of {l : Launch} {g : GG} {D : GD} {d k : Nat} {as : List AV} {h : AH} {z : AR} (hV : VAL k) (hC : CH l g D d (cal g d)) (h1 : as.all one = true) (h2 : as.length ≤ (cd k).1) (hz : evk g (cal g d) (cd k) 0 (padL (cd k).1 as) [] h = some z) : MetK l g D (d + 1) (mi k) (cd k).1 as h z := by
  obtain ⟨v1, v2, v3⟩ := hV
  refine Met.ofW (cc := (mi k).2.1) (maxL := (cd k).1) (ret := (mi k).2.2) v1 rfl ?_
  intro p e s m args below meth c s₁ B hml hP
  obtain ⟨rfl, hR, hK⟩ := hP
  have hts := atoms_spec (ws := ws_ (mi k).1 (mi k).2.1 (cd k).1 (mi k).2.2) B.pre
  have hts2 : ∀ w ∈ lw_all, w.before (as.map toV).toArray s = true := fun w hw => hts w (List.mem_cons_of_mem _ hw)
  obtain ⟨ls, hls, hen⟩ := entry_LH h1 h2
  rw [hen]
  obtain ⟨n, hn⟩ := evk_some.mp hz
  refine runk_sound (d := d) (C := cal g d) (y := (mi k).1) (ret := (mi k).2.2) (cc := (mi k).2.1) (nL := (cd k).1) (h0 := h) (z := z) (D := D) ⟨B.exec, B.bytes, hml, hts2, findClass_of_methodNamed B.named, fun q => by rw [(name_of_methodNamed B.named B.method).1]; exact q, hK, hC, Nat.le_refl _, Nat.le_refl _, ?_, ?_, hR.1, hR.2.2.2, hR.2.2.1⟩ v3
    (fun en pc h' L S K J w1 w2 w3 w4 => ret_sound B.exec B.bytes B.returns B.notSynchronized w1 w2 w3) n 0 (padL (cd k).1 as) [] h hn s.heap [] 0 0 ls hR (fun q hq => by cases hq) ⟨by omega, by omega⟩ ⟨by omega, by omega⟩ hls
  · show g.1.2.1 ≤ (g.1.2.1 - h.2.1) + h.2.1; omega
  · show g.1.2.2 ≤ (g.1.2.2 - h.2.2) + h.2.2; omega
theorem cal_sound (hV : ∀ k, gk k → VAL k) (l : Launch) (g : GG) (D : GD) : ∀ d, CH l g D d (cal g d)
  | 0 => fun k hk as h z hz => by cases hz
  | d + 1 => fun k hk as h z hz => by
    have hb : Nat.ble 900 k = false := by
      cases hq : Nat.ble 900 k with
      | false => rfl
      | true => have := Nat.le_of_ble_eq_true hq; have := hk.1; omega
    obtain ⟨h1, h2, h3⟩ := cal_of hb hz
    exact ⟨(hV k hk).2.1, met_of (hV k hk) (cal_sound hV l g D d) h1 h2 h3⟩
