/-! SOUNDNESS, 6: what links calls; the calls' forms -/
set_option maxRecDepth 100000
theorem popN_spec : ∀ (n : Nat) (acc S as r : List AV), popN n acc S = some (as, r) → ∃ xs, S = xs ++ r ∧ as = xs.reverse ++ acc ∧ xs.length = n
  | 0, acc, S, as, r, h => by cases h; exact ⟨[], rfl, rfl, rfl⟩
  | n + 1, acc, [], as, r, h => by cases h
  | n + 1, acc, v :: S, as, r, h => by
    obtain ⟨xs, h1, h2, h3⟩ := popN_spec n (v :: acc) S as r h
    refine ⟨v :: xs, by rw [h1]; rfl, by rw [h2]; simp, by rw [← h3]; rfl⟩
theorem popN_0 {n : Nat} {S as r : List AV} (h : popN n [] S = some (as, r)) : S = as.reverse ++ r ∧ as.length = n := by
  obtain ⟨xs, h1, h2, h3⟩ := popN_spec n [] S as r h
  rw [List.append_nil] at h2
  subst h2
  exact ⟨by rw [List.reverse_reverse]; exact h1, by rw [List.length_reverse]; exact h3⟩
/-- what holds of a method that can be called -/
def CKOK (M : MI) (nL : Nat) : Prop := Cond.code M.1 M.2.1 nL M.2.2 ∈ lw_all ∧ Cond.initialized M.1.cls ∈ lw_all ∧ (M.1.cls ≠ "java/lang/invoke/MethodHandle" ∧ M.1.cls ≠ "java/lang/invoke/VarHandle") ∧ nL ≤ 40
def npar (y : MethodName) (n : Nat) : Prop := (parseMethodDescriptor y.desc).map (fun d => d.parameters.length) = some n
theorem npar.of {y : MethodName} {n : Nat} (h : npar y n) {as : List Value} (hn : as.length = n) : ∀ sig, parseMethodDescriptor y.desc = some sig → as.length = sig.parameters.length := by
  intro sig hs
  unfold npar at h
  rw [hs] at h
  rw [hn]
  exact (Option.some.inj h).symm
def SOKc (own : String) (idx n : Nat) (y : MethodName) : Prop := (Cond.methodLink own idx y ∈ lw_all ∨ ∃ host, (own, idx, y, host) ∈ nstM) ∧ Cond.static y ∈ lw_all ∧ npar y n
def POKc (own : String) (idx n : Nat) (y : MethodName) (ret : Option FieldType) : Prop :=
  (ret = none ∧ y.name = "<init>" ∧ (Cond.methodLink own idx y ∈ lw_all ∨ ∃ host, (own, idx, y, host) ∈ nstM) ∧ Cond.instanceMethod y ∈ lw_all ∧ npar y n) ∨
  (y.name ≠ "<init>" ∧ Cond.methodLink own idx y ∈ lw_all ∧ Cond.sameMethod y.cls y.cls y.name y.desc ∈ lw_all ∧ Cond.superclass own y.cls ∈ lw_all ∧ Cond.instanceMethod y ∈ lw_all ∧ npar y n)
def declOK (z : MethodName) : Prop := (Cond.instanceMethod z ∈ lw_all ∧ ∃ b m0 r0, Cond.code z b m0 r0 ∈ lw_all) ∨ z ∈ decL
/-- the class number ci selects y, which is called by x -/
def VOKc (own : String) (idx n ci : Nat) (y : MethodName) : Prop := ∃ q, vwCl[ci]? = some q ∧
  ((Cond.methodLink own idx y ∈ lw_all ∧ Cond.instanceMethod y ∈ lw_all ∧ Cond.selects q.1 y y ∈ lw_all ∧ npar y n) ∨
   (∃ x owner, Cond.methodLink own idx x ∈ lw_all ∧ Cond.sameMethod x.cls owner x.name x.desc ∈ lw_all ∧ declOK ⟨owner, x.name, x.desc⟩ ∧ (owner ≠ "java/lang/invoke/MethodHandle" ∧ owner ≠ "java/lang/invoke/VarHandle") ∧ Cond.selects q.1 x y ∈ lw_all ∧ Cond.instanceMethod y ∈ lw_all ∧ npar x n) ∨
   (Cond.methodLink own idx y ∈ lw_all ∧ Cond.instanceMethod y ∈ lw_all ∧ Cond.sameMethod y.cls y.cls y.name y.desc ∈ lw_all ∧ y ∈ prvL ∧ npar y n))
section SND
variable {p : Program} {l : Launch} {e : Env} {R : Room} {s : State} {m : MethodId} {args : Array Value} {below : List Frame} {meth : Method} {c : Code} {Q : State → Prop} {g : GG} {D : GD} {cc : ByteArray} {H : Heap} {locs : List Loc} {cells slots pc : Nat} {ls : Array Slot} {h : AH} {r as : List AV}
theorem stk {as r : List AV} : ((as.reverse ++ r).map toV) = (as.map toV).reverse ++ r.map toV := by rw [List.map_append, List.map_reverse]
theorem prim_S (hx : p.tables.exec = Jvm.exec) (hb : c.code = cc) (hml : c.maxLocals = ls.size) (hts : ∀ w ∈ lw_all, w.before args s = true) (hK : KK g D s) {own : String} (hown : s.vm.findClass own = some m.cls) {idx n : Nat} {M : MI} {nL : Nat} (hC : CKOK M nL) (hS : SOKc own idx n M.1) (hn : as.length = n) (hw : wt r ≤ 8) (hd : decode cc pc = .ok (.invokestatic idx, 3)) :
    Prim p l e R s m args below meth c H M.1 (F0 m pc ls ((as.reverse ++ r).map toV)) (r.map toV) (as.map toV).toArray := by
  obtain ⟨c1, c2, c3, -⟩ := hC
  obtain ⟨h1, h2, h3⟩ := hS
  have hcat := wt_cat r
  subst hb
  intro Pre Post hB T locs cells slots hT X hpre
  rcases h1 with h1 | ⟨host, h1⟩
  · exact callS X hx hown (hts _ h1) (hts _ h2) (hts _ c2) (hts _ c1) c3 hB (g := F0 m pc ls ((as.reverse ++ r).map toV)) rfl hml.symm (argsL := as.map toV) (rest := r.map toV) (h3.of (by rw [List.length_map]; exact hn)) stk (lv_room (by omega)) hd hpre
  · exact va_callSN X hx hown (va_Nw.use rfl (hK.2.2.2.1 _ h1)) (hts _ h2) (hts _ c2) (hts _ c1) c3 hB (g := F0 m pc ls ((as.reverse ++ r).map toV)) rfl hml.symm (argsL := as.map toV) (rest := r.map toV) (h3.of (by rw [List.length_map]; exact hn)) stk (lv_room (by omega)) hd hpre
theorem prim_P (hx : p.tables.exec = Jvm.exec) (hb : c.code = cc) (hml : c.maxLocals = ls.size) (hts : ∀ w ∈ lw_all, w.before args s = true) (hK : KK g D s) (hR : RH g D h H) {own : String} (hown : s.vm.findClass own = some m.cls) {idx n : Nat} {M : MI} {nL : Nat} (hC : CKOK M nL) (hS : POKc own idx n M.1 M.2.2) (hn : as.length = n) (hw : wt r ≤ 8) (hd : decode cc pc = .ok (.invokespecial idx, 3)) {b ci : Nat} {fs : List AV} (ha : h.1 b = some (.inr (ci, fs))) :
    Prim p l e R s m args below meth c H M.1 (F0 m pc ls ((as.reverse ++ .inr (.inl (some b)) :: r).map toV)) (r.map toV) ((.inr (.inl (some b)) :: as : List AV).map toV).toArray := by
  obtain ⟨c1, c2, c3, -⟩ := hC
  have hcat := wt_cat r
  have hstk : ((as.reverse ++ .inr (.inl (some b)) :: r : List AV).map toV) = (as.map toV).reverse ++ .ref b :: r.map toV := stk
  obtain ⟨q, hq, -⟩ := hR.2.1 b _ ha
  obtain ⟨cell, g1, g2, g3⟩ := hR.recv (hK := hK) ha hq
  obtain ⟨-, kB, hkB, -⟩ := (hK.1.1 ci _ hq).2
  subst hb
  intro Pre Post hB T locs cells slots hT X hpre
  rcases hS with ⟨hr, h0, h1, h2, h3⟩ | ⟨h0, h1, h2, h3, h4, h5⟩
  · rw [hr] at c1
    rcases h1 with h1 | ⟨host, h1⟩
    · exact callI X hx hown h0 (hts _ h1) (hts _ h2) (hts _ c1) c3 hB (g := F0 m pc ls _) rfl hml.symm (argsL := as.map toV) (rest := r.map toV) (h3.of (by rw [List.length_map]; exact hn)) hstk (lv_room (by omega)) hd hpre
    · exact va_callIN X hx hown h0 (va_Nw.use rfl (hK.2.2.2.1 _ h1)) (hts _ h2) (hts _ c1) c3 hB (g := F0 m pc ls _) rfl hml.symm (argsL := as.map toV) (rest := r.map toV) (h3.of (by rw [List.length_map]; exact hn)) hstk (lv_room (by omega)) hd hpre
  · exact va_callSU X hx hown (hts _ h1) (hts _ h2) (hts _ h3) (hts _ h4) (hts _ c1) h0 hB (by rw [hT]; exact g1) g2 (by have e1 := Option.some.inj (((hK.1.1 ci _ hq).2.1).symm.trans g3); rw [← e1]; exact hkB) (g := F0 m pc ls _) rfl hml.symm (argsL := as.map toV) (rest := r.map toV) (h5.of (by rw [List.length_map]; exact hn)) hstk (lv_room (by omega)) hd hpre
theorem prim_V (hx : p.tables.exec = Jvm.exec) (hb : c.code = cc) (hml : c.maxLocals = ls.size) (hts : ∀ w ∈ lw_all, w.before args s = true) (hK : KK g D s) (hR : RH g D h H) {own : String} (hown : s.vm.findClass own = some m.cls) {idx n : Nat} {M : MI} {nL : Nat} (hC : CKOK M nL) {b ci : Nat} {fs : List AV} (ha : h.1 b = some (.inr (ci, fs))) (hS : VOKc own idx n ci M.1) (hn : as.length = n) (hw : wt r ≤ 8) (hd : decode cc pc = .ok (.invokevirtual idx, 3)) :
    Prim p l e R s m args below meth c H M.1 (F0 m pc ls ((as.reverse ++ .inr (.inl (some b)) :: r).map toV)) (r.map toV) ((.inr (.inl (some b)) :: as : List AV).map toV).toArray := by
  obtain ⟨c1, c2, c3, -⟩ := hC
  have hcat := wt_cat r
  have hstk : ((as.reverse ++ .inr (.inl (some b)) :: r : List AV).map toV) = (as.map toV).reverse ++ .ref b :: r.map toV := stk
  obtain ⟨q, hq, hS⟩ := hS
  obtain ⟨cell, g1, g2, g3⟩ := hR.recv (hK := hK) ha hq
  subst hb
  intro Pre Post hB T locs cells slots hT X hpre
  rcases hS with ⟨h1, h2, h3, h4⟩ | ⟨x, owner, h1, h2, h3, h4, h5, h6, h7⟩ | ⟨h1, h2, h3, h4, h5⟩
  · exact callV X hx hown (hts _ h1) (hts _ h2) (hts _ h3) (hts _ c1) c3 hB (by rw [hT]; exact g1) g2 g3 (g := F0 m pc ls _) rfl hml.symm (argsL := as.map toV) (rest := r.map toV) (h4.of (by rw [List.length_map]; exact hn)) hstk (lv_room (by omega)) hd hpre
  · have hdecl : va_Decl s ⟨owner, x.name, x.desc⟩ := by
      rcases h3 with ⟨d1, b0, m0, r0, d2⟩ | d
      · exact va_Decl.of (hts _ d1) (hts _ d2)
      · exact va_Decl.abs (hK.2.2.2.2.2.1 _ d)
    exact va_callVU X hx hown (hts _ h1) (hts _ h2) hdecl h4 (hts _ h5) (hts _ h6) (hts _ c1) hB (by rw [hT]; exact g1) g2 g3 (g := F0 m pc ls _) rfl hml.symm (argsL := as.map toV) (rest := r.map toV) (h7.of (by rw [List.length_map]; exact hn)) hstk (lv_room (by omega)) hd hpre
  · exact callVP X hx hown (hts _ h1) (hts _ h2) (hts _ h3) (hK.2.2.2.2.2.2.1 _ h4) (hts _ c1) c3 hB (by rw [hT]; exact g1) g2 (g := F0 m pc ls _) rfl hml.symm (argsL := as.map toV) (rest := r.map toV) (h5.of (by rw [List.length_map]; exact hn)) hstk (lv_room (by omega)) hd hpre
end SND
