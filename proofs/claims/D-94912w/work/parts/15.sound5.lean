/-! SOUNDNESS, 5: calls -/
set_option maxRecDepth 100000
section BK
variable {l : Launch} {R : Room} {p : Program} {e : Env} {below : List Frame} {s : State} {sargs : Array Value} {y : MethodName} {len W : Nat}
/-- a contract pays for a call: what the callee may make (its room) can be more than what it makes -/
theorem bk_of {ws : List Cond} {rm : Room} {Pc : Array Value → State → Prop} {Qc : Array Value → State → Outcome → State → Prop} {mc ms : Nat} {free : Addr → Prop} {bytes : ByteArray} {maxL : Nat} {ret : Option FieldType}
    (hM : Met l y ws rm Pc Qc mc ms free) (hblind : FrameBlind Pc) (hframes : rm.frames + 1 ≤ R.frames) (hlocals : W + (maxL + 11) + rm.locals ≤ R.locals)
    (hws : ∀ w ∈ ws, ∀ a' U, s.WarmedH U.vm → w.before a' U = true) (hcode : Cond.code y bytes maxL ret ∈ ws) (hinit : ∀ a' U, s.WarmedH U.vm → (Cond.initialized y.cls).before a' U = true) :
    Back l R p e below s sargs y len W (fun A a => A.cells + rm.cells ≤ R.cells ∧ A.slots + rm.slots ≤ R.slots ∧ Pc a A.U) (PostOf Qc mc ms free) := by
  refine Back.of_free (S := headSpec ws rm) (P := Pc) (K := fun _ _ _ _ _ => True) (Q := fun a st o t => Qc a st o t ∧ ∃ L, FrameEnd st o t L mc ms ∧ ∀ q ∈ L, free q.base) (bytes := bytes) (maxL := maxL) (ret := ret)
    (E := fun a st o t L k n => k = mc ∧ n = ms ∧ ∀ q ∈ L, free q.base) hM hframes hlocals ?_ ?_ (fun _ _ _ _ _ _ _ _ _ => trivial) ?_ ?_
  · intro m meth c A a X hp
    exact ⟨atoms_intro fun w hw => hws w hw _ _ X.warmed, hws _ hcode _ _ X.warmed, hinit _ _ X.warmed, hp.1, hp.2.1⟩
  · intro m meth c A a g mk X hp
    exact hblind _ _ _ _ hp.2.2
  · intro a st o t ⟨hq, L, hF, hL⟩
    exact ⟨L, mc, ms, hF, rfl, rfl, hL⟩
  · intro m meth c A a g mk v t L k n X hp hq hF ⟨e1, e2, hL⟩
    subst e1; subst e2
    exact ⟨g, mk, t, L, rfl, rfl, hq.1, rfl, hL, rfl, rfl⟩
end BK
/-- how a method is named: itself, its code's bytes, its answer -/
abbrev MI : Type := MethodName × ByteArray × Option FieldType
def rmK (g : GG) (d : Nat) (h : AH) : Room := { frames := d, cells := g.1.2.1 - h.2.1, slots := g.1.2.2 - h.2.2, locals := 60 * d }
def PcK (g : GG) (D : GD) (as : List AV) (h : AH) : Array Value → State → Prop := fun v U => v = (as.map toV).toArray ∧ RH g D h U.heap ∧ KK g D U
def QcK (g : GG) (D : GD) (z : AR) (h : AH) : Array Value → State → Outcome → State → Prop := fun _ _ o t => o = .returned (z.1.map toV) ∧ RH g D z.2 t.heap ∧ (h.2.1 ≤ z.2.2.1 ∧ z.2.2.1 ≤ max h.2.1 g.1.2.1) ∧ h.2.2 ≤ z.2.2.2 ∧ z.2.2.2 ≤ max h.2.2 g.1.2.2
/-- the contract of a method: run with these arguments over this heap it comes back with z -/
def MetK (l : Launch) (g : GG) (D : GD) (d : Nat) (M : MI) (nL : Nat) (as : List AV) (h : AH) (z : AR) : Prop :=
  Met l M.1 (ws_ M.1 M.2.1 nL M.2.2) (rmK g d h) (PcK g D as h) (QcK g D z h) (z.2.2.1 - h.2.1) (z.2.2.2 - h.2.2) (fun q => g.1.1 ≤ q)
theorem PcK.blind {g : GG} {D : GD} {as : List AV} {h : AH} : FrameBlind (PcK g D as h) := fun _ _ _ _ q => ⟨q.1, q.2.1, q.2.2.call _ _ _⟩
section SND
variable {p : Program} {l : Launch} {e : Env} {R : Room} {s : State} {m : MethodId} {args : Array Value} {below : List Frame} {meth : Method} {c : Code} {Q : State → Prop} {g : GG} {D : GD} {cc : ByteArray} {H : Heap} {locs : List Loc} {cells slots pc : Nat} {ls : Array Slot} {rest : List Value} {h : AH}
/-- an instruction of three bytes at pc, over this stack, calls y with the arguments a and leaves 'rest' below the answer -/
def Prim (p : Program) (l : Launch) (e : Env) (R : Room) (s : State) (m : MethodId) (args : Array Value) (below : List Frame) (meth : Method) (c : Code) (H : Heap) (y : MethodName) (gf : JFrame) (rest : List Value) (a : Array Value) : Prop :=
  ∀ (Pre : Pt → Array Value → Prop) (Post : Pt → Array Value → Option Value → Pt → Prop), Back l R p e below s args y 3 8 Pre Post → ∀ (T : State) (locs : List Loc) (cells slots : Nat), T.heap = H → Stand p l e R s m args below meth c T locs cells slots → (∀ vm₁, s.WarmedH vm₁ → Pre ⟨T.setVm vm₁, locs, cells, slots⟩ a) →
    ∃ (v : Option Value) (vm₁ : Vm) (B : Pt), s.WarmedH vm₁ ∧ Stand p l e R s m args below meth c B.U B.locs B.cells B.slots ∧ Post ⟨T.setVm vm₁, locs, cells, slots⟩ a v B ∧
      ∀ target, Steps p.tables e below (B.U.setTop { gf with pc := gf.pc + 3, stack := v.toList ++ rest }) target → Steps p.tables e below (T.setTop gf) target
theorem w_call (hK : KK g D s) (hts : ∀ w ∈ lw_all, w.before args s = true) (hR : RH g D h H) {M : MI} {nL d : Nat} {as : List AV} {z : AR} {gst0 : List Value} (hp : Prim p l e R s m args below meth c H M.1 (F0 m pc ls gst0) rest (as.map toV).toArray)
    (hM : MetK l g D d M nL as h z) (hcode : Cond.code M.1 M.2.1 nL M.2.2 ∈ lw_all) (hini : Cond.initialized M.1.cls ∈ lw_all) (hfr : d + 1 ≤ R.frames) (hlo : 60 * (d + 1) ≤ R.locals) (hnL : nL ≤ 40) (hcells : cells + (g.1.2.1 - h.2.1) ≤ R.cells) (hslots : slots + (g.1.2.2 - h.2.2) ≤ R.slots)
    (kk : ∀ (H1 : Heap) (L : List Loc), RH g D z.2 H1 → (∀ q ∈ L, g.1.1 ≤ q.base) → (h.2.1 ≤ z.2.2.1 ∧ z.2.2.1 ≤ max h.2.1 g.1.2.1) → (h.2.2 ≤ z.2.2.2 ∧ z.2.2.2 ≤ max h.2.2 g.1.2.2) → W p l e R s m args below meth c H1 (locs ++ L) (cells + (z.2.2.1 - h.2.1)) (slots + (z.2.2.2 - h.2.2)) Q (F0 m (pc + 3) ls ((z.1.map toV).toList ++ rest))) : W p l e R s m args below meth c H locs cells slots Q (F0 m pc ls gst0) := by
  have hB := bk_of (l := l) (R := R) (p := p) (e := e) (below := below) (s := s) (sargs := args) (len := 3) (W := 8) (bytes := M.2.1) (maxL := nL) (ret := M.2.2) hM PcK.blind hfr (by show 8 + (nL + 11) + 60 * d ≤ R.locals; omega)
    (fun w hw a' U hW => by
      obtain ⟨g1, g2⟩ := lw_meth hcode w hw
      exact word_at hW g2 (hts w g1)) List.mem_cons_self (fun a' U hW => word_at hW (lw_self _ hini).2 (hts _ hini))
  intro T hT X
  obtain ⟨v, vm₁, ⟨U', l2, c2, s2⟩, hW₁, X', ⟨g', mk, t, L, e1, e2, hq, h1, hL, h2, h3⟩, st⟩ := hp _ _ hB T locs cells slots hT X (fun vm₁ hW => ⟨hcells, hslots, rfl, by rw [show (T.setVm vm₁).heap = T.heap from rfl, hT]; exact hR, hK.warm hW⟩)
  dsimp only [Pt.U, Pt.locs, Pt.cells, Pt.slots] at X' e1 e2 h1 h2 h3 st
  subst h1; subst h2; subst h3
  obtain ⟨hv, hR', z1, z2⟩ := hq
  cases hv
  obtain ⟨t2, a1, b1⟩ := kk t.heap L hR' hL z1 z2 U' e1 X'
  exact ⟨t2, st t2 a1, b1⟩
/-- a private method of whatever class the receiver has -/
theorem callVP {T : State} (X : Stand p l e R s m args below meth c T locs cells slots) (hexec : p.tables.exec = Jvm.exec) {own : String} {index : Nat} {y : MethodName} {bytes : ByteArray} {maxL : Nat} {ret : Option FieldType}
    (hown : s.vm.findClass own = some m.cls) (hlink : (Cond.methodLink own index y).before args s = true) (hinst : (Cond.instanceMethod y).before args s = true) (hsame : (Cond.sameMethod y.cls y.cls y.name y.desc).before args s = true) (hprv : PrvAt y s)
    (hcode : (Cond.code y bytes maxL ret).before args s = true) (hy : y.cls ≠ "java/lang/invoke/MethodHandle" ∧ y.cls ≠ "java/lang/invoke/VarHandle")
    {W : Nat} {Pre : Pt → Array Value → Prop} {Post : Pt → Array Value → Option Value → Pt → Prop} (hK : Back l R p e below s args y 3 W Pre Post)
    {b : Addr} {cellB : Cell} (hcell : T.heap[b]? = some cellB) (hobj : cellB.vm.isStatics = false)
    {g : JFrame} (hg : g.method = m) (hsize : g.locals.size = c.maxLocals) {argsL rest : List Value} (hlen : ∀ sig, parseMethodDescriptor y.desc = some sig → argsL.length = sig.parameters.length)
    (hstack : g.stack = argsL.reverse ++ .ref b :: rest) (hW : 2 * g.monitorRoom + (rest.map fun v => v.category).sum ≤ W) (hdg : decode c.code g.pc = .ok (.invokevirtual index, 3))
    (hpre : ∀ vm₁, s.WarmedH vm₁ → Pre ⟨T.setVm vm₁, locs, cells, slots⟩ (Value.ref b :: argsL).toArray) :
    ∃ (v : Option Value) (vm₁ : Vm) (B : Pt), s.WarmedH vm₁ ∧ Stand p l e R s m args below meth c B.U B.locs B.cells B.slots ∧ Post ⟨T.setVm vm₁, locs, cells, slots⟩ (Value.ref b :: argsL).toArray v B ∧
      ∀ target, Steps p.tables e below (B.U.setTop { g with pc := g.pc + 3, stack := v.toList ++ rest }) target → Steps p.tables e below (T.setTop g) target := by
  obtain ⟨mk, methM, hnamed, hmethM, hstM, habM⟩ := Cond.instanceMethod_spec hinst
  obtain ⟨methM', cM, hmethM', -, -, -, -, -, -, hsigM⟩ := Cond.code_spec hnamed hcode
  cases hmethM.symm.trans hmethM'
  obtain ⟨cn, ck, r1, hcn, hck, hni, hf, hn1⟩ := Cond.sameMethod_found hsame
  cases hnamed.symm.trans hn1
  obtain ⟨mk2, meth2, p1, p2, p3⟩ := hprv
  cases hnamed.symm.trans p1
  cases hmethM.symm.trans p2
  have hcls : mk.cls = cn := Option.some.inj ((findClass_of_methodNamed hnamed).symm.trans hcn)
  have hkP : s.vm.classes[mk.cls]? = some ck := by rw [hcls]; exact hck
  have hselP : selectMethod e.platform s.vm cellB.cls mk = .method mk := selectMethod_private hmethM p3
  obtain ⟨vm₁, X₁, hstep₁⟩ := X.invokevirtual hexec hown hlink hnamed hmethM hstM hkP hni hy (a := b) (cell := cellB) hcell
    (fun z h => by rw [h] at hobj; cases hobj) hselP hmethM habM hkP hni (g := g) hg (argsL := argsL) (rest := rest) (hlen _ hsigM) hstack hdg
  obtain ⟨v, B, X', hpost, hsteps⟩ := hK m meth c ⟨T.setVm vm₁, locs, cells, slots⟩ { g with stack := rest } (.invokevirtual index) mk (Value.ref b :: argsL).toArray X₁ hg hsize hdg hW (X₁.named hnamed) (hpre vm₁ X₁.warmed)
  exact ⟨v, vm₁, B, X₁.warmed, X', hpost, fun target h => hstep₁ _ fun acts => by rw [doInvoke_state]; exact hsteps.trans h⟩
end SND
