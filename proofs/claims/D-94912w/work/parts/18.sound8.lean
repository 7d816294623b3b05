/-! SOUNDNESS, 7: one instruction -/
set_option maxRecDepth 100000
def ldcOK (own : String) (idx : Nat) (x : List Nat) : Prop :=
  match x with
  | 0 :: n :: _ => Cond.constant own idx (Int32.ofNat n) ∈ lw_all
  | 1 :: n :: _ => (∃ tx, (own, idx, tx, n) ∈ strL) ∨ (n = 202 ∧ Cond.classLink own idx "[Ljava/lang/Object;" ∈ lw_all)
  | _ => True
def gsOK (own : String) (idx : Nat) (x : List Nat) : Prop :=
  match x with
  | 0 :: n :: _ => n = 1 ∧ Cond.fieldLink own idx "java/lang/String" "COMPACT_STRINGS" "Z" ∈ lw_all
  | 1 :: n :: _ => (n = 200 ∧ Cond.fieldLink own idx "java/util/ArrayList" "DEFAULTCAPACITY_EMPTY_ELEMENTDATA" "[Ljava/lang/Object;" ∈ lw_all) ∨ (n = 201 ∧ Cond.fieldLink own idx "jdk/internal/util/Preconditions" "SIOOBE_FORMATTER" "Ljava/util/function/BiFunction;" ∈ lw_all)
  | _ => True
def gcOK (own : String) (idx : Nat) : Prop := Cond.methodLink own idx ⟨"java/lang/Object", "getClass", "()Ljava/lang/Class;"⟩ ∈ lw_all ∧ Cond.selects "[Ljava/lang/Object;" ⟨"java/lang/Object", "getClass", "()Ljava/lang/Class;"⟩ ⟨"java/lang/Object", "getClass", "()Ljava/lang/Class;"⟩ ∈ lw_all ∧ Cond.instanceMethod ⟨"java/lang/Object", "getClass", "()Ljava/lang/Class;"⟩ ∈ lw_all ∧ Cond.native ⟨"java/lang/Object", "getClass", "()Ljava/lang/Class;"⟩ ∈ lw_all
def oiOK (own : String) (idx : Nat) : Prop := Cond.methodLink own idx Lib.objectInit ∈ lw_all ∧ Cond.instanceMethod Lib.objectInit ∈ lw_all ∧ Cond.code Lib.objectInit ⟨#[0xb1]⟩ 1 none ∈ lw_all
/-- methods that are called under a contract -/
def gk (k : Nat) : Prop := k < 372 ∧ ¬ k = 76 ∧ ¬ k = 371 ∧ ¬ k = 364 ∧ ¬ k = 365
def evens : List Nat → List (Nat × Nat)
  | c :: k :: r => (c, k) :: evens r
  | _ => []
/-- an instruction's length -/
def ilen (i : Instr) : Nat :=
  match i with
  | .bipush _ => 2
  | .ldc _ => 2
  | .iload _ => 2
  | .aload _ => 2
  | .istore _ => 2
  | .astore _ => 2
  | .newarray _ => 2
  | .sipush _ => 3
  | .ldc_w _ => 3
  | .ldc2_w _ => 3
  | .iinc _ _ => 3
  | .getstatic _ => 3
  | .getfield _ => 3
  | .putfield _ => 3
  | .new _ => 3
  | .anewarray _ => 3
  | .checkcast _ => 3
  | .instanceof _ => 3
  | .invokestatic _ => 3
  | .invokespecial _ => 3
  | .invokevirtual _ => 3
  | .ifCond _ _ => 3
  | .if_icmp _ _ => 3
  | .if_acmp _ _ => 3
  | .ifnull _ => 3
  | .ifnonnull _ => 3
  | .goto _ => 3
  | _ => 1
/-- what an instruction refers to is what x says -/
def LNK (y : MethodName) (ret : Option FieldType) (pc : Nat) (i : Instr) (x : List Nat) : Prop :=
  match i with
  | .bipush n => (Int8.ofInt n).toInt32 = Int32.ofInt n
  | .sipush n => (Int16.ofInt n).toInt32 = Int32.ofInt n
  | .ldc idx => ldcOK y.cls idx x
  | .ldc_w idx => ldcOK y.cls idx x ∧ x.head? ≠ some 1 ∨ (∃ n tx, x = [1, n] ∧ (y.cls, idx, tx, n) ∈ strL)
  | .ldc2_w idx => match x with
    | n :: _ => Cond.constantLong y.cls idx (Int64.ofNat n) ∈ lw_all
    | _ => True
  | .getstatic idx => gsOK y.cls idx x
  | .getfield idx => match x with
    | _ :: k :: cs => FOKg y.cls idx k cs
    | _ => True
  | .putfield idx => match x with
    | ty :: k :: cs => FOKp y.cls (decide (y.name = "<init>")) idx k ty cs
    | _ => True
  | .new idx => match x with
    | ci :: _ => NOK y.cls idx ci
    | _ => True
  | .newarray a => match x with
    | t :: _ => atyp t a ∧ Cond.arrayClass (newarray.typeOf a) ∈ lw_all
    | _ => True
  | .anewarray idx => Cond.classLink y.cls idx "java/lang/Object" ∈ lw_all
  | .checkcast idx => COK y.cls idx x
  | .instanceof idx => match x with
    | n :: cs => IOK y.cls idx (cs.take n) (cs.drop n)
    | _ => True
  | .invokestatic idx => match x with
    | 9 :: _ => AOK y.cls idx
    | 10 :: _ => Cond.methodLink y.cls idx Lib.Math.max.name ∈ lw_all
    | 11 :: _ => Cond.methodLink y.cls idx Lib.Math.min.name ∈ lw_all
    | 0 :: n :: _ :: k :: _ => gk k ∧ SOKc y.cls idx n (mi k).1
    | _ => True
  | .invokespecial idx => match x with
    | 0 :: n :: _ :: k :: _ => gk k ∧ POKc y.cls idx n (mi k).1 (mi k).2.2
    | 8 :: _ => oiOK y.cls idx
    | _ => True
  | .invokevirtual idx => match x with
    | 0 :: n :: _ :: k :: cs => gk k ∧ ∀ ci ∈ cs, VOKc y.cls idx n ci (mi k).1
    | 1 :: n :: _ :: ps => ∀ q ∈ evens ps, gk q.2 ∧ VOKc y.cls idx n q.1 (mi q.2).1
    | 7 :: n :: _ => n = 202 ∧ gcOK y.cls idx
    | _ => True
  | .ifCond _ off => match x with
    | t :: nx :: _ => (pc : Int) + off = (t : Int) ∧ nx = pc + 3
    | _ => True
  | .if_icmp _ off => match x with
    | t :: nx :: _ => (pc : Int) + off = (t : Int) ∧ nx = pc + 3
    | _ => True
  | .if_acmp _ off => match x with
    | t :: nx :: _ => (pc : Int) + off = (t : Int) ∧ nx = pc + 3
    | _ => True
  | .ifnull off => match x with
    | t :: nx :: _ => (pc : Int) + off = (t : Int) ∧ nx = pc + 3
    | _ => True
  | .ifnonnull off => match x with
    | t :: nx :: _ => (pc : Int) + off = (t : Int) ∧ nx = pc + 3
    | _ => True
  | .goto off => match x with
    | t :: _ => (pc : Int) + off = (t : Int)
    | _ => True
  | .tableswitch df lo hi offs => match x with
    | d :: ts => (pc : Int) + df = (d : Int) ∧ ts.map Int.ofNat = offs.toList.map (fun o => (pc : Int) + o) ∧ hi = lo + ts.length - 1 ∧ -2000000000 ≤ lo ∧ hi ≤ 2000000000
    | _ => True
  | .lookupswitch df ps => match x with
    | d :: ts => (pc : Int) + df = (d : Int) ∧ ts.map Int.ofNat = ps.toList.map (fun o => (pc : Int) + o.2) ∧ (ps.toList.zip (ps.toList.drop 1)).all (fun (a, next) => a.1 < next.1) = true ∧ ∀ q ∈ ps.toList, (Int32.ofInt q.1).toInt = q.1
    | _ => True
  | .ireturn => match x, ret with
    | [], some .int => True
    | 1 :: _, some .boolean => True
    | 2 :: _, some .byte => True
    | 3 :: _, some .char => True
    | _, _ => False
  | .areturn => (∃ n, ret = some (.object n)) ∨ ∃ t, ret = some (.array t)
  | .return_ => ret = none
  | _ => True
section SND
variable {p : Program} {l : Launch} {e : Env} {R : Room} {s : State} {m : MethodId} {args : Array Value} {below : List Frame} {meth : Method} {c : Code} {Q : State → Prop} {g : GG} {D : GD} {h0 : AH} {cc : ByteArray} {nL : Nat} {h : AH} {pc n : Nat} {L S L' S' : List AV} {x : List Nat} {i : Instr}
theorem bin_of {f : Int32 → Int32 → Int32} (hp : bin f L S = some (L', S')) : ∃ a b r, S = .inl b :: .inl a :: r ∧ L' = L ∧ S' = .inl (f a b) :: r := by
  unfold bin at hp
  split at hp
  · cases hp; exact ⟨_, _, _, rfl, rfl, rfl⟩
  · cases hp
theorem una_of {f : Int32 → AV} (hp : una f L S = some (L', S')) : ∃ a r, S = .inl a :: r ∧ L' = L ∧ S' = f a :: r := by
  unfold una at hp
  split at hp
  · cases hp; exact ⟨_, _, rfl, rfl, rfl⟩
  · cases hp
theorem binJ_of {f : Int64 → Int64 → AV} (hp : binJ f L S = some (L', S')) : ∃ a b r, S = .inr (.inr (.inl b)) :: .inr (.inr (.inl a)) :: r ∧ L' = L ∧ S' = f a b :: r := by
  unfold binJ at hp
  split at hp
  · cases hp; exact ⟨_, _, _, rfl, rfl, rfl⟩
  · cases hp
theorem ldl_of {k : Nat} (hp : ldl L S k = some (L', S')) : ∃ v, L[k]? = some (.inl v) ∧ L' = L ∧ S' = .inl v :: S := by
  unfold ldl at hp
  split at hp
  next v hv => cases hp; exact ⟨v, hv, rfl, rfl⟩
  · cases hp
theorem ldp_of {k : Nat} (hp : ldp L S k = some (L', S')) : ∃ v, L[k]? = some (.inr (.inl v)) ∧ L' = L ∧ S' = .inr (.inl v) :: S := by
  unfold ldp at hp
  split at hp
  next v hv => cases hp; exact ⟨v, hv, rfl, rfl⟩
  · cases hp
theorem stl_of {k : Nat} (hp : stl L S k = some (L', S')) : ∃ v r, S = .inl v :: r ∧ k < L.length ∧ L' = L.set k (.inl v) ∧ S' = r := by
  unfold stl at hp
  split at hp
  · split at hp
    next hk => cases hp; exact ⟨_, _, rfl, of_decide_eq_true hk, rfl, rfl⟩
    · cases hp
  · cases hp
theorem stp_of {k : Nat} (hp : stp L S k = some (L', S')) : ∃ v r, S = .inr (.inl v) :: r ∧ k < L.length ∧ L' = L.set k (.inr (.inl v)) ∧ S' = r := by
  unfold stp at hp
  split at hp
  · split at hp
    next hk => cases hp; exact ⟨_, _, rfl, of_decide_eq_true hk, rfl, rfl⟩
    · cases hp
  · cases hp
/-- ldc_w of a String constant -/
theorem w_ldcwS (hx : p.tables.exec = Jvm.exec) (hb : c.code = cc) {H : Heap} {locs : List Loc} {cells slots : Nat} {ls : Array Slot} {rest : List Value} {own tx : String} {index q : Nat} (hown : s.vm.findClass own = some m.cls) (hZ : vk_R own index tx q s) (hdg : decode cc pc = .ok (.ldc_w index, 3))
    (k : W p l e R s m args below meth c H locs cells slots Q (F0 m (pc + 3) ls (.ref q :: rest))) : W p l e R s m args below meth c H locs cells slots Q (F0 m pc ls rest) := by
  intro T hT X
  obtain ⟨t, a1, b1⟩ := k T hT X
  refine ⟨t, ?_, b1⟩
  obtain ⟨k, cf, i, a', hk, hcf, hcp, -, hr, hev'⟩ := Cond.stringRef_spec (args := #[]) hown hZ.1
  cases hZ.2.symm.trans hev'
  obtain ⟨k', hk', he⟩ := X.warmed.alike.2.2 _ _ hk
  have hr' : k'.resolved[index]? = some (some (.string q)) := by
    rcases X.warmed.entry hk hk' index with h | ⟨h, -⟩
    · rw [h]; exact hr
    · rw [hr] at h; cases h
  jvm_step X.here [X.here.top, hx, hb, hdg, ldc_w.wp_string (e := e) (s := T) (f := F0 m pc ls rest) X.here.top hk' (by rw [he]; exact hcf) hcp hr']
  exact a1
end SND
