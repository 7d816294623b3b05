/-! THE ABSTRACT MACHINE: a heap of cells by address, methods' code as blocks of decoded instructions with what they refer to worked out (x); 'cal' runs a method: none, or its answer and the heap behind it -/
set_option maxRecDepth 100000
/-- abstract values: an int; a reference or null; a long; unknown -/
abbrev AV : Type := Int32 ⊕ (Option Nat ⊕ (Int64 ⊕ Unit))
abbrev vI (x : Int32) : AV := .inl x
abbrev vP (o : Option Nat) : AV := .inr (.inl o)
abbrev vJ (x : Int64) : AV := .inr (.inr (.inl x))
abbrev vU : AV := .inr (.inr (.inr ()))
/-- a cell: an array (the number of its type, its length, its contents) or an object (the number of its class, its fields). Types of arrays: 0 int, 1 boolean, 2 byte, 3 long, 4 Object -/
abbrev HC : Type := (Nat × vp_A) ⊕ (Nat × List AV)
/-- the heap: cells; how many, how many slots -/
abbrev AH : Type := (Nat → Option HC) × (Nat × Nat)
/-- constants of a run: the first own address, most cells, most slots; addresses of constants -/
abbrev GG : Type := (Nat × Nat × Nat) × (Nat → Nat)
abbrev AR : Type := Option AV × AH
/-- an index within -/
def inb (i : Int32) (n : Nat) : Bool := decide (0 ≤ i.toInt) && decide (i.toInt < n)
/-- a cell replaced -/
def hset (h : AH) (a : Nat) (e : HC) : AH := (fun q => if q = a then some e else h.1 q, h.2)
/-- a cell made -/
def hpush (h : AH) (e : HC) (n : Nat) : AH := (fun q => if q = h.2.1 then some e else h.1 q, (h.2.1 + 1, h.2.2 + n))
/-- a field read: the object's class must be one of cs -/
def hgetI (h : AH) (o : Option Nat) (k : Nat) (cs : List Nat) : Option Int32 :=
  match o with
  | none => none
  | some a => match h.1 a with
    | some (.inr (ci, fs)) => if cs.contains ci = true then (match fs[k]? with | some (.inl v) => some v | _ => none) else none
    | _ => none
def hgetP (h : AH) (o : Option Nat) (k : Nat) (cs : List Nat) : Option (Option Nat) :=
  match o with
  | none => none
  | some a => match h.1 a with
    | some (.inr (ci, fs)) => if cs.contains ci = true then (match fs[k]? with | some (.inr (.inl v)) => some v | _ => none) else none
    | _ => none
def hput (g : GG) (h : AH) (o : Option Nat) (k : Nat) (cs : List Nat) (v : AV) : Option AH :=
  match o with
  | none => none
  | some a => match h.1 a with
    | some (.inr (ci, fs)) => if g.1.1 ≤ a ∧ cs.contains ci = true ∧ k < fs.length then some (hset h a (.inr (ci, fs.set k v))) else none
    | _ => none
def hputZ (g : GG) (h : AH) (o : Option Nat) (k : Nat) (cs : List Nat) (v : Int32) : Option AH := if v = 0 ∨ v = 1 then hput g h o k cs (vI v) else none
def hputB (g : GG) (h : AH) (o : Option Nat) (k : Nat) (cs : List Nat) (v : Int32) : Option AH := if v.toInt8.toInt32 = v then hput g h o k cs (vI v) else none
def haldI (h : AH) (o : Option Nat) (i : Int32) (ts : List Nat) : Option Int32 :=
  match o with
  | none => none
  | some a => match h.1 a with
    | some (.inl (t, n, .inl f)) => if ts.contains t = true ∧ inb i n = true then some (f i.toNatClampNeg) else none
    | _ => none
def haldJ (h : AH) (o : Option Nat) (i : Int32) : Option Int64 :=
  match o with
  | none => none
  | some a => match h.1 a with
    | some (.inl (t, n, .inr (.inl f))) => if t = 3 ∧ inb i n = true then some (f i.toNatClampNeg) else none
    | _ => none
def haldP (h : AH) (o : Option Nat) (i : Int32) : Option (Option Nat) :=
  match o with
  | none => none
  | some a => match h.1 a with
    | some (.inl (t, n, .inr (.inr (.inr (.inr f))))) => if t = 4 ∧ inb i n = true then some (f i.toNatClampNeg) else none
    | _ => none
/-- what an array of type t keeps of an int -/
def stN (t : Nat) (v : Int32) : Int32 := if t = 2 then v.toInt8.toInt32 else v
def hastI (g : GG) (h : AH) (o : Option Nat) (i : Int32) (ts : List Nat) (v : Int32) : Option AH :=
  match o with
  | none => none
  | some a => match h.1 a with
    | some (.inl (t, n, .inl f)) => if g.1.1 ≤ a ∧ ts.contains t = true ∧ inb i n = true ∧ (t = 1 → v = 0 ∨ v = 1) then some (hset h a (.inl (t, n, .inl (fun j => if j = i.toNatClampNeg then stN t v else f j)))) else none
    | _ => none
def hastJ (g : GG) (h : AH) (o : Option Nat) (i : Int32) (v : Int64) : Option AH :=
  match o with
  | none => none
  | some a => match h.1 a with
    | some (.inl (t, n, .inr (.inl f))) => if g.1.1 ≤ a ∧ t = 3 ∧ inb i n = true then some (hset h a (.inl (t, n, .inr (.inl (fun j => if j = i.toNatClampNeg then v else f j))))) else none
    | _ => none
/-- the number of an object's class -/
def hclass (h : AH) (a : Nat) : Option Nat :=
  match h.1 a with
  | some (.inr (ci, _)) => some ci
  | _ => none
/-- what an array of objects may hold -/
def hok (h : AH) (v : Option Nat) : Bool :=
  match v with
  | none => true
  | some a => match h.1 a with
    | some (.inr (ci, _)) => decide (ci < 22)
    | _ => false
def hastP (g : GG) (h : AH) (o : Option Nat) (i : Int32) (v : Option Nat) : Option AH :=
  match o with
  | none => none
  | some a => match h.1 a with
    | some (.inl (t, n, .inr (.inr (.inr (.inr f))))) => if g.1.1 ≤ a ∧ t = 4 ∧ inb i n = true ∧ hok h v = true then some (hset h a (.inl (t, n, .inr (.inr (.inr (.inr (fun j => if j = i.toNatClampNeg then v else f j))))))) else none
    | _ => none
def hlen (h : AH) (o : Option Nat) : Option Int32 :=
  match o with
  | none => none
  | some a => match h.1 a with
    | some (.inl (t, n, _)) => if t < 5 then some (Int32.ofNat n) else none
    | _ => none
/-- an object of one of these classes -/
def hcls (h : AH) (o : Option Nat) (cs : List Nat) : Option Nat :=
  match o with
  | none => none
  | some a => match h.1 a with
    | some (.inr (ci, _)) => if cs.contains ci = true then some a else none
    | _ => none
def lkN : List Nat → Nat → Option Nat
  | c :: k :: r, ci => if c = ci then some k else lkN r ci
  | _, _ => none
/-- an object and the method that its class selects: pairs class, method -/
def hdis (h : AH) (o : Option Nat) (ps : List Nat) : Option (Nat × Nat) :=
  match o with
  | none => none
  | some a => match h.1 a with
    | some (.inr (ci, _)) => match lkN ps ci with
      | some k => some (a, k)
      | none => none
    | _ => none
/-- null, or an object of one of these classes (100 + t: an array of type t) -/
def hcast (h : AH) (o : Option Nat) (cs : List Nat) : Option (Option Nat) :=
  match o with
  | none => some none
  | some a => match h.1 a with
    | some (.inr (ci, _)) => if cs.contains ci = true then some (some a) else none
    | some (.inl (t, _)) => if cs.contains (100 + t) = true then some (some a) else none
    | none => none
/-- an array of objects -/
def hisA (h : AH) (o : Option Nat) : Option Unit :=
  match o with
  | none => none
  | some a => match h.1 a with
    | some (.inl (t, _)) => if t = 4 then some () else none
    | _ => none
/-- whether an object's class is one of cs; all others that there may be: ds -/
def hinst (h : AH) (o : Option Nat) (cs ds : List Nat) : Option Int32 :=
  match o with
  | none => some 0
  | some a => match h.1 a with
    | some (.inr (ci, _)) => if cs.contains ci = true then some 1 else if ds.contains ci = true then some 0 else none
    | _ => none
/-- what a field of a class holds at first: a number of its own for each class of objects -/
def dflF (c : Nat) : List AV :=
  match c with
  | 0 => [vP none, vI 0, vI 0, vI 0, vI 0, vP none, vP none, vP none, vP none, vP none, vP none, vP none]
  | 1 => [vI 0, vP none, vI 0, vI 0, vI 0, vI 0, vI 0, vI 0, vI 0, vI 0, vI 0, vI 0, vP none, vI 0, vI 0, vP none, vP none, vP none, vP none, vP none, vP none, vI 0, vI 0, vP none, vI 0, vI 0, vI 0, vI 0, vI 0, vI 0, vP none, vP none, vP none, vP none, vP none, vP none, vP none, vP none, vI 0, vI 0, vI 0]
  | 2 => [vP none, vP none, vP none, vI 0, vI 0]
  | 3 => [vP none, vI 0, vI 0]
  | 4 => [vI 0, vI 0, vI 0, vI 0, vI 0, vI 0, vP none, vP none, vP none, vP none, vP none, vI 0, vI 0]
  | 5 => [vI 0, vI 0, vI 0, vP none]
  | 6 => [vP none, vI 0, vI 0, vI 0, vP none]
  | 7 => [vP none, vI 0, vI 0, vI 0, vI 0, vI 0]
  | 8 => [vP none, vI 0, vI 0, vI 0, vI 0, vI 0]
  | 9 => [vP none, vI 0, vI 0, vI 0, vI 0, vI 0]
  | 10 => [vP none, vI 0, vI 0, vI 0, vI 0, vI 0]
  | 11 => [vI 0, vI 0]
  | 12 => [vP none, vP none, vP none, vP none, vP none, vP none, vP none, vI 0, vI 0, vI 0]
  | 13 => [vP none, vP none, vI 0, vP none, vI 0]
  | 14 => [vP none, vP none, vI 0, vP none, vP none, vI 0, vI 0, vI 0]
  | 15 => [vP none, vP none, vI 0, vP none, vP none, vP none, vP none, vP none, vI 0]
  | 16 => [vP none, vP none, vP none, vP none, vP none, vI 0, vI 0, vI 0, vI 0]
  | 17 => []
  | 18 => []
  | 19 => []
  | 20 => []
  | 21 => []
  | 22 => [vI 0, vP none, vI 0]
  | 23 => [vP none, vI 0, vI 0, vI 0]
  | 24 => [vP none, vI 0, vI 0, vI 0]
  | _ => [vP none, vP none, vP none, vP none, vP none, vI 0]
def hnew (g : GG) (h : AH) (c : Nat) : Option AH := if h.2.1 + 1 ≤ g.1.2.1 ∧ h.2.2 + (dflF c).length ≤ g.1.2.2 then some (hpush h (.inr (c, dflF c)) (dflF c).length) else none
/-- an array's contents at first -/
def dflA (t : Nat) : (Nat → Int32) ⊕ (Nat → Int64) ⊕ (Nat → UInt32) ⊕ (Nat → UInt64) ⊕ (Nat → Option Nat) :=
  match t with
  | 3 => .inr (.inl (fun _ => 0))
  | 4 => .inr (.inr (.inr (.inr (fun _ => none))))
  | _ => .inl (fun _ => 0)
def hnewA (g : GG) (h : AH) (t : Nat) (n : Int32) : Option AH := if ¬ n < 0 ∧ n.toNatClampNeg ≤ 60000000 ∧ h.2.1 + 1 ≤ g.1.2.1 ∧ h.2.2 + n.toNatClampNeg ≤ g.1.2.2 then some (hpush h (.inl (t, n.toNatClampNeg, dflA t)) n.toNatClampNeg) else none
/-- System.arraycopy -/
def hcopy (g : GG) (h : AH) (s : Option Nat) (sp : Int32) (d : Option Nat) (dp n : Int32) : Option AH :=
  match s, d with
  | some a, some b => match h.1 a, h.1 b with
    | some (.inl (t, m, .inl f)), some (.inl (u, k, .inl f2)) => if g.1.1 ≤ b ∧ t = u ∧ (t = 0 ∨ t = 2) ∧ ¬ sp < 0 ∧ ¬ dp < 0 ∧ ¬ n < 0 ∧ sp.toNatClampNeg + n.toNatClampNeg ≤ m ∧ dp.toNatClampNeg + n.toNatClampNeg ≤ k ∧ (t = 2 → ∀ i, i < n.toNatClampNeg → fits .byte (.int (f (sp.toNatClampNeg + i))) = true) then some (hset h b (.inl (u, k, .inl (va_cpy f f2 sp.toNatClampNeg dp.toNatClampNeg n.toNatClampNeg)))) else none
    | some (.inl (t, m, .inr (.inr (.inr (.inr f))))), some (.inl (u, k, .inr (.inr (.inr (.inr f2))))) => if g.1.1 ≤ b ∧ t = 4 ∧ u = 4 ∧ ¬ sp < 0 ∧ ¬ dp < 0 ∧ ¬ n < 0 ∧ sp.toNatClampNeg + n.toNatClampNeg ≤ m ∧ dp.toNatClampNeg + n.toNatClampNeg ≤ k ∧ (∀ i, i < n.toNatClampNeg → hok h (f (sp.toNatClampNeg + i)) = true) then some (hset h b (.inl (u, k, .inr (.inr (.inr (.inr (va_cpy f f2 sp.toNatClampNeg dp.toNatClampNeg n.toNatClampNeg))))))) else none
    | _, _ => none
  | _, _ => none
/-- n values popped off, in the order of the arguments -/
def popN : Nat → List AV → List AV → Option (List AV × List AV)
  | 0, acc, S => some (acc, S)
  | n + 1, acc, v :: S => popN n (v :: acc) S
  | _ + 1, _, [] => none
def bin (f : Int32 → Int32 → Int32) (L S : List AV) : Option (List AV × List AV) :=
  match S with
  | .inl b :: .inl a :: r => some (L, .inl (f a b) :: r)
  | _ => none
def binJ (f : Int64 → Int64 → AV) (L S : List AV) : Option (List AV × List AV) :=
  match S with
  | .inr (.inr (.inl b)) :: .inr (.inr (.inl a)) :: r => some (L, f a b :: r)
  | _ => none
def una (f : Int32 → AV) (L S : List AV) : Option (List AV × List AV) :=
  match S with
  | .inl a :: r => some (L, f a :: r)
  | _ => none
def ldl (L S : List AV) (i : Nat) : Option (List AV × List AV) :=
  match L[i]? with
  | some (.inl v) => some (L, .inl v :: S)
  | _ => none
def ldp (L S : List AV) (i : Nat) : Option (List AV × List AV) :=
  match L[i]? with
  | some (.inr (.inl v)) => some (L, .inr (.inl v) :: S)
  | _ => none
def stl (L S : List AV) (i : Nat) : Option (List AV × List AV) :=
  match S with
  | .inl v :: r => (match decide (i < L.length) with | true => some (L.set i (.inl v), r) | false => none)
  | _ => none
def stp (L S : List AV) (i : Nat) : Option (List AV × List AV) :=
  match S with
  | .inr (.inl v) :: r => (match decide (i < L.length) with | true => some (L.set i (.inr (.inl v)), r) | false => none)
  | _ => none
/-- of one word -/
def one (v : AV) : Bool :=
  match v with
  | .inl _ => true
  | .inr (.inl _) => true
  | _ => false
/-- words of a stack -/
def wt : List AV → Nat
  | [] => 0
  | .inr (.inr (.inl _)) :: r => wt r + 2
  | _ :: r => wt r + 1
/-- a call is made over at most 8 words -/
def gst (r : List AV) (x : Option AR) : Option AR :=
  match Nat.ble (wt r) 8 with
  | true => x
  | false => none
/-- instructions that touch locals and operand stack alone -/
def pst (g : GG) (i : Instr) (x : List Nat) (L S : List AV) : Option (List AV × List AV) :=
  match i with
  | .iconst n => some (L, vI (Int32.ofInt n) :: S)
  | .bipush n => some (L, vI (Int32.ofInt n) :: S)
  | .sipush n => some (L, vI (Int32.ofInt n) :: S)
  | .ldc _ => match x with
    | 0 :: n :: _ => some (L, vI (Int32.ofNat n) :: S)
    | 1 :: n :: _ => some (L, vP (some (g.2 n)) :: S)
    | _ => none
  | .ldc_w _ => match x with
    | 0 :: n :: _ => some (L, vI (Int32.ofNat n) :: S)
    | 1 :: n :: _ => some (L, vP (some (g.2 n)) :: S)
    | _ => none
  | .ldc2_w _ => match x with
    | n :: _ => some (L, vJ (Int64.ofNat n) :: S)
    | _ => none
  | .getstatic _ => match x with
    | 0 :: n :: _ => some (L, vI (Int32.ofNat n) :: S)
    | 1 :: n :: _ => some (L, vP (some (g.2 n)) :: S)
    | _ => none
  | .aconst_null => some (L, vP none :: S)
  | .iload_n k => ldl L S k.val
  | .iload k => ldl L S k
  | .aload_n k => ldp L S k.val
  | .aload k => ldp L S k
  | .istore_n k => stl L S k.val
  | .istore k => stl L S k
  | .astore_n k => stp L S k.val
  | .astore k => stp L S k
  | .iadd => bin (fun a b => a + b) L S
  | .isub => bin (fun a b => a - b) L S
  | .imul => bin (fun a b => a * b) L S
  | .iand => bin (fun a b => a &&& b) L S
  | .ior => bin (fun a b => a ||| b) L S
  | .ishl => bin (fun a b => a <<< (b &&& 31)) L S
  | .ishr => bin (fun a b => a >>> (b &&& 31)) L S
  | .iushr => bin (fun a b => (a.toUInt32 >>> (b.toUInt32 &&& Int32.toUInt32 31)).toInt32) L S
  | .i2l => una (fun a => vJ a.toInt64) L S
  | .i2b => una (fun a => vI a.toInt8.toInt32) L S
  | .i2c => una (fun a => vI (a.toUInt32 % 65536).toInt32) L S
  | .l2i => match S with
    | .inr (.inr (.inl a)) :: r => some (L, vI a.toInt32 :: r)
    | _ => none
  | .ladd => binJ (fun a b => vJ (a + b)) L S
  | .lmul => binJ (fun a b => vJ (a * b)) L S
  | .lcmp => binJ (fun a b => vI (lg_cmp a b)) L S
  | .iinc k n => match L[k]? with
    | some (.inl v) => some (L.set k (.inl (v + Int32.ofInt n)), S)
    | _ => none
  | .dup => match S with
    | v :: r => match one v with | true => some (L, v :: v :: r) | false => none
    | _ => none
  | .dup_x1 => match S with
    | v :: w :: r => match one v && one w with | true => some (L, v :: w :: v :: r) | false => none
    | _ => none
  | .dup2 => match S with
    | v :: w :: r => match one v && one w with | true => some (L, v :: w :: v :: w :: r) | false => none
    | _ => none
  | .pop => match S with
    | v :: r => match one v with | true => some (L, r) | false => none
    | _ => none
  | _ => none
/-- behind a call that answers nothing, an int, a reference -/
def kresV (x : Option AR) (K : AH → Option AR) : Option AR :=
  match x with
  | some (none, h) => K h
  | _ => none
def kresI (x : Option AR) (K : Int32 → AH → Option AR) : Option AR :=
  match x with
  | some (some (.inl v), h) => K v h
  | _ => none
def kresP (x : Option AR) (K : Option Nat → AH → Option AR) : Option AR :=
  match x with
  | some (some (.inr (.inl v)), h) => K v h
  | _ => none
/-- what a call leaves on the stack: r 0 nothing, 1 an int, 2 a reference -/
def kres (r : Nat) (x : Option AR) (S : List AV) (K : List AV → AH → Option AR) : Option AR :=
  match r with
  | 0 => kresV x fun h => K S h
  | 1 => kresI x fun v h => K (.inl v :: S) h
  | 2 => kresP x fun v h => K (.inr (.inl v) :: S) h
  | _ => none
def swT (x : Int32) : Int → List Nat → (Nat → Option AR) → Nat → Option AR
  | _, [], J, d => J d
  | lo, t :: r, J, d => if x = Int32.ofInt lo then J t else swT x (lo + 1) r J d
def swL (x : Int32) : List (Int × Int) → List Nat → (Nat → Option AR) → Nat → Option AR
  | (k, _) :: ps, t :: r, J, d => if x = Int32.ofInt k then J t else swL x ps r J d
  | _, _, J, d => J d
/-- instructions that read or change the heap, call, jump or return. K: go on with the next one; J: go to -/
def hst (g : GG) (C : Nat → List AV → AH → Option AR) (i : Instr) (x : List Nat) (S : List AV) (h : AH) (K : List AV → AH → Option AR) (J : Nat → List AV → Option AR) : Option AR :=
  match i with
  | .idiv => match S with
    | .inl b :: .inl a :: r => if b = 0 then none else K (.inl (a / b) :: r) h
    | _ => none
  | .irem => match S with
    | .inl b :: .inl a :: r => if b = 0 then none else K (.inl (a - a / b * b) :: r) h
    | _ => none
  | .lrem => match S with
    | .inr (.inr (.inl b)) :: .inr (.inr (.inl a)) :: r => if b = 0 then none else K (vJ (a - a / b * b) :: r) h
    | _ => none
  | .getfield _ => match x, S with
    | 0 :: k :: cs, .inr (.inl o) :: r => (hgetI h o k cs).bind fun v => K (.inl v :: r) h
    | 1 :: k :: cs, .inr (.inl o) :: r => (hgetP h o k cs).bind fun v => K (.inr (.inl v) :: r) h
    | _, _ => none
  | .putfield _ => match x, S with
    | 0 :: k :: cs, .inl v :: .inr (.inl o) :: r => (hput g h o k cs (vI v)).bind fun h' => K r h'
    | 1 :: k :: cs, .inr (.inl v) :: .inr (.inl o) :: r => (hput g h o k cs (vP v)).bind fun h' => K r h'
    | 2 :: k :: cs, .inl v :: .inr (.inl o) :: r => (hputZ g h o k cs v).bind fun h' => K r h'
    | 3 :: k :: cs, .inl v :: .inr (.inl o) :: r => (hputB g h o k cs v).bind fun h' => K r h'
    | _, _ => none
  | .iaload => match S with
    | .inl j :: .inr (.inl o) :: r => (haldI h o j [0]).bind fun v => K (.inl v :: r) h
    | _ => none
  | .baload => match S with
    | .inl j :: .inr (.inl o) :: r => (haldI h o j [1, 2]).bind fun v => K (.inl v :: r) h
    | _ => none
  | .laload => match S with
    | .inl j :: .inr (.inl o) :: r => (haldJ h o j).bind fun v => K (vJ v :: r) h
    | _ => none
  | .aaload => match S with
    | .inl j :: .inr (.inl o) :: r => (haldP h o j).bind fun v => K (.inr (.inl v) :: r) h
    | _ => none
  | .iastore => match S with
    | .inl v :: .inl j :: .inr (.inl o) :: r => (hastI g h o j [0] v).bind fun h' => K r h'
    | _ => none
  | .bastore => match S with
    | .inl v :: .inl j :: .inr (.inl o) :: r => (hastI g h o j [1, 2] v).bind fun h' => K r h'
    | _ => none
  | .aastore => match S with
    | .inr (.inl v) :: .inl j :: .inr (.inl o) :: r => (hastP g h o j v).bind fun h' => K r h'
    | _ => none
  | .arraylength => match S with
    | .inr (.inl o) :: r => (hlen h o).bind fun v => K (.inl v :: r) h
    | _ => none
  | .new _ => match x with
    | 99 :: _ => gst S (if h.2.1 + 1 ≤ g.1.2.1 ∧ h.2.2 + 6 ≤ g.1.2.2 then some (some vU, (h.1, (h.2.1 + 1, h.2.2 + 6))) else none)
    | c :: _ => (hnew g h c).bind fun h' => K (vP (some h.2.1) :: S) h'
    | _ => none
  | .newarray _ => match x, S with
    | t :: _, .inl n :: r => (hnewA g h t n).bind fun h' => K (vP (some h.2.1) :: r) h'
    | _, _ => none
  | .anewarray _ => match S with
    | .inl n :: r => (hnewA g h 4 n).bind fun h' => K (vP (some h.2.1) :: r) h'
    | _ => none
  | .checkcast _ => match x, S with
    | cs, .inr (.inl o) :: r => (hcast h o cs).bind fun v => K (.inr (.inl v) :: r) h
    | _, _ => none
  | .instanceof _ => match x, S with
    | n :: cs, .inr (.inl o) :: r => (hinst h o (cs.take n) (cs.drop n)).bind fun v => K (.inl v :: r) h
    | _, _ => none
  | .invokestatic _ => match x with
    | 9 :: _ => match S with
      | .inl n :: .inl dp :: .inr (.inl d) :: .inl sp :: .inr (.inl s) :: r => gst r ((hcopy g h s sp d dp n).bind fun h' => K r h')
      | _ => none
    | 10 :: _ => match S with
      | .inl b :: .inl a :: r => gst r (K (.inl (if a < b then b else a) :: r) h)
      | _ => none
    | 11 :: _ => match S with
      | .inl b :: .inl a :: r => gst r (K (.inl (if b < a then b else a) :: r) h)
      | _ => none
    | 0 :: n :: ret :: k :: _ => match popN n [] S with
      | some (as, r) => gst r (kres ret (C k as h) r K)
      | none => none
    | _ => none
  | .invokespecial _ => match x with
    | 0 :: n :: ret :: k :: cs => match popN n [] S with
      | some (as, .inr (.inl o) :: r) => gst r ((hcls h o cs).bind fun a => kres ret (C k (vP (some a) :: as) h) r K)
      | _ => none
    | 8 :: _ => match S with
      | .inr (.inl o) :: r => gst r (o.bind fun _ => K r h)
      | _ => none
    | _ => none
  | .invokevirtual _ => match x with
    | 0 :: n :: ret :: k :: cs => match popN n [] S with
      | some (as, .inr (.inl o) :: r) => gst r ((hcls h o cs).bind fun a => kres ret (C k (vP (some a) :: as) h) r K)
      | _ => none
    | 7 :: n :: _ => match S with
      | .inr (.inl o) :: r => gst r ((hisA h o).bind fun _ => K (vP (some (g.2 n)) :: r) h)
      | _ => none
    | 1 :: n :: ret :: ps => match popN n [] S with
      | some (as, .inr (.inl o) :: r) => gst r ((hdis h o ps).bind fun a => kres ret (C a.2 (vP (some a.1) :: as) h) r K)
      | _ => none
    | _ => none
  | .ifCond c _ => match x, S with
    | t :: nx :: _, .inl a :: r => match c with
      | .eq => if a = 0 then J t r else J nx r
      | .ne => if ¬ a = 0 then J t r else J nx r
      | .lt => if a < 0 then J t r else J nx r
      | .ge => if 0 ≤ a then J t r else J nx r
      | .gt => if 0 < a then J t r else J nx r
      | .le => if a ≤ 0 then J t r else J nx r
    | _, _ => none
  | .if_icmp c _ => match x, S with
    | t :: nx :: _, .inl b :: .inl a :: r => match c with
      | .eq => if a = b then J t r else J nx r
      | .ne => if ¬ a = b then J t r else J nx r
      | .lt => if a < b then J t r else J nx r
      | .ge => if b ≤ a then J t r else J nx r
      | .gt => if b < a then J t r else J nx r
      | .le => if a ≤ b then J t r else J nx r
    | _, _ => none
  | .if_acmp c _ => match x, S with
    | t :: nx :: _, .inr (.inl b) :: .inr (.inl a) :: r => match c with
      | .eq => if a = b then J t r else J nx r
      | .ne => if ¬ a = b then J t r else J nx r
    | _, _ => none
  | .ifnull _ => match x, S with
    | t :: nx :: _, .inr (.inl a) :: r => if a = none then J t r else J nx r
    | _, _ => none
  | .ifnonnull _ => match x, S with
    | t :: nx :: _, .inr (.inl a) :: r => if a = none then J nx r else J t r
    | _, _ => none
  | .goto _ => match x with
    | t :: _ => J t S
    | _ => none
  | .tableswitch _ lo _ _ => match x, S with
    | d :: ts, .inl a :: r => swT a lo ts (fun t => J t r) d
    | _, _ => none
  | .lookupswitch _ ps => match x, S with
    | d :: ts, .inl a :: r => swL a ps.toList ts (fun t => J t r) d
    | _, _ => none
  | .ireturn => match x, S with
    | 1 :: _, [.inl v] => if v = 0 ∨ v = 1 then some (some (vI v), h) else none
    | 2 :: _, [.inl v] => if v.toInt8.toInt32 = v then some (some (vI v), h) else none
    | 3 :: _, [.inl v] => if (v.toUInt32 % 65536).toInt32 = v then some (some (vI v), h) else none
    | [], [.inl v] => some (some (vI v), h)
    | _, _ => none
  | .areturn => match S with
    | [.inr (.inl v)] => some (some (vP v), h)
    | _ => none
  | .return_ => match S with
    | [] => some (none, h)
    | _ => none
  | .athrow => match S with
    | .inr (.inl (some _)) :: _ => some (some vU, h)
    | _ => none
  | _ => none
/-- an instruction: its place, itself, its length, what it refers to -/
abbrev Ent : Type := Nat × Instr × Nat × List Nat
def xI (g : GG) (C : Nat → List AV → AH → Option AR) : List Ent → Nat → List AV → List AV → AH → (Nat → List AV → List AV → AH → Option AR) → Option AR
  | [], nx, L, S, h, J => J nx L S h
  | e :: r, nx, L, S, h, J => match pst g e.2.1 e.2.2.2 L S with
    | some p => xI g C r nx p.1 p.2 h J
    | none => hst g C e.2.1 e.2.2.2 S h (fun S' h' => xI g C r nx L S' h' J) (fun t S' => J t L S' h)
/-- a block: its start, its instructions, where it falls through to -/
abbrev Blk : Type := Nat × List Ent × Nat
/-- a method's code: how many locals, blocks, cuts with the locals that live there -/
abbrev CD : Type := Nat × List Blk × List (Nat × List Bool)
def mkL : List Bool → List AV → List AV
  | b :: bs, v :: vs => (match b with | true => v | false => vU) :: mkL bs vs
  | _, vs => vs
def findB : List Blk → Nat → Option (List Ent × Nat)
  | [], _ => none
  | b :: r, pc => match Nat.beq b.1 pc with
    | true => some b.2
    | false => findB r pc
def findM : List (Nat × List Bool) → Nat → Option (List Bool)
  | [], _ => none
  | b :: r, pc => match Nat.beq b.1 pc with
    | true => some b.2
    | false => findM r pc
def xJ (g : GG) (C : Nat → List AV → AH → Option AR) (c : CD) (Kc : Nat → List AV → List AV → AH → Option AR) : Nat → Nat → List AV → List AV → AH → Option AR
  | 0, _, _, _, _ => none
  | n + 1, pc, L, S, h => match findM c.2.2 pc with
    | some bs => Kc pc (mkL bs L) S h
    | none => match findB c.2.1 pc with
      | some b => xI g C b.1 b.2 L S h (xJ g C c Kc n)
      | none => none
/-- from a place to the next cut, or to the method's end -/
def xB (g : GG) (C : Nat → List AV → AH → Option AR) (c : CD) (Kc : Nat → List AV → List AV → AH → Option AR) (pc : Nat) (L S : List AV) (h : AH) : Option AR :=
  match findB c.2.1 pc with
  | some b => xI g C b.1 b.2 L S h (xJ g C c Kc 60)
  | none => none
/-- at most n cuts further -/
def runk (g : GG) (C : Nat → List AV → AH → Option AR) (c : CD) : Nat → Nat → List AV → List AV → AH → Option AR
  | 0, _, _, _, _ => none
  | n + 1, pc, L, S, h => xB g C c (runk g C c n) pc L S h
/-- from a place to the method's end -/
noncomputable def evk (g : GG) (C : Nat → List AV → AH → Option AR) (c : CD) (pc : Nat) (L S : List AV) (h : AH) : Option AR :=
  @dite _ (∃ n, (runk g C c n pc L S h).isSome = true) (Classical.propDecidable _) (fun hx => runk g C c (Classical.choose hx) pc L S h) (fun _ => none)
def padL (n : Nat) (as : List AV) : List AV := as ++ List.replicate (n - as.length) vU
/-! what runs of xI have in common: they go on, or end, in one way -/
/-- x, with J for what goes on: none; or an end that doesn't look at J; or one jump -/
def Tail (x : (Nat → List AV → List AV → AH → Option AR) → Option AR) : Prop :=
  ∀ (J : Nat → List AV → List AV → AH → Option AR) (z : AR), x J = some z → (∀ J', x J' = some z) ∨ ∃ pc L S h, J pc L S h = some z ∧ ∀ (J' : Nat → List AV → List AV → AH → Option AR), J' pc L S h = some z → x J' = some z
