/-! SOUNDNESS, 2: what is known of the tables; heap instructions -/
set_option maxRecDepth 100000
/-- types of arrays by number -/
def tyA (t : Nat) : Option FieldType :=
  match t with
  | 0 => some .int
  | 1 => some .boolean
  | 2 => some .byte
  | 3 => some .long
  | 4 => some (.object "java/lang/Object")
  | _ => none
/-- a private method stands under that name -/
def PrvAt (y : MethodName) (U : State) : Prop := ∃ (mk : MethodId) (meth : Method), U.methodNamed? y = some mk ∧ U.vm.method? mk = some meth ∧ meth.isPrivate = true
def KK (g : GG) (D : GD) (U : State) : Prop :=
  va_K (D.1, D.2.1) vwCl [] U ∧
  (∀ (t : Nat) (ty : FieldType), tyA t = some ty → ArrOfT U (D.2.2.1 t) ty ∧ va_RA U (D.2.2.1 t) ty ∧ U.vm.findClass ("[" ++ ty.toString) = some (D.2.2.1 t)) ∧
  (∀ q ∈ nstF, va_Nw (.fieldLinkNest q.1 q.2.1 q.2.2.1 q.2.2.2.1 q.2.2.2.2.1 q.2.2.2.2.2) U) ∧
  (∀ q ∈ nstM, va_Nw (.methodLinkNest q.1 q.2.1 q.2.2.1 q.2.2.2) U) ∧
  (∀ q ∈ casL, va_Nw (.castable q.1 q.2) U) ∧
  (∀ y ∈ decL, va_Nw (.declares y) U) ∧
  (∀ y ∈ prvL, PrvAt y U) ∧
  (∀ q ∈ ncL, va_Nc q.1 q.2 U) ∧
  (∀ q ∈ strL, vk_R q.1 q.2.1 q.2.2.1 (g.2 q.2.2.2) U) ∧
  va_Z "java/lang/String" "COMPACT_STRINGS" "Z" (.int 1) (fun q => g.1.1 ≤ q) U D.2.2.2 ∧
  va_Z "java/util/ArrayList" "DEFAULTCAPACITY_EMPTY_ELEMENTDATA" "[Ljava/lang/Object;" (.ref (g.2 200)) (fun q => g.1.1 ≤ q) U D.2.2.2 ∧
  va_Z "jdk/internal/util/Preconditions" "SIOOBE_FORMATTER" "Ljava/util/function/BiFunction;" (.ref (g.2 201)) (fun q => g.1.1 ≤ q) U D.2.2.2 ∧
  va_Mi "[Ljava/lang/Object;" (g.2 202) U ∧ va_Dc U ∧ va_AO "java/lang/Object" U
theorem PrvAt.moved {y : MethodName} {u U : State} (hvm : u.vm.Alike U.vm) (h : PrvAt y u) : PrvAt y U := by
  obtain ⟨mk, meth, h1, h2, h3⟩ := h
  refine ⟨mk, meth, ?_, ?_, h3⟩
  · show (u.setVm U.vm).methodNamed? y = some mk
    rw [State.methodNamed?_setVm hvm]
    exact h1
  · rw [hvm.method?]; exact h2
theorem KK.warm {g : GG} {D : GD} {s U : State} (hW : s.WarmedH U.vm) (h : KK g D s) : KK g D U := by
  obtain ⟨k1, k2, k3, k4, k5, k6, k7, k8, k9, k10, k11, k12, k13, k14, k15⟩ := h
  have ha := hW.alike
  refine ⟨va_K.moved ha k1, fun t ty ht => ⟨arrOfT_moved ha (k2 t ty ht).1, (k2 t ty ht).2.1.moved ha, by rw [ha.findClass]; exact (k2 t ty ht).2.2⟩, fun q hq => va_Nw.warmF hW (k3 q hq), fun q hq => va_Nw.warmM hW (k4 q hq), fun q hq => va_Nw.warmC hW (k5 q hq), fun q hq => va_Nw.warmD hW (k6 q hq), fun y hy => (k7 y hy).moved ha, fun q hq => (k8 q hq).moved ha, fun q hq => (k9 q hq).warm hW, k10.moved ha, k11.moved ha, k12.moved ha, k13.moved ha, k14.moved ha, k15.moved ha⟩
theorem KK.call {g : GG} {D : GD} {U : State} (h : KK g D U) (f : JFrame) (mk : MethodId) (a : Array Value) : KK g D (U.calling f mk a) := h.warm (State.WarmedH.refl U)
theorem RH.one {g : GG} {D : GD} {h : AH} {H : Heap} (hR : RH g D h H) {a ci : Nat} {fs : List AV} (ha : h.1 a = some (.inr (ci, fs))) : va_P (D.1, D.2.1) vwCl [(a, .inr (ci, fs.map toV))] H := by
  intro k q hk
  have hz : k < 1 := (List.getElem?_eq_some_iff.mp hk).1
  obtain rfl : k = 0 := by omega
  cases hk
  exact hR.2.1 a _ ha
theorem RH.arr {g : GG} {D : GD} {h : AH} {H : Heap} (hR : RH g D h H) {a t : Nat} {x : vp_A} (ha : h.1 a = some (.inl (t, x))) : va_P (D.1, D.2.1) vwCl [(a, .inl (D.2.2.1 t, x))] H := by
  intro k q hk
  have hz : k < 1 := (List.getElem?_eq_some_iff.mp hk).1
  obtain rfl : k = 0 := by omega
  cases hk
  exact hR.2.1 a _ ha
theorem cellAt.kept {D : GD} {a : Nat} {e : HC} {H H1 : Heap} (h : cellAt D a e H) (hq : H1[a]? = H[a]?) : cellAt D a e H1 := by
  cases e with
  | inl x => exact hq.trans h
  | inr x => exact va_at.kept (D := (D.1, D.2.1)) (cl := vwCl) (q := (a, .inr (x.1, x.2.map toV))) h hq
theorem cellAt.lt {D : GD} {a : Nat} {e : HC} {H : Heap} (h : cellAt D a e H) : a < H.size := by
  cases e with
  | inl x => exact (Array.getElem?_eq_some_iff.mp h).1
  | inr x => exact va_at.lt (D := (D.1, D.2.1)) (cl := vwCl) (q := (a, .inr (x.1, x.2.map toV))) h
/-- one own cell changed -/
theorem RH.set {g : GG} {D : GD} {h : AH} {H H1 : Heap} (hR : RH g D h H) {a : Nat} {e : HC} (hb : g.1.1 ≤ a) (he : cellAt D a e H1) (hz : H1.size = H.size) (oq : ∀ q : Nat, q ≠ a → H1[q]? = H[q]?) : RH g D (hset h a e) H1 := by
  refine ⟨hz.trans hR.1, fun b f hf => ?_, fun q hq => ?_, by rw [hz]; exact hR.2.2.2⟩
  · by_cases hba : b = a
    · subst hba
      have : (if b = b then some e else h.1 b) = some f := hf
      rw [if_pos rfl] at this
      cases this
      exact he
    · have : (if b = a then some e else h.1 b) = some f := hf
      rw [if_neg hba] at this
      exact (hR.2.1 b f this).kept (oq b hba)
  · rw [oq q (by omega)]
    exact hR.2.2.1 q hq
/-- a new cell -/
theorem RH.push {g : GG} {D : GD} {h : AH} {H H1 : Heap} (hR : RH g D h H) {e : HC} {n : Nat} (he : cellAt D h.2.1 e H1) (hz : H1.size = H.size + 1) (oq : ∀ q : Nat, q < H.size → H1[q]? = H[q]?) : RH g D (hpush h e n) H1 := by
  have hs := hR.1
  refine ⟨by rw [hz, hs]; rfl, fun b f hf => ?_, fun q hq => ?_, by rw [hz]; exact Nat.le_succ_of_le hR.2.2.2⟩
  · by_cases hba : b = h.2.1
    · subst hba
      have : (if h.2.1 = h.2.1 then some e else h.1 h.2.1) = some f := hf
      rw [if_pos rfl] at this
      cases this
      exact he
    · have : (if b = h.2.1 then some e else h.1 b) = some f := hf
      rw [if_neg hba] at this
      have h1 := hR.2.1 b f this
      exact h1.kept (oq b h1.lt)
  · have : q < H.size := Nat.lt_of_lt_of_le hq hR.2.2.2
    rw [oq q this]
    exact hR.2.2.1 q hq
theorem inb_in {i : Int32} {n : Nat} (h : inb i n = true) : vp_in i n := by
  unfold inb at h
  simp only [Bool.and_eq_true, decide_eq_true_eq] at h
  rw [vp_in_iff]
  exact ⟨h.1, h.2⟩
/-- what links a field read -/
def FOKg (own : String) (idx k : Nat) (cs : List Nat) : Prop := ∃ ref nm ds, (Cond.fieldLink own idx ref nm ds ∈ lw_all ∨ ∃ host, (own, idx, ref, nm, ds, host) ∈ nstF) ∧ ∀ ci ∈ cs, ∃ q, vwCl[ci]? = some q ∧ k < q.2.2 ∧ (q.2.1 k).2.1 = nm ∧ (q.2.1 k).2.2.1 = ds ∧ ((q.2.1 k).1 = ref ∨ Cond.sameField ref (q.2.1 k).1 nm ds ∈ lw_all)
/-- the kind of a stored value and the field's type -/
def tyOK (ty : Nat) (f : FieldType) : Prop :=
  match ty, f with
  | 0, .int => True
  | 1, .object _ => True
  | 1, .array _ => True
  | 2, .boolean => True
  | 3, .byte => True
  | _, _ => False
def FOKp (own : String) (ini : Bool) (idx k ty : Nat) (cs : List Nat) : Prop := ∃ ref nm ds fty, Cond.fieldLink own idx ref nm ds ∈ lw_all ∧ parseFieldDescriptor ds = some fty ∧ tyOK ty fty ∧ ∀ ci ∈ cs, ∃ q, vwCl[ci]? = some q ∧ k < q.2.2 ∧ (q.2.1 k).2.1 = nm ∧ (q.2.1 k).2.2.1 = ds ∧ ((q.2.1 k).1 = ref ∨ Cond.sameField ref (q.2.1 k).1 nm ds ∈ lw_all) ∧ ((q.2.1 k).2.2.2 = false ∨ ((q.2.1 k).2.2.2 = true ∧ ini = true ∧ (q.2.1 k).1 = own))
section SND
variable {p : Program} {l : Launch} {e : Env} {R : Room} {s : State} {m : MethodId} {args : Array Value} {below : List Frame} {meth : Method} {c : Code} {Q : State → Prop} {g : GG} {D : GD} {h0 : AH} {cc : ByteArray} {nL : Nat}
theorem u_same2 (hts : ∀ w ∈ lw_all, w.before args s = true) {q : vw_C} {k : Nat} {ref nm ds : String} (h1 : (q.2.1 k).2.1 = nm) (h2 : (q.2.1 k).2.2.1 = ds) (h3 : (q.2.1 k).1 = ref ∨ Cond.sameField ref (q.2.1 k).1 nm ds ∈ lw_all) :
    ∀ x, s.fieldFound? (q.2.1 k).1 (q.2.1 k).2.1 (q.2.1 k).2.2.1 = some x → s.fieldFound? ref (q.2.1 k).2.1 (q.2.1 k).2.2.1 = some x := by
  intro x hx
  rcases h3 with h3 | h3
  · rw [← h3]; exact hx
  · rw [h1, h2] at hx ⊢
    exact u_same (hts _ h3) x hx
theorem w_get (hx : p.tables.exec = Jvm.exec) (hb : c.code = cc) (hts : ∀ w ∈ lw_all, w.before args s = true) {own : String} (hown : s.vm.findClass own = some m.cls) (hK : KK g D s) {h : AH} {H : Heap} {locs : List Loc} {cells slots : Nat} {pc idx k a ci : Nat} {cs : List Nat} {fs : List AV} {v : AV} {ls : Array Slot} {rest : List Value} (hR : RH g D h H) (hF : FOKg own idx k cs) (ha : h.1 a = some (.inr (ci, fs))) (hc : ci ∈ cs) (hv : fs[k]? = some v) (hd : decode cc pc = .ok (.getfield idx, 3))
    (kk : W p l e R s m args below meth c H locs cells slots Q (F0 m (pc + 3) ls (toV v :: rest))) : W p l e R s m args below meth c H locs cells slots Q (F0 m pc ls (.ref a :: rest)) := by
  obtain ⟨ref, nm, ds, hl, hcs⟩ := hF
  obtain ⟨q, hq, hkN, e1, e2, e3⟩ := hcs ci hc
  obtain ⟨hin, -⟩ := cls_ok q (List.mem_of_getElem? hq)
  have hvm : (fs.map toV)[k]? = some (toV v) := by rw [List.getElem?_map, hv]; rfl
  rcases hl with hl | ⟨host, hl⟩
  · exact va_get (D := (D.1, D.2.1)) (C := q.1) (T := q.2.1) (N := q.2.2) (tys := []) hx hb hts hin hown hK.1 (hR.one ha) 0 rfl hq k hkN (by rw [e1, e2]; exact hts _ hl) (u_same2 hts e1 e2 e3) hvm hd kk
  · exact va_getN (D := (D.1, D.2.1)) (host := host) (C := q.1) (T := q.2.1) (N := q.2.2) (tys := []) hx hb hts hin hown hK.1 (hR.one ha) 0 rfl hq k hkN (by rw [e1, e2]; exact va_Nw.use rfl (hK.2.2.1 _ hl)) (u_same2 hts e1 e2 e3) hvm hd kk
/-- a value that a field of that kind may hold -/
def vOK (ty : Nat) (v : AV) : Prop :=
  match ty, v with
  | 0, .inl _ => True
  | 1, .inr (.inl _) => True
  | 2, .inl x => x = 0 ∨ x = 1
  | 3, .inl x => x.toInt8.toInt32 = x
  | _, _ => False
theorem fits_b8 (x : Int8) : fits .byte (.int x.toInt32) = true := by
  have h : ∀ n, n < 256 → fits .byte (.int (Int8.ofNat n).toInt32) = true := by decide +kernel
  have h1 := h x.toBitVec.toNat x.toBitVec.isLt
  have : Int8.ofNat x.toBitVec.toNat = x := by
    apply Int8.toBitVec_inj.mp
    apply BitVec.eq_of_toNat_eq
    simp [Int8.toBitVec_ofNat']
  rw [this] at h1
  exact h1
theorem vOK_fits {ty : Nat} {f : FieldType} {v : AV} (h1 : tyOK ty f) (h2 : vOK ty v) : narrow f (toV v) = toV v ∧ fits f (toV v) = true := by
  unfold tyOK at h1
  split at h1
  · match v, h2 with
    | .inl x, _ => exact ⟨rfl, rfl⟩
  · match v, h2 with
    | .inr (.inl none), _ => exact ⟨rfl, rfl⟩
    | .inr (.inl (some a)), _ => exact ⟨rfl, rfl⟩
  · match v, h2 with
    | .inr (.inl none), _ => exact ⟨rfl, rfl⟩
    | .inr (.inl (some a)), _ => exact ⟨rfl, rfl⟩
  · match v, h2 with
    | .inl x, h2 =>
      rcases (h2 : x = 0 ∨ x = 1) with h | h
      · subst h; exact ⟨by decide, by decide⟩
      · subst h; exact ⟨by decide, by decide⟩
  · match v, h2 with
    | .inl x, h2 =>
      have h2 : x.toInt8.toInt32 = x := h2
      refine ⟨by show Value.int x.toInt8.toInt32 = .int x; rw [h2], ?_⟩
      show fits .byte (.int x) = true
      rw [← h2]
      exact fits_b8 _
  · exact h1.elim
theorem w_put (hx : p.tables.exec = Jvm.exec) (hb : c.code = cc) (hts : ∀ w ∈ lw_all, w.before args s = true) {own : String} {ini : Bool} (hown : s.vm.findClass own = some m.cls) (hini : ini = true → meth.name = "<init>") (hK : KK g D s) {h : AH} {H : Heap} {locs : List Loc} {cells slots : Nat} {pc idx k ty a ci : Nat} {cs : List Nat} {fs : List AV} {v : AV} {ls : Array Slot} {rest : List Value} (hR : RH g D h H) (hF : FOKp own ini idx k ty cs) (ha : h.1 a = some (.inr (ci, fs))) (hba : g.1.1 ≤ a) (hc : ci ∈ cs) (hl : k < fs.length) (hv : vOK ty v) (hd : decode cc pc = .ok (.putfield idx, 3))
    (kk : ∀ (H1 : Heap) (L : List Loc), RH g D (hset h a (.inr (ci, fs.set k v))) H1 → (∀ q ∈ L, q.base = a) → W p l e R s m args below meth c H1 (locs ++ L) cells slots Q (F0 m (pc + 3) ls rest)) : W p l e R s m args below meth c H locs cells slots Q (F0 m pc ls (toV v :: .ref a :: rest)) := by
  obtain ⟨ref, nm, ds, fty, hlk, hpd, hty, hcs⟩ := hF
  obtain ⟨q, hq, hkN, e1, e2, e3, e4⟩ := hcs ci hc
  obtain ⟨hin, ty0, hty0, hnm⟩ := cls_ok q (List.mem_of_getElem? hq)
  obtain ⟨hn, hfit⟩ := vOK_fits hty hv
  obtain ⟨r, h1, cell, q1, q2, q3, q4⟩ := hR.2.1 a _ ha
  have hr : r = q := Option.some.inj (h1.symm.trans hq)
  subst hr
  have hK1 := hK.1
  have hap := va_apart (D := (D.1, D.2.1)) (tys := []) (own := own) hts hin ty0 hty0 hnm hK1 hq
  obtain ⟨hS, hfc, kC, hkC, hkind⟩ := hK1.1 ci _ hq
  obtain ⟨cf, kf, fi, f, hi, hsl⟩ := hS k hkN
  have hlay := hts _ (hin _ (u_in_lay hkN))
  have hst := (u_facts hfc hkC (u_lays hts hin hkN) hi).1
  have hlink : (Cond.fieldLink own idx ref (r.2.1 k).2.1 (r.2.1 k).2.2.1).before args s = true := by rw [e1, e2]; exact hts _ hlk
  have hpd2 : parseFieldDescriptor (r.2.1 k).2.2.1 = some fty := by rw [e2]; exact hpd
  have done : ∀ H' : Heap, H'[a]? = some (cell.setSlot f.slot (toV v)) → H'.size = H.size → (∀ q, q ≠ a → H'[q]? = H[q]?) → RH g D (hset h a (.inr (ci, fs.set k v))) H' := by
    intro H' w1 w2 w3
    rw [hsl] at w1
    refine hR.set hba ?_ w2 w3
    refine ⟨_, hq, t_OB.to (V := updV (vp_V (fs.map toV)) k (toV v)) ⟨_, w1, q2, q3, t_set q4 hap hkN (toV v)⟩ (fun j _ => ?_)⟩
    rw [vp_updV_set (by rw [List.length_map]; exact hl), List.map_set]
  unfold u_lay at hlay
  rcases e4 with e4 | ⟨e4, e5, e6⟩
  · rw [if_neg (by rw [e4]; decide)] at hlay
    have h6 := u_store hfc hkC hkind hlay hi hpd2 hn hfit
    exact W.putK hx hb (f := f) ⟨hown, hlink, ⟨_, _, _, u_same2 hts e1 e2 e3 _ hi⟩, hst⟩ (by rw [q2]; exact h6) q1 q3 (by rw [hsl]; exact k2_hasslot (q4 k hkN)) rfl rfl hd fun H' w1 w2 w3 => kk H' _ (done H' w1 w2 w3) (fun q hq => by rw [List.mem_singleton.mp hq])
  · rw [if_pos e4] at hlay
    have hcf : m.cls = cf := by
      obtain ⟨_, _, c', _, _, _, -, -, hf', -, -, -, hown2, -⟩ := Cond.laysFinal_spec hlay
      have w1 : c' = cf := by have := hi.symm.trans hf'; simp at this; exact this.1.symm
      rw [e6] at hown2
      rw [← w1]; exact Option.some.inj (hown.symm.trans hown2)
    have h6 := u_fits hfc hkC hkind (Or.inr hlay) hi hpd2 hn hfit
    exact W.putFinK hx hb hown hlink (u_same2 hts e1 e2 e3 _ hi) hst hcf (hini e5) (by rw [q2]; exact h6) q1 q3 (by rw [hsl]; exact k2_hasslot (q4 k hkN)) rfl rfl hd fun H' w1 w2 w3 => kk H' _ (done H' w1 w2 w3) (fun q hq => by rw [List.mem_singleton.mp hq])
end SND
