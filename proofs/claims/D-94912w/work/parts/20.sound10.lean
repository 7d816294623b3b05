/-! SOUNDNESS, 9: what the heap operations tell when they answer -/
set_option maxRecDepth 100000
section INV
variable {g : GG} {h h' : AH} {o d : Option Nat} {k : Nat} {cs : List Nat} {z : AR}
theorem hgetI_of {v : Int32} (hv : hgetI h o k cs = some v) : ∃ a ci fs, o = some a ∧ h.1 a = some (.inr (ci, fs)) ∧ ci ∈ cs ∧ fs[k]? = some (.inl v) := by
  unfold hgetI at hv
  split at hv
  · cases hv
  next a =>
    split at hv
    next ci fs ha =>
      split at hv
      next hc =>
        split at hv
        next w hw => cases hv; exact ⟨a, ci, fs, rfl, ha, List.contains_iff_mem.mp hc, hw⟩
        · cases hv
      · cases hv
    · cases hv
theorem hgetP_of {v : Option Nat} (hv : hgetP h o k cs = some v) : ∃ a ci fs, o = some a ∧ h.1 a = some (.inr (ci, fs)) ∧ ci ∈ cs ∧ fs[k]? = some (.inr (.inl v)) := by
  unfold hgetP at hv
  split at hv
  · cases hv
  next a =>
    split at hv
    next ci fs ha =>
      split at hv
      next hc =>
        split at hv
        next w hw => cases hv; exact ⟨a, ci, fs, rfl, ha, List.contains_iff_mem.mp hc, hw⟩
        · cases hv
      · cases hv
    · cases hv
theorem hput_of {v : AV} (hv : hput g h o k cs v = some h') : ∃ a ci fs, o = some a ∧ h.1 a = some (.inr (ci, fs)) ∧ g.1.1 ≤ a ∧ ci ∈ cs ∧ k < fs.length ∧ h' = hset h a (.inr (ci, fs.set k v)) := by
  unfold hput at hv
  split at hv
  · cases hv
  next a =>
    split at hv
    next ci fs ha =>
      split at hv
      next hc => cases hv; exact ⟨a, ci, fs, rfl, ha, hc.1, List.contains_iff_mem.mp hc.2.1, hc.2.2, rfl⟩
      · cases hv
    · cases hv
theorem haldI_of {i v : Int32} (hv : haldI h o i cs = some v) : ∃ a t n f, o = some a ∧ h.1 a = some (.inl (t, n, .inl f)) ∧ t ∈ cs ∧ inb i n = true ∧ v = f i.toNatClampNeg := by
  unfold haldI at hv
  split at hv
  · cases hv
  next a =>
    split at hv
    next t n f ha =>
      split at hv
      next hc => cases hv; exact ⟨a, t, n, f, rfl, ha, List.contains_iff_mem.mp hc.1, hc.2, rfl⟩
      · cases hv
    · cases hv
theorem haldJ_of {i : Int32} {v : Int64} (hv : haldJ h o i = some v) : ∃ a n f, o = some a ∧ h.1 a = some (.inl (3, n, .inr (.inl f))) ∧ inb i n = true ∧ v = f i.toNatClampNeg := by
  unfold haldJ at hv
  split at hv
  · cases hv
  next a =>
    split at hv
    next t n f ha =>
      split at hv
      next hc =>
        cases hv
        obtain ⟨rfl, hi⟩ := hc
        exact ⟨a, n, f, rfl, ha, hi, rfl⟩
      · cases hv
    · cases hv
theorem haldP_of {i : Int32} {v : Option Nat} (hv : haldP h o i = some v) : ∃ a n f, o = some a ∧ h.1 a = some (.inl (4, n, .inr (.inr (.inr (.inr f))))) ∧ inb i n = true ∧ v = f i.toNatClampNeg := by
  unfold haldP at hv
  split at hv
  · cases hv
  next a =>
    split at hv
    next t n f ha =>
      split at hv
      next hc =>
        cases hv
        obtain ⟨rfl, hi⟩ := hc
        exact ⟨a, n, f, rfl, ha, hi, rfl⟩
      · cases hv
    · cases hv
theorem hastI_of {i v : Int32} (hv : hastI g h o i cs v = some h') : ∃ a t n f, o = some a ∧ h.1 a = some (.inl (t, n, .inl f)) ∧ g.1.1 ≤ a ∧ t ∈ cs ∧ inb i n = true ∧ (t = 1 → v = 0 ∨ v = 1) ∧ h' = hset h a (.inl (t, n, .inl (fun j => if j = i.toNatClampNeg then stN t v else f j))) := by
  unfold hastI at hv
  split at hv
  · cases hv
  next a =>
    split at hv
    next t n f ha =>
      split at hv
      next hc => cases hv; exact ⟨a, t, n, f, rfl, ha, hc.1, List.contains_iff_mem.mp hc.2.1, hc.2.2.1, hc.2.2.2, rfl⟩
      · cases hv
    · cases hv
theorem hastJ_of {i : Int32} {v : Int64} (hv : hastJ g h o i v = some h') : ∃ a n f, o = some a ∧ h.1 a = some (.inl (3, n, .inr (.inl f))) ∧ g.1.1 ≤ a ∧ inb i n = true ∧ h' = hset h a (.inl (3, n, .inr (.inl (fun j => if j = i.toNatClampNeg then v else f j)))) := by
  unfold hastJ at hv
  split at hv
  · cases hv
  next a =>
    split at hv
    next t n f ha =>
      split at hv
      next hc =>
        cases hv
        obtain ⟨h1, rfl, h2⟩ := hc
        exact ⟨a, n, f, rfl, ha, h1, h2, rfl⟩
      · cases hv
    · cases hv
theorem hastP_of {i : Int32} {v : Option Nat} (hv : hastP g h o i v = some h') : ∃ a n f, o = some a ∧ h.1 a = some (.inl (4, n, .inr (.inr (.inr (.inr f))))) ∧ g.1.1 ≤ a ∧ inb i n = true ∧ hok h v = true ∧ h' = hset h a (.inl (4, n, .inr (.inr (.inr (.inr (fun j => if j = i.toNatClampNeg then v else f j)))))) := by
  unfold hastP at hv
  split at hv
  · cases hv
  next a =>
    split at hv
    next t n f ha =>
      split at hv
      next hc =>
        cases hv
        obtain ⟨h1, rfl, h2, h3⟩ := hc
        exact ⟨a, n, f, rfl, ha, h1, h2, h3, rfl⟩
      · cases hv
    · cases hv
theorem hlen_of {v : Int32} (hv : hlen h o = some v) : ∃ a t n f, o = some a ∧ h.1 a = some (.inl (t, n, f)) ∧ t < 5 ∧ v = Int32.ofNat n := by
  unfold hlen at hv
  split at hv
  · cases hv
  next a =>
    split at hv
    next t n f ha =>
      split at hv
      next hc => cases hv; exact ⟨a, t, n, f, rfl, ha, hc, rfl⟩
      · cases hv
    · cases hv
theorem hcls_of {a : Nat} (hv : hcls h o cs = some a) : ∃ ci fs, o = some a ∧ h.1 a = some (.inr (ci, fs)) ∧ ci ∈ cs := by
  unfold hcls at hv
  split at hv
  · cases hv
  next b =>
    split at hv
    next ci fs ha =>
      split at hv
      next hc => cases hv; exact ⟨ci, fs, rfl, ha, List.contains_iff_mem.mp hc⟩
      · cases hv
    · cases hv
theorem lkN_mem : ∀ (ps : List Nat) (ci k : Nat), lkN ps ci = some k → (ci, k) ∈ evens ps
  | [], _, _, h => by cases h
  | [_], _, _, h => by cases h
  | c :: k :: r, ci, w, h => by
    unfold lkN at h
    split at h
    next hc => cases h; cases hc; exact List.mem_cons_self
    · exact List.mem_cons_of_mem _ (lkN_mem r ci w h)
theorem hdis_of {w : Nat × Nat} (hv : hdis h o cs = some w) : ∃ ci fs, o = some w.1 ∧ h.1 w.1 = some (.inr (ci, fs)) ∧ (ci, w.2) ∈ evens cs := by
  unfold hdis at hv
  split at hv
  · cases hv
  next b =>
    split at hv
    next ci fs ha =>
      split at hv
      next k hk => cases hv; exact ⟨ci, fs, rfl, ha, lkN_mem _ _ _ hk⟩
      · cases hv
    · cases hv
theorem hisA_of (hv : hisA h o = some ()) : ∃ a x, o = some a ∧ h.1 a = some (.inl (4, x)) := by
  unfold hisA at hv
  split at hv
  · cases hv
  next b =>
    split at hv
    next t x ha =>
      split at hv
      next hc => cases hc; exact ⟨b, x, rfl, ha⟩
      · cases hv
    · cases hv
theorem hnew_of (hv : hnew g h k = some h') : h.2.1 + 1 ≤ g.1.2.1 ∧ h.2.2 + (dflF k).length ≤ g.1.2.2 ∧ h' = hpush h (.inr (k, dflF k)) (dflF k).length := by
  unfold hnew at hv
  split at hv
  next hc => cases hv; exact ⟨hc.1, hc.2, rfl⟩
  · cases hv
theorem hnewA_of {n : Int32} (hv : hnewA g h k n = some h') : ¬ n < 0 ∧ n.toNatClampNeg ≤ 60000000 ∧ h.2.1 + 1 ≤ g.1.2.1 ∧ h.2.2 + n.toNatClampNeg ≤ g.1.2.2 ∧ h' = hpush h (.inl (k, n.toNatClampNeg, dflA k)) n.toNatClampNeg := by
  unfold hnewA at hv
  split at hv
  next hc => cases hv; exact ⟨hc.1, hc.2.1, hc.2.2.1, hc.2.2.2, rfl⟩
  · cases hv
theorem gst_of {r : List AV} {x : Option AR} (hv : gst r x = some z) : wt r ≤ 8 ∧ x = some z := by
  unfold gst at hv
  split at hv
  next hb => exact ⟨Nat.le_of_ble_eq_true hb, hv⟩
  · cases hv
theorem kres_of {r : Nat} {x : Option AR} {S : List AV} {K : List AV → AH → Option AR} (hz : kres r x S K = some z) : ∃ w : AR, x = some w ∧ ∃ S', K S' w.2 = some z ∧ S'.map toV = (w.1.map toV).toList ++ S.map toV := by
  unfold kres at hz
  split at hz
  · unfold kresV at hz
    split at hz
    · exact ⟨_, rfl, S, hz, rfl⟩
    · cases hz
  · unfold kresI at hz
    split at hz
    next v h => exact ⟨_, rfl, .inl v :: S, hz, rfl⟩
    · cases hz
  · unfold kresP at hz
    split at hz
    next v h => exact ⟨_, rfl, .inr (.inl v) :: S, hz, rfl⟩
    · cases hz
  · cases hz
theorem swT_of {x : Int32} {J : Nat → Option AR} {d : Nat} : ∀ (ts : List Nat) (lo : Int), swT x lo ts J d = some z → (∃ (j t : Nat), ts[j]? = some t ∧ x = Int32.ofInt (lo + j) ∧ J t = some z) ∨ ((∀ j : Nat, j < ts.length → ¬ x = Int32.ofInt (lo + j)) ∧ J d = some z)
  | [], lo, h => Or.inr ⟨fun j hj => absurd hj (Nat.not_lt_zero j), h⟩
  | t :: r, lo, h => by
    unfold swT at h
    split at h
    next hc => exact Or.inl ⟨0, t, rfl, by rw [hc]; congr 1; omega, h⟩
    next hc =>
      rcases swT_of r (lo + 1) h with ⟨j, t', h1, h2, h3⟩ | ⟨h1, h2⟩
      · exact Or.inl ⟨j + 1, t', h1, by rw [h2]; congr 1; push_cast; omega, h3⟩
      · refine Or.inr ⟨fun j hj => ?_, h2⟩
        cases j with
        | zero => intro q; apply hc; rw [q]; congr 1; omega
        | succ j =>
          intro q
          refine h1 j (by simpa using hj) ?_
          rw [q]; congr 1; push_cast; omega
theorem swL_of {x : Int32} {J : Nat → Option AR} {d pc : Nat} {df : Int} (hd : (pc : Int) + df = (d : Int)) : ∀ (ps : List (Int × Int)) (ts : List Nat), ts.map Int.ofNat = ps.map (fun o => (pc : Int) + o.2) → (∀ q ∈ ps, (Int32.ofInt q.1).toInt = q.1) → swL x ps ts J d = some z → ∃ t : Nat, J t = some z ∧ (pc : Int) + Op.lookupswitch.offset ps df x.toInt = (t : Int)
  | [], [], _, _, h => ⟨d, h, by rw [Op.lookupswitch.offset_nil]; exact hd⟩
  | [], _ :: _, e, _, _ => by cases e
  | _ :: _, [], e, _, _ => by cases e
  | (k, o) :: ps, t :: ts, e, hk, h => by
    have hk0 := hk _ List.mem_cons_self
    rw [List.map_cons, List.map_cons] at e
    have e1 := (List.cons.inj e).1
    unfold swL at h
    split at h
    next hc =>
      refine ⟨t, h, ?_⟩
      rw [Op.lookupswitch.offset_cons, if_pos (by rw [hc]; first | exact hk0 | exact hk0.symm)]
      exact e1.symm
    next hc =>
      obtain ⟨t', h1, h2⟩ := swL_of hd ps ts (List.cons.inj e).2 (fun q hq => hk q (List.mem_cons_of_mem _ hq)) h
      exact ⟨t', h1, by rw [lv_osw hc hk0]; exact h2⟩
end INV
