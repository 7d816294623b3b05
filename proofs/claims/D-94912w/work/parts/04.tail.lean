/-! runs go on, or end, in one way: so 'evk' has its equation, with no count of steps -/
set_option maxRecDepth 100000
abbrev JT : Type := Nat → List AV → List AV → AH → Option AR
theorem tail_none : Tail (fun _ => none) := fun _ _ h => by cases h
theorem tail_const {o : Option AR} : Tail (fun _ => o) := fun _ _ h => Or.inl fun _ => h
theorem tail_bind {α : Type} {o : Option α} {f : JT → α → Option AR} (hf : ∀ v, Tail (fun J => f J v)) : Tail (fun J => o.bind (f J)) := by
  intro J z h
  cases o with
  | none => cases h
  | some v => exact hf v J z h
theorem tail_ite {c : Prop} [d : Decidable c] {x y : JT → Option AR} (hx : Tail x) (hy : Tail y) : Tail (fun J => if c then x J else y J) := by
  intro J z h
  dsimp only at h ⊢
  by_cases hc : c
  · simp only [if_pos hc] at h ⊢
    exact hx J z h
  · simp only [if_neg hc] at h ⊢
    exact hy J z h
theorem tail_jump {t : Nat} {L S : List AV} {h : AH} : Tail (fun J => J t L S h) := fun _ _ e => Or.inr ⟨t, L, S, h, e, fun _ e' => e'⟩
theorem tail_kres {r : Nat} {x : Option AR} {S : List AV} {K : JT → List AV → AH → Option AR} (hK : ∀ S' h', Tail (fun J => K J S' h')) : Tail (fun J => kres r x S (K J)) := by
  intro J z h
  dsimp only at h ⊢
  unfold kres kresV kresI kresP at h ⊢
  split at h
  · split at h
    · exact hK _ _ J z h
    · cases h
  · split at h
    · exact hK _ _ J z h
    · cases h
  · split at h
    · exact hK _ _ J z h
    · cases h
  · cases h
theorem tail_gst {r : List AV} {x : JT → Option AR} (hx : Tail x) : Tail (fun J => gst r (x J)) := by
  intro J z h
  dsimp only at h ⊢
  unfold gst at h ⊢
  split at h
  · exact hx J z h
  · cases h
theorem tail_swT {x : Int32} {f : JT → Nat → Option AR} (hf : ∀ t, Tail (fun J => f J t)) (d : Nat) : ∀ (ts : List Nat) (lo : Int), Tail (fun J => swT x lo ts (f J) d)
  | [], _ => hf d
  | t :: r, lo => tail_ite (hf t) (tail_swT hf d r (lo + 1))
theorem tail_swL {x : Int32} {f : JT → Nat → Option AR} (hf : ∀ t, Tail (fun J => f J t)) (d : Nat) : ∀ (ps : List (Int × Int)) (ts : List Nat), Tail (fun J => swL x ps ts (f J) d)
  | [], [] => hf d
  | [], _ :: _ => hf d
  | _ :: _, [] => hf d
  | (k, _) :: ps, t :: r => tail_ite (hf t) (tail_swL hf d ps r)
set_option maxHeartbeats 4000000 in
theorem hst_tail {g : GG} {C : Nat → List AV → AH → Option AR} {K : JT → List AV → AH → Option AR} {F : JT → Nat → List AV → Option AR} (hK : ∀ S' h', Tail (fun J => K J S' h')) (hF : ∀ t S', Tail (fun J => F J t S')) (i : Instr) (x : List Nat) (S : List AV) (h : AH) : Tail (fun J => hst g C i x S h (K J) (F J)) := by
  intro J z hz
  dsimp only at hz ⊢
  unfold hst at hz ⊢
  split at hz
  all_goals (try (cases hz; done))
  all_goals (try dsimp only at hz ⊢)
  all_goals (first | exact tail_const J z hz | exact hF _ _ J z hz | exact tail_ite tail_none (hK _ _) J z hz | exact tail_ite (hF _ _) (hF _ _) J z hz | exact tail_ite tail_const tail_none J z hz | exact tail_bind (fun v => hK _ _) J z hz | exact tail_gst (tail_bind (fun v => tail_kres hK)) J z hz | exact tail_gst (tail_kres hK) J z hz | exact tail_gst (hK _ _) J z hz | exact tail_gst (tail_bind (fun v => hK _ _)) J z hz | exact hK _ _ J z hz | exact tail_swT (fun t => hF _ _) _ _ _ J z hz | exact tail_swL (fun t => hF _ _) _ _ _ J z hz | (split at hz <;> first | (cases hz; done) | exact tail_const J z hz | exact hF _ _ J z hz | exact tail_ite tail_none (hK _ _) J z hz | exact tail_ite (hF _ _) (hF _ _) J z hz | exact tail_ite tail_const tail_none J z hz | exact tail_bind (fun v => hK _ _) J z hz | exact tail_gst (tail_bind (fun v => tail_kres hK)) J z hz | exact tail_gst (tail_kres hK) J z hz | exact tail_gst (hK _ _) J z hz | exact tail_gst (tail_bind (fun v => hK _ _)) J z hz | exact hK _ _ J z hz | exact tail_swT (fun t => hF _ _) _ _ _ J z hz | exact tail_swL (fun t => hF _ _) _ _ _ J z hz | (split at hz <;> first | (cases hz; done) | exact tail_const J z hz | exact hF _ _ J z hz | exact tail_ite tail_none (hK _ _) J z hz | exact tail_ite (hF _ _) (hF _ _) J z hz | exact tail_ite tail_const tail_none J z hz | exact tail_bind (fun v => hK _ _) J z hz | exact tail_gst (tail_bind (fun v => tail_kres hK)) J z hz | exact tail_gst (tail_kres hK) J z hz | exact tail_gst (hK _ _) J z hz | exact tail_gst (tail_bind (fun v => hK _ _)) J z hz | exact hK _ _ J z hz | exact tail_swT (fun t => hF _ _) _ _ _ J z hz | exact tail_swL (fun t => hF _ _) _ _ _ J z hz)))
theorem xI_tail {g : GG} {C : Nat → List AV → AH → Option AR} {Jo : JT → JT} (hJ : ∀ pc L S h, Tail (fun J => Jo J pc L S h)) : ∀ (es : List Ent) (nx : Nat) (L S : List AV) (h : AH), Tail (fun J => xI g C es nx L S h (Jo J))
  | [], nx, L, S, h => hJ nx L S h
  | e :: r, nx, L, S, h => by
    intro J z hz
    dsimp only at hz ⊢
    unfold xI at hz ⊢
    split at hz
    next p hp => exact xI_tail hJ r nx p.1 p.2 h J z hz
    next hp => exact hst_tail (fun S' h' => xI_tail hJ r nx L S' h') (fun t S' => hJ t L S' h) _ _ _ _ J z hz
theorem xJ_tail {g : GG} {C : Nat → List AV → AH → Option AR} {c : CD} : ∀ (n pc : Nat) (L S : List AV) (h : AH), Tail (fun J => xJ g C c J n pc L S h)
  | 0, _, _, _, _ => tail_none
  | n + 1, pc, L, S, h => by
    intro J z hz
    dsimp only at hz ⊢
    unfold xJ at hz ⊢
    split at hz
    · exact tail_jump J z hz
    · split at hz
      · exact xI_tail (fun pc L S h => xJ_tail n pc L S h) _ _ _ _ _ J z hz
      · cases hz
theorem xB_tail {g : GG} {C : Nat → List AV → AH → Option AR} {c : CD} (pc : Nat) (L S : List AV) (h : AH) : Tail (fun J => xB g C c J pc L S h) := by
  intro J z hz
  dsimp only at hz ⊢
  unfold xB at hz ⊢
  split at hz
  · exact xI_tail (fun pc L S h => xJ_tail 60 pc L S h) _ _ _ _ _ J z hz
  · cases hz
theorem runk_mono {g : GG} {C : Nat → List AV → AH → Option AR} {c : CD} : ∀ (n pc : Nat) (L S : List AV) (h : AH) (z : AR), runk g C c n pc L S h = some z → runk g C c (n + 1) pc L S h = some z
  | 0, _, _, _, _, _, e => by cases e
  | n + 1, pc, L, S, h, z, e => by
    rcases xB_tail (g := g) (C := C) (c := c) pc L S h _ z e with e2 | ⟨pc2, L2, S2, h2, e1, e2⟩
    · exact e2 _
    · exact e2 _ (runk_mono n pc2 L2 S2 h2 z e1)
theorem runk_le {g : GG} {C : Nat → List AV → AH → Option AR} {c : CD} {n m pc : Nat} {L S : List AV} {h : AH} {z : AR} (hnm : n ≤ m) (e : runk g C c n pc L S h = some z) : runk g C c m pc L S h = some z := by
  induction hnm with
  | refl => exact e
  | step _ ih => exact runk_mono _ _ _ _ _ _ ih
theorem evk_some {g : GG} {C : Nat → List AV → AH → Option AR} {c : CD} {pc : Nat} {L S : List AV} {h : AH} {z : AR} : evk g C c pc L S h = some z ↔ ∃ n, runk g C c n pc L S h = some z := by
  unfold evk
  constructor
  · intro e
    split at e
    next hx => exact ⟨_, e⟩
    next hx => cases e
  · rintro ⟨n, e⟩
    have hx : ∃ n, (runk g C c n pc L S h).isSome = true := ⟨n, by rw [e]; rfl⟩
    rw [dif_pos hx]
    have h1 := Classical.choose_spec hx
    cases e1 : runk g C c (Classical.choose hx) pc L S h with
    | none => rw [e1] at h1; cases h1
    | some w =>
      have a1 := runk_le (Nat.le_max_left (Classical.choose hx) n) e1
      have a2 := runk_le (Nat.le_max_right (Classical.choose hx) n) e
      exact a1.symm.trans a2
/-- the equation of 'evk': to the next cut, then on -/
theorem evk_eq (g : GG) (C : Nat → List AV → AH → Option AR) (c : CD) (pc : Nat) (L S : List AV) (h : AH) : evk g C c pc L S h = xB g C c (evk g C c) pc L S h := by
  apply Option.ext
  intro z
  constructor
  · intro e
    obtain ⟨n, e⟩ := evk_some.mp e
    cases n with
    | zero => cases e
    | succ n =>
      rcases xB_tail (g := g) (C := C) (c := c) pc L S h _ z e with e2 | ⟨pc2, L2, S2, h2, e1, e2⟩
      · exact e2 _
      · exact e2 _ (evk_some.mpr ⟨n, e1⟩)
  · intro e
    rcases xB_tail (g := g) (C := C) (c := c) pc L S h _ z e with e2 | ⟨pc2, L2, S2, h2, e1, e2⟩
    · exact evk_some.mpr ⟨1, e2 _⟩
    · obtain ⟨n, e1⟩ := evk_some.mp e1
      exact evk_some.mpr ⟨n + 1, e2 _ e1⟩
