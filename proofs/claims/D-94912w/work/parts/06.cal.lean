/-! a method run by its number: at most d calls deep -/
set_option maxRecDepth 100000
/-- given by hand: 900 the law's led (which catches what the class's led throws: answer vU) -/
def extf (g : GG) (C : Nat → List AV → AH → Option AR) (as : List AV) (h : AH) : Option AR :=
  match as with
  | [.inr (.inl o), .inl p, .inr (.inl out)] => match C k_Ot_led [vP o, vI p] h with
    | some (some (.inl v), h') => (hastJ g h' out 0 v.toInt64).bind fun h2 => some (some (vI 0), h2)
    | some (some (.inr (.inr (.inr _))), h') => some (some (vI 1), h')
    | _ => none
  | _ => none
noncomputable def cal (g : GG) : Nat → Nat → List AV → AH → Option AR
  | 0, _, _, _ => none
  | d + 1, k, as, h => match Nat.ble 900 k with
    | true => extf g (cal g d) as h
    | false => match as.all one && Nat.ble as.length (cd k).1 with
      | true => evk g (cal g d) (cd k) 0 (padL (cd k).1 as) [] h
      | false => none
theorem cal_at {g : GG} {d k : Nat} {as : List AV} {h : AH} {c : CD} (hk : Nat.ble 900 k = false) (hc : cd k = c) (ha : (as.all one && Nat.ble as.length c.1) = true) : cal g (d + 1) k as h = evk g (cal g d) c 0 (padL c.1 as) [] h := by
  subst hc
  show (match Nat.ble 900 k with | true => extf g (cal g d) as h | false => match as.all one && Nat.ble as.length (cd k).1 with | true => evk g (cal g d) (cd k) 0 (padL (cd k).1 as) [] h | false => none) = _
  rw [hk, ha]
theorem cal_of {g : GG} {d k : Nat} {as : List AV} {h : AH} {z : AR} (hk : Nat.ble 900 k = false) (hz : cal g (d + 1) k as h = some z) : as.all one = true ∧ as.length ≤ (cd k).1 ∧ evk g (cal g d) (cd k) 0 (padL (cd k).1 as) [] h = some z := by
  have h1 : (match Nat.ble 900 k with | true => extf g (cal g d) as h | false => match as.all one && Nat.ble as.length (cd k).1 with | true => evk g (cal g d) (cd k) 0 (padL (cd k).1 as) [] h | false => none) = some z := hz
  rw [hk] at h1
  dsimp only at h1
  split at h1
  next hb =>
    rw [Bool.and_eq_true] at hb
    exact ⟨hb.1, Nat.le_of_ble_eq_true hb.2, h1⟩
  · cases h1
