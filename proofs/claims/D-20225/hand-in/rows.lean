section
/-- a remainder, as it is printed, is zero exactly where the divisor divides -/
theorem ft_dv (x d : Int32) : (x - x / d * d) = 0 ↔ d.toInt ∣ x.toInt := by
  rw [← Int32.toInt_inj, rem_toInt, Int.dvd_iff_tmod_eq_zero, show (0 : Int32).toInt = 0 from by decide]
theorem ft_100_4 {x : Int32} (h : (x - x / 100 * 100) = 0) : (x - x / 4 * 4) = 0 := by
  rw [ft_dv, show (100 : Int32).toInt = 100 from by decide] at h
  rw [ft_dv, show (4 : Int32).toInt = 4 from by decide]
  omega
theorem ft_400_100 {x : Int32} (h : (x - x / 400 * 400) = 0) : (x - x / 100 * 100) = 0 := by
  rw [ft_dv, show (400 : Int32).toInt = 400 from by decide] at h
  rw [ft_dv, show (100 : Int32).toInt = 100 from by decide]
  omega
/-- February: the four kinds of year -/
theorem ft_feb {post : Int32 → Prop} (hp : post 1) (y : Int32) : wL_lawOf_56 post y 2 := by
  have hin : vp_in ((2 : Int32) - 1) 12 := vp_in_iff.mpr (by decide)
  have ht : tab0.getD ((2 : Int32) - 1).toNatClampNeg 0 = 28 := by decide +kernel
  by_cases c4 : (y - y / 4 * 4) = 0
  · by_cases c1 : (y - y / 100 * 100) = 0
    · by_cases c0 : (y - y / 400 * 400) = 0
      · exact br_t rfl ⟨by decide, br_t c4 ⟨by decide, br_t c1 ⟨by decide, br_t c0
          (br_t rfl ⟨by decide, br_t c4 (nm_e ⟨by decide, br_t c1 (nm_e ⟨by decide, br_t c0 (nm_e (br_t (by decide) hp))⟩)⟩)⟩)⟩⟩⟩
      · exact br_t rfl ⟨by decide, br_t c4 ⟨by decide, br_t c1 ⟨by decide, br_f c0 ⟨hin,
          (br_t rfl ⟨by decide, br_t c4 (nm_e ⟨by decide, br_t c1 (nm_e ⟨by decide, br_f c0 (br_t (by rw [ht]; decide) hp)⟩)⟩)⟩)⟩⟩⟩⟩
    · have c0 : ¬ (y - y / 400 * 400) = 0 := fun z => c1 (ft_400_100 z)
      exact br_t rfl ⟨by decide, br_t c4 ⟨by decide, br_f c1
          (br_t rfl ⟨by decide, br_t c4 (nm_e ⟨by decide, br_f c1 ⟨by decide, br_f c0 (br_t (by decide) hp)⟩⟩)⟩)⟩⟩
  · have c1 : ¬ (y - y / 100 * 100) = 0 := fun z => c4 (ft_100_4 z)
    have c0 : ¬ (y - y / 400 * 400) = 0 := fun z => c1 (ft_400_100 z)
    exact br_t rfl ⟨by decide, br_f c4 ⟨by decide, br_f c0 ⟨hin,
          (br_t rfl ⟨by decide, br_f c4 ⟨by decide, br_f c1 ⟨by decide, br_f c0 (br_t ht hp)⟩⟩⟩)⟩⟩⟩
/-- the other months: the table against the formula -/
theorem ft_tab : ∀ j : Nat, j < 12 → j ≠ 1 → (¬ (nI j + 1 = 2)) ∧ (0 ≤ (nI j + 1 - 1).toInt ∧ (nI j + 1 - 1).toInt < ((12 : Nat) : Int)) ∧ tab0.getD (nI j + 1 - 1).toNatClampNeg 0 = 30 + (((nI j + 1) + ((nI j + 1) / 8)) - ((nI j + 1) + ((nI j + 1) / 8)) / 2 * 2) := by
  decide +kernel
theorem ft_mon {post : Int32 → Prop} (hp : post 1) (y : Int32) (j : Nat) (hj : j < 12) : wL_lawOf_56 post y (nI j + 1) := by
  by_cases e : j = 1
  · rw [e, show nI 1 + 1 = 2 from by decide]
    exact ft_feb hp y
  · obtain ⟨h1, h2, h3⟩ := ft_tab j hj e
    exact br_f h1 ⟨vp_in_iff.mpr h2, br_f h1 ⟨by decide, by decide, br_t h3 hp⟩⟩
end
section
theorem ft_37 {post : Int32 → Prop} (hp : post 1) (k y : Int32) : wL_lawOf_37 post k y := by
  obtain ⟨j, hj, e⟩ := pk_andE k (m := 15) 4 (by decide)
  unfold wL_lawOf_37
  rw [e]
  refine br_c (fun _ => ft_feb hp y) (fun h => ft_mon hp y j ?_)
  rcases Nat.lt_or_ge j 12 with z | z
  · exact z
  · exact absurd (show (12 : Int32) ≤ nI j from nI_le (a := 12) z (by omega)) h
theorem ft_lawOf {post : Int32 → Prop} (hp : post 1) (a b : Int32) : wpL_lawOf post () a b :=
  br_c (fun _ => ⟨by decide, fun _ _ => ft_37 hp _ _⟩) (fun _ => br_c (fun _ => fun _ _ => ft_37 hp _ _) (fun _ => ft_37 hp _ _))
theorem ft_cell {post : Int32 → Prop} {L : Nat} {xs : Nat → Int32} (hL : L ≤ 2) (i : Nat) (hi : i < 2) (H : ∀ v, post v) : wpL_cellAt post L xs () (nI i) := by
  refine br_c (fun _ => H _) (fun h => ⟨vp_in_nI ?_ (by omega), H _⟩)
  rcases Nat.lt_or_ge i L with z | z
  · exact z
  · exact absurd (show Int32.ofNat L ≤ nI i from nI_le z (by omega)) h
theorem i_vc (xs : Nat → Int32) (L : Nat) (hL : L ≤ 2) : wpL_law (fun r => r = 1) L xs :=
  ft_cell hL 0 (by omega) (fun a => ft_cell hL 1 (by omega) (fun b => ft_lawOf (post := fun r => r = 1) rfl a b))
end
