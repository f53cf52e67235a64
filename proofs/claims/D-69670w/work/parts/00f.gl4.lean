/-! PHASE B floats 14: sums, products, quotients, rests of floats by doubles -/
set_option maxRecDepth 100000
/-- the middle is not met by a sum of two floats -/
theorem fl_sumMid {W c1 c2 x1 x2 z : Nat} {a b : Int} (hz : z = 925) (hW : (W : Int) = a * ((c1 * 2 ^ x1 : Nat) : Int) + b * ((c2 * 2 ^ x2 : Nat) : Int)) (ha : a = 1 ∨ a = -1) (hb : b = 1 ∨ b = -1) (h1 : c1 < 2 ^ 24) (h2 : c2 < 2 ^ 24)
    (hm : Jvm.FP.Core.nearest (W * 2 ^ z) (1 * 2 ^ fl_k 53 (W * 2 ^ z) 1) % 2 ^ (z + fl_k 24 W 1 - fl_k 53 (W * 2 ^ z) 1) = 2 ^ (z + fl_k 24 W 1 - fl_k 53 (W * 2 ^ z) 1 - 1)) :
    W * 2 ^ z % (1 * 2 ^ fl_k 53 (W * 2 ^ z) 1) = 0 := by
  obtain ⟨k, hk⟩ : ∃ k, k = fl_k 53 (W * 2 ^ z) 1 := ⟨_, rfl⟩
  obtain ⟨K, hK⟩ : ∃ K, K = fl_k 24 W 1 := ⟨_, rfl⟩
  have hlow := @fl_c_ge 53 (W * 2 ^ z) 1 (by omega)
  rw [← hk] at hm hlow ⊢
  rw [← hK] at hm
  obtain ⟨q1, q2⟩ := fl_dbl_k hz (by omega : 0 < 1) hk hK
  rw [Nat.one_mul] at hm hlow ⊢
  rcases Nat.lt_or_ge z k with hzk | hzk
  · have hK0 : 0 < K := Nat.pos_of_ne_zero fun w => by have := q2 w; omega
    have hkK := q1 hK0
    rw [show z + K - k = 29 by omega] at hm
    obtain ⟨j, hj⟩ : ∃ j, k = z + j ∧ 1 ≤ j := ⟨k - z, by omega, by omega⟩
    obtain ⟨hj, hj1⟩ := hj
    have hnear : Jvm.FP.Core.nearest (W * 2 ^ z) (2 ^ k) = Jvm.FP.Core.nearest W (2 ^ j) := by
      rw [hj, Nat.pow_add, Nat.mul_comm (2 ^ z)]; exact fl_near_mul (Nat.two_pow_pos z)
    rw [hnear] at hm hlow
    have hc52 := hlow (by omega)
    have hJ := Nat.two_pow_pos j
    obtain ⟨n1, n2⟩ := @fl_near_d W (2 ^ j) hJ
    refine Classical.byContradiction fun hne => ?_
    have hWj : W % 2 ^ j ≠ 0 := by
      intro w; apply hne
      rw [hj, Nat.pow_add, Nat.mul_comm (2 ^ z), Nat.mul_mod_mul_right, w, Nat.zero_mul]
    generalize Jvm.FP.Core.nearest W (2 ^ j) = c at *
    obtain ⟨J, hJJ⟩ : ∃ J, J = 2 ^ j := ⟨_, rfl⟩
    have n1' : 2 * ((c : Int) * J) ≤ 2 * (W : Int) + J := by rw [hJJ]; exact_mod_cast n1
    have n2' : 2 * (W : Int) ≤ 2 * ((c : Int) * J) + J := by rw [hJJ]; exact_mod_cast n2
    have small : ∀ (cc xx : Nat), cc < 2 ^ 24 → xx < j → cc * 2 ^ xx < 2 ^ 23 * J := by
      intro cc xx hcc hxx
      rw [hJJ]
      calc cc * 2 ^ xx < 2 ^ 24 * 2 ^ xx := Nat.mul_lt_mul_of_pos_right hcc (Nat.two_pow_pos _)
        _ = 2 ^ 23 * 2 ^ (xx + 1) := by rw [← Nat.pow_add, ← Nat.pow_add]; congr 1; omega
        _ ≤ 2 ^ 23 * 2 ^ j := Nat.mul_le_mul_left _ (Nat.pow_le_pow_right (by omega) hxx)
    have great : ∀ (cc xx : Nat), j ≤ xx → cc * 2 ^ xx = cc * 2 ^ (xx - j) * J := by
      intro cc xx hxx
      rw [hJJ, Nat.mul_assoc, ← Nat.pow_add, Nat.sub_add_cancel hxx]
    rcases Nat.lt_or_ge x1 j with l1 | l1 <;> rcases Nat.lt_or_ge x2 j with l2 | l2
    · -- both are small
      have s1 := small c1 x1 h1 l1
      have s2 := small c2 x2 h2 l2
      have s1' : ((c1 * 2 ^ x1 : Nat) : Int) < 2 ^ 23 * (J : Int) := by exact_mod_cast s1
      have s2' : ((c2 * 2 ^ x2 : Nat) : Int) < 2 ^ 23 * (J : Int) := by exact_mod_cast s2
      have hcJ : (2 ^ 52 : Int) * J ≤ (c : Int) * J := Int.mul_le_mul_of_nonneg_right (by omega) (by omega)
      have hJ0 : (0 : Int) < (J : Int) := by rw [hJJ]; exact_mod_cast hJ
      have p1 : (0 : Int) ≤ ((c1 * 2 ^ x1 : Nat) : Int) := by omega
      have p2 : (0 : Int) ≤ ((c2 * 2 ^ x2 : Nat) : Int) := by omega
      generalize ((c1 * 2 ^ x1 : Nat) : Int) = u1 at *
      generalize ((c2 * 2 ^ x2 : Nat) : Int) = u2 at *
      generalize (c : Int) * J = cJ at *
      rcases ha with rfl | rfl <;> rcases hb with rfl | rfl <;> omega
    · have s1 := small c1 x1 h1 l1
      rw [great c2 x2 l2, Int.natCast_mul (c2 * 2 ^ (x2 - j)) J] at hW
      refine fl_midS (Z := c2 * 2 ^ (x2 - j)) (d := x2 - j) (T := c1 * 2 ^ x1) (W := (W : Int)) (hJJ ▸ hJ) hc52 hm rfl h2 s1 ?_ n1' n2'
      generalize ((c1 * 2 ^ x1 : Nat) : Int) = u1 at *
      generalize ((c2 * 2 ^ (x2 - j) : Nat) : Int) * (J : Int) = u2 at *
      rcases ha with rfl | rfl <;> rcases hb with rfl | rfl <;> omega
    · have s2 := small c2 x2 h2 l2
      rw [great c1 x1 l1, Int.natCast_mul (c1 * 2 ^ (x1 - j)) J] at hW
      refine fl_midS (Z := c1 * 2 ^ (x1 - j)) (d := x1 - j) (T := c2 * 2 ^ x2) (W := (W : Int)) (hJJ ▸ hJ) hc52 hm rfl h1 s2 ?_ n1' n2'
      generalize ((c2 * 2 ^ x2 : Nat) : Int) = u1 at *
      generalize ((c1 * 2 ^ (x1 - j) : Nat) : Int) * (J : Int) = u2 at *
      rcases ha with rfl | rfl <;> rcases hb with rfl | rfl <;> omega
    · apply hWj
      rw [great c1 x1 l1, great c2 x2 l2] at hW
      have : (W : Int) = (a * ((c1 * 2 ^ (x1 - j) : Nat) : Int) + b * ((c2 * 2 ^ (x2 - j) : Nat) : Int)) * (J : Int) := by
        rw [hW, Int.add_mul, Int.natCast_mul (_ * _) J, Int.natCast_mul (_ * _) J, Int.mul_assoc, Int.mul_assoc]
      have hd : ((J : Nat) : Int) ∣ (W : Int) := ⟨_, by rw [this]; exact Int.mul_comm _ _⟩
      have hd2 : J ∣ W := Int.natCast_dvd_natCast.mp hd
      rw [← hJJ]; exact Nat.mod_eq_zero_of_dvd hd2
  · obtain ⟨w, hw⟩ := Nat.exists_eq_add_of_le hzk
    rw [hw, Nat.add_comm k, Nat.pow_add, ← Nat.mul_assoc, Nat.mul_mod_left]
/-- nor by a quotient -/
theorem fl_quoMid {c1 c2 α β c g : Nat} (h1 : c1 < 2 ^ 24) (h2 : c2 < 2 ^ 24) (h20 : 0 < c2) (hg : 29 ≤ g) (hc : c = Jvm.FP.Core.nearest (c1 * 2 ^ α) (c2 * 2 ^ β)) (hm : c % 2 ^ g = 2 ^ (g - 1)) : c1 * 2 ^ α % (c2 * 2 ^ β) = 0 := by
  have hY : 0 < c2 * 2 ^ β := Nat.mul_pos h20 (Nat.two_pow_pos _)
  obtain ⟨n1, n2⟩ := @fl_near_d (c1 * 2 ^ α) (c2 * 2 ^ β) hY
  rw [← hc] at n1 n2
  refine Classical.byContradiction fun hne => ?_
  have hXne : c1 * 2 ^ α ≠ c * (c2 * 2 ^ β) := fun w => hne (by rw [w, Nat.mul_mod_left])
  have hcge : 2 ^ (g - 1) ≤ c := by rw [← hm]; exact Nat.mod_le _ _
  obtain ⟨m, hmm⟩ : ∃ m, c = m * 2 ^ (g - 1) := by
    refine ⟨2 * (c / 2 ^ g) + 1, ?_⟩
    have e := Nat.div_add_mod c (2 ^ g)
    rw [hm] at e
    generalize c / 2 ^ g = Q at *
    rw [show 2 ^ g = 2 * 2 ^ (g - 1) by rw [← Nat.pow_succ']; congr 1; omega] at e
    rw [Nat.add_mul, Nat.one_mul, Nat.mul_right_comm]; exact e.symm
  have hcY : c * (c2 * 2 ^ β) = m * c2 * 2 ^ (β + (g - 1)) := by
    rw [hmm, Nat.pow_add]
    simp only [Nat.mul_assoc, Nat.mul_left_comm, Nat.mul_comm]
  rcases Nat.lt_or_ge α (β + (g - 1)) with hl | hl
  · -- all is a multiple of 2 ^ α
    obtain ⟨w, hw⟩ := Nat.exists_eq_add_of_le (Nat.le_of_lt hl)
    have hcY2 : c * (c2 * 2 ^ β) = m * c2 * 2 ^ w * 2 ^ α := by rw [hcY, hw, Nat.pow_add, Nat.mul_comm (2 ^ α), ← Nat.mul_assoc]
    have hdist : 2 ^ α ≤ c1 * 2 ^ α - c * (c2 * 2 ^ β) + (c * (c2 * 2 ^ β) - c1 * 2 ^ α) := by
      rw [hcY2] at hXne ⊢
      have hp := Nat.two_pow_pos α
      rcases Nat.lt_or_ge c1 (m * c2 * 2 ^ w) with k | k
      · have : (c1 + 1) * 2 ^ α ≤ m * c2 * 2 ^ w * 2 ^ α := Nat.mul_le_mul_right _ k
        rw [Nat.add_mul, Nat.one_mul] at this; omega
      · have hne2 : c1 ≠ m * c2 * 2 ^ w := fun y => hXne (by rw [y])
        have : (m * c2 * 2 ^ w + 1) * 2 ^ α ≤ c1 * 2 ^ α := Nat.mul_le_mul_right _ (by omega)
        rw [Nat.add_mul, Nat.one_mul] at this; omega
    -- X is at least 2 ^ (g - 2) times Y
    have hX : 2 ^ (g - 2) * (c2 * 2 ^ β) ≤ c1 * 2 ^ α := by
      have e3 : 2 ^ (g - 1) = 2 * 2 ^ (g - 2) := by rw [← Nat.pow_succ']; congr 1; omega
      have : 2 ^ (g - 1) * (c2 * 2 ^ β) ≤ c * (c2 * 2 ^ β) := Nat.mul_le_mul_right _ hcge
      rw [e3, Nat.mul_assoc] at this
      have hp2 : 1 * (c2 * 2 ^ β) ≤ 2 ^ (g - 2) * (c2 * 2 ^ β) := Nat.mul_le_mul_right _ (Nat.two_pow_pos _)
      omega
    have hY2 : 2 * 2 ^ α ≤ c2 * 2 ^ β := by omega
    have h3 : 2 ^ (g - 2) * (2 * 2 ^ α) ≤ c1 * 2 ^ α := Nat.le_trans (Nat.mul_le_mul_left _ hY2) hX
    rw [← Nat.mul_assoc] at h3
    have h4 := Nat.le_of_mul_le_mul_right h3 (Nat.two_pow_pos α)
    have h5 : 2 ^ 27 ≤ 2 ^ (g - 2) := Nat.pow_le_pow_right (by omega) (by omega)
    omega
  · obtain ⟨w, hw⟩ := Nat.exists_eq_add_of_le hl
    have hX2 : c1 * 2 ^ α = c1 * 2 ^ w * 2 ^ (β + (g - 1)) := by rw [hw, Nat.pow_add, Nat.mul_comm (2 ^ (β + (g - 1))), ← Nat.mul_assoc]
    have hYs : c2 * 2 ^ β < 2 ^ (β + (g - 1)) := by
      calc c2 * 2 ^ β < 2 ^ 24 * 2 ^ β := Nat.mul_lt_mul_of_pos_right h2 (Nat.two_pow_pos _)
        _ = 2 ^ (β + 24) := by rw [← Nat.pow_add, Nat.add_comm]
        _ ≤ _ := Nat.pow_le_pow_right (by omega) (by omega)
    rw [hX2, hcY] at n1 n2 hXne
    rcases Nat.lt_or_ge (c1 * 2 ^ w) (m * c2) with k | k
    · have : (c1 * 2 ^ w + 1) * 2 ^ (β + (g - 1)) ≤ m * c2 * 2 ^ (β + (g - 1)) := Nat.mul_le_mul_right _ k
      rw [Nat.add_mul, Nat.one_mul] at this; omega
    · have hne2 : c1 * 2 ^ w ≠ m * c2 := fun y => hXne (by rw [y])
      have : (m * c2 + 1) * 2 ^ (β + (g - 1)) ≤ c1 * 2 ^ w * 2 ^ (β + (g - 1)) := Nat.mul_le_mul_right _ (by omega)
      rw [Nat.add_mul, Nat.one_mul] at this; omega
