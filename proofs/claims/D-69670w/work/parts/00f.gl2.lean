/-! PHASE B floats 12: rounding to a double and then to a float -/
set_option maxRecDepth 100000
/-- nearest twice is nearest once, where the first does not fall on the middle -/
theorem fl_dn {X Y c g : Nat} (hY : 0 < Y) (hc : c = Jvm.FP.Core.nearest X Y) (hg : 1 ≤ g) (hm : c % 2 ^ g = 2 ^ (g - 1) → X % Y = 0) :
    Jvm.FP.Core.nearest c (2 ^ g) = Jvm.FP.Core.nearest X (Y * 2 ^ g) := by
  obtain ⟨q, hq⟩ : ∃ q, q = X / Y := ⟨_, rfl⟩
  obtain ⟨r, hr⟩ : ∃ r, r = X % Y := ⟨_, rfl⟩
  have hX : X = q * Y + r := by rw [hq, hr, Nat.mul_comm]; exact (Nat.div_add_mod X Y).symm
  have hrY : r < Y := by rw [hr]; exact Nat.mod_lt _ hY
  rw [← hr] at hm
  have hd : (c = q ∧ 2 * r ≤ Y) ∨ (c = q + 1 ∧ Y ≤ 2 * r) := by
    rw [hc]; unfold Jvm.FP.Core.nearest; rw [← hq, ← hr]
    split
    · left; exact ⟨rfl, by omega⟩
    · split
      · right; exact ⟨rfl, by omega⟩
      · have := Nat.mod_two_eq_zero_or_one q
        rcases this with z | z
        · left; exact ⟨by omega, by omega⟩
        · right; exact ⟨by omega, by omega⟩
  have hP : 0 < 2 ^ g := Nat.two_pow_pos g
  have e2 : 2 ^ g = 2 * 2 ^ (g - 1) := by rw [← Nat.pow_succ']; congr 1; omega
  obtain ⟨h, hh⟩ : ∃ h, h = 2 ^ (g - 1) := ⟨_, rfl⟩
  have hh0 : 0 < h := by rw [hh]; exact Nat.two_pow_pos _
  rw [← hh] at e2 hm
  obtain ⟨a, ha⟩ : ∃ a, a = q / 2 ^ g := ⟨_, rfl⟩
  obtain ⟨s, hs⟩ : ∃ s, s = q % 2 ^ g := ⟨_, rfl⟩
  have hqa : q = 2 ^ g * a + s := by rw [ha, hs]; exact (Nat.div_add_mod q (2 ^ g)).symm
  have hs2 : s < 2 ^ g := by rw [hs]; exact Nat.mod_lt _ hP
  -- the right side
  have hXX : X = Y * 2 ^ g * a + (s * Y + r) := by
    rw [hX, hqa, Nat.add_mul, Nat.add_assoc]; congr 1
    rw [Nat.mul_comm, ← Nat.mul_assoc]
  have hlt : s * Y + r < Y * 2 ^ g := by
    have : (s + 1) * Y ≤ 2 ^ g * Y := Nat.mul_le_mul_right _ hs2
    rw [Nat.add_mul, Nat.one_mul] at this; rw [Nat.mul_comm Y]; omega
  have hYP : 0 < Y * 2 ^ g := Nat.mul_pos hY hP
  have r1 : X / (Y * 2 ^ g) = a := by rw [hXX, Nat.mul_add_div hYP, Nat.div_eq_of_lt hlt, Nat.add_zero]
  have r2 : X % (Y * 2 ^ g) = s * Y + r := by rw [hXX, Nat.mul_add_mod, Nat.mod_eq_of_lt hlt]
  have hYe : Y * 2 ^ g = 2 * (h * Y) := by rw [e2, Nat.mul_comm Y, Nat.mul_assoc]
  -- the left side, by what c is
  have left : ∀ t, t < 2 ^ g → c = 2 ^ g * a + t → (c / 2 ^ g = a ∧ c % 2 ^ g = t) := by
    intro t ht hct
    exact ⟨by rw [hct, Nat.mul_add_div hP, Nat.div_eq_of_lt ht, Nat.add_zero], by rw [hct, Nat.mul_add_mod, Nat.mod_eq_of_lt ht]⟩
  unfold Jvm.FP.Core.nearest
  rw [r1, r2, hYe]
  rcases hd with ⟨hcq, h2r⟩ | ⟨hcq, h2r⟩
  · obtain ⟨l1, l2⟩ := left s hs2 (by rw [hcq, hqa])
    rw [l1, l2, e2]
    rw [l2] at hm
    rcases Nat.lt_trichotomy s h with k | k | k
    · have : (s + 1) * Y ≤ h * Y := Nat.mul_le_mul_right _ k
      rw [Nat.add_mul, Nat.one_mul] at this
      rw [if_pos (by omega), if_pos (by omega)]
    · have r0 := hm k
      rw [k, r0]
      rw [if_neg (by omega), if_neg (by omega), if_neg (by omega), if_neg (by omega)]
    · have : (h + 1) * Y ≤ s * Y := Nat.mul_le_mul_right _ k
      rw [Nat.add_mul, Nat.one_mul] at this
      rw [if_neg (by omega), if_pos (by omega), if_neg (by omega), if_pos (by omega)]
  · have hr0 : 0 < r := by omega
    by_cases sl : s + 1 < 2 ^ g
    · obtain ⟨l1, l2⟩ := left (s + 1) sl (by rw [hcq, hqa]; rfl)
      rw [l1, l2, e2]
      rw [l2] at hm
      rcases Nat.lt_trichotomy (s + 1) h with k | k | k
      · have : (s + 1) * Y < h * Y := Nat.mul_lt_mul_of_pos_right k hY
        rw [Nat.add_mul, Nat.one_mul] at this
        rw [if_pos (by omega), if_pos (by omega)]
      · exact absurd (hm k) (by omega)
      · have : h * Y ≤ s * Y := Nat.mul_le_mul_right _ (by omega)
        rw [if_neg (by omega), if_pos (by omega), if_neg (by omega), if_pos (by omega)]
    · have hs' : s + 1 = 2 ^ g := by omega
      have hca : c = 2 ^ g * (a + 1) + 0 := by rw [hcq, hqa, Nat.mul_add, Nat.mul_one]; omega
      have l1 : c / 2 ^ g = a + 1 := by rw [hca, Nat.mul_add_div hP, Nat.zero_div, Nat.add_zero]
      have l2 : c % 2 ^ g = 0 := by rw [hca, Nat.mul_add_mod, Nat.zero_mod]
      rw [l1, l2]
      have : h * Y ≤ s * Y := Nat.mul_le_mul_right _ (by omega)
      rw [if_pos (by omega), if_neg (by omega), if_pos (by omega)]
/-- bits of a rounded magnitude stand for it -/
theorem f64_repr {N D : Nat} (hD : 0 < D) (h : flR 53 N D < INF64) : flU F64 (flR 53 N D) = Jvm.FP.Core.nearest N (D * 2 ^ fl_k 53 N D) * 2 ^ fl_k 53 N D := by
  have hup := @fl_c_le 53 N D (by omega) hD
  have hlow := @fl_c_ge 53 N D hD
  have e : flR 53 N D = fl_k 53 N D * 2 ^ 52 + Jvm.FP.Core.nearest N (D * 2 ^ fl_k 53 N D) := rfl
  rw [e] at h ⊢
  generalize fl_k 53 N D = k at *
  generalize Jvm.FP.Core.nearest N (D * 2 ^ k) = c at *
  unfold INF64 at h
  unfold flU
  rw [f64_E, f64_T, show F64.tails = 2 ^ 52 from rfl]
  by_cases c1 : c < 2 ^ 52
  · have k0 : k = 0 := Nat.eq_zero_of_not_pos fun z => absurd (hlow z) (by omega)
    subst k0
    rw [if_pos (by omega), Nat.pow_zero, Nat.mul_one]; omega
  · by_cases c2 : c < 2 ^ 53
    · rw [if_neg (by omega), show (k * 2 ^ 52 + c) / 2 ^ 52 % 2 ^ 11 - 1 = k by omega, show 2 ^ 52 + (k * 2 ^ 52 + c) % 2 ^ 52 = c by omega]
    · have hc : c = 2 ^ 53 := by omega
      rw [if_neg (by omega), show (k * 2 ^ 52 + c) / 2 ^ 52 % 2 ^ 11 - 1 = k + 1 by omega, show 2 ^ 52 + (k * 2 ^ 52 + c) % 2 ^ 52 = 2 ^ 52 by omega, hc, ← Nat.pow_add, ← Nat.pow_add]
      congr 1; omega
theorem fl_dbl_k {N D z k K : Nat} (hz : z = 925) (hD : 0 < D) (hk : k = fl_k 53 (N * 2 ^ z) D) (hK : K = fl_k 24 N D) : (0 < K → k = K + 896) ∧ (K = 0 → k ≤ 896) := by
  have hzp := Nat.two_pow_pos z
  by_cases h0 : N / D = 0
  · have hK0 : K = 0 := by rw [hK]; unfold fl_k; rw [h0, Nat.log2_zero]
    refine ⟨fun w => by omega, fun _ => ?_⟩
    have hlt : N < D := by rcases Nat.div_eq_zero_iff.mp h0 with c | c <;> omega
    have hq : N * 2 ^ z / D < 2 ^ z := (Nat.div_lt_iff_lt_mul hD).mpr (by rw [Nat.mul_comm]; exact Nat.mul_lt_mul_of_pos_left hlt hzp)
    rw [hk]; unfold fl_k
    by_cases q0 : N * 2 ^ z / D = 0
    · rw [q0, Nat.log2_zero]; omega
    · have := (Nat.log2_lt q0).mpr hq; omega
  · obtain ⟨l1, l2⟩ := fl_log hD h0
    have hq0 : N * 2 ^ z / D ≠ 0 := by
      have : N / D ≤ N * 2 ^ z / D := Nat.div_le_div_right (Nat.le_mul_of_pos_right _ hzp)
      exact Nat.pos_iff_ne_zero.mp (Nat.lt_of_lt_of_le (Nat.pos_of_ne_zero h0) this)
    have hlog : (N * 2 ^ z / D).log2 = (N / D).log2 + z := by
      refine fl_log2_of ?_ ?_
      · refine (Nat.le_div_iff_mul_le hD).mpr ?_
        rw [Nat.pow_add, Nat.mul_right_comm, Nat.mul_comm (2 ^ (N / D).log2)]; exact Nat.mul_le_mul_right _ l1
      · refine (Nat.div_lt_iff_lt_mul hD).mpr ?_
        rw [show (N / D).log2 + z + 1 = (N / D).log2 + 1 + z by omega, Nat.pow_add, Nat.mul_right_comm, Nat.mul_comm (2 ^ ((N / D).log2 + 1))]
        exact Nat.mul_lt_mul_of_pos_right l2 hzp
    have e1 : k = (N / D).log2 + z - 52 := by rw [hk]; unfold fl_k; rw [hlog]
    have e2 : K = (N / D).log2 - 23 := by rw [hK]; rfl
    constructor
    · intro w; omega
    · intro w; omega
theorem fl_dbl_full {z k K c g : Nat} (hgk : g + k = z + K) (hz : z = 925) (f1 : c = 2 ^ 53) (hk896 : k = K + 896) : flR 24 (c * 2 ^ k) (2 ^ z) = K * 2 ^ 23 + Jvm.FP.Core.nearest c (2 ^ g) := by
  have hzp := Nat.two_pow_pos z
  have g29 : g = 29 := by omega
  have hV : c * 2 ^ k = 2 ^ (K + 24) * 2 ^ z := by rw [f1, ← Nat.pow_add, ← Nat.pow_add]; congr 1; omega
  have hkk : fl_k 24 (c * 2 ^ k) (2 ^ z) = K + 1 := by
    unfold fl_k
    rw [hV, Nat.mul_div_cancel _ hzp, Nat.log2_two_pow]; omega
  unfold flR
  rw [hkk, hV, g29, f1]
  have e1 : Jvm.FP.Core.nearest (2 ^ (K + 24) * 2 ^ z) (2 ^ z * 2 ^ (K + 1)) = 2 ^ 23 := by
    rw [show 2 ^ (K + 24) * 2 ^ z = 2 ^ 23 * (2 ^ z * 2 ^ (K + 1)) by rw [← Nat.pow_add, ← Nat.pow_add, ← Nat.pow_add]; congr 1; omega]
    exact fl_near_exact (Nat.mul_pos hzp (Nat.two_pow_pos _))
  have e2 : Jvm.FP.Core.nearest (2 ^ 53) (2 ^ 29) = 2 ^ 24 := by decide
  generalize Jvm.FP.Core.nearest (2 ^ (K + 24) * 2 ^ z) (2 ^ z * 2 ^ (K + 1)) = u at *
  generalize Jvm.FP.Core.nearest (2 ^ 53) (2 ^ 29) = v at *
  omega
/-- rounded to 53 places and then to 24, in units of a float: as at once -/
theorem fl_dbl {N D z : Nat} (hz : z = 925) (hD : 0 < D)
    (hm : Jvm.FP.Core.nearest (N * 2 ^ z) (D * 2 ^ fl_k 53 (N * 2 ^ z) D) % 2 ^ (z + fl_k 24 N D - fl_k 53 (N * 2 ^ z) D) = 2 ^ (z + fl_k 24 N D - fl_k 53 (N * 2 ^ z) D - 1) → N * 2 ^ z % (D * 2 ^ fl_k 53 (N * 2 ^ z) D) = 0) :
    flR 24 (Jvm.FP.Core.nearest (N * 2 ^ z) (D * 2 ^ fl_k 53 (N * 2 ^ z) D) * 2 ^ fl_k 53 (N * 2 ^ z) D) (2 ^ z) = flR 24 N D ∧ 29 ≤ z + fl_k 24 N D - fl_k 53 (N * 2 ^ z) D := by
  have hzp := Nat.two_pow_pos z
  obtain ⟨k, hk⟩ : ∃ k, k = fl_k 53 (N * 2 ^ z) D := ⟨_, rfl⟩
  obtain ⟨K, hK⟩ : ∃ K, K = fl_k 24 N D := ⟨_, rfl⟩
  rw [← hk, ← hK] at hm ⊢
  have hup := @fl_c_le 53 (N * 2 ^ z) D (by omega) hD
  have hlow := @fl_c_ge 53 (N * 2 ^ z) D hD
  rw [← hk] at hup hlow
  -- the two counts of digits
  have hkK := fl_dbl_k hz hD hk hK
  obtain ⟨g, hg⟩ : ∃ g, g = z + K - k := ⟨_, rfl⟩
  rw [← hg] at hm ⊢
  have hg29 : 29 ≤ g := by omega
  refine ⟨?_, hg29⟩
  have hgk : g + k = z + K := by omega
  have hYp : 0 < D * 2 ^ k := Nat.mul_pos hD (Nat.two_pow_pos _)
  have key := fl_dn hYp (c := Jvm.FP.Core.nearest (N * 2 ^ z) (D * 2 ^ k)) rfl (by omega : 1 ≤ g) hm
  -- the once rounded
  have honce : flR 24 N D = K * 2 ^ 23 + Jvm.FP.Core.nearest (N * 2 ^ z) (D * 2 ^ k * 2 ^ g) := by
    have e : flR 24 N D = K * 2 ^ 23 + Jvm.FP.Core.nearest N (D * 2 ^ K) := by rw [hK]; rfl
    rw [e, Nat.mul_assoc D, ← Nat.pow_add]
    congr 1
    have := fl_near_pow (n := N) (d := D) (x := 0) (y := K) (x2 := z) (y2 := k + g) (by omega)
    rw [Nat.pow_zero, Nat.mul_one] at this; exact this
  rw [honce, ← key]
  generalize hc : Jvm.FP.Core.nearest (N * 2 ^ z) (D * 2 ^ k) = c at *
  -- the twice rounded
  by_cases full : c = 2 ^ 53 ∧ 896 ≤ k
  · obtain ⟨f1, f2⟩ := full
    have hk896 : k = K + 896 := by
      rcases Nat.eq_zero_or_pos K with w | w
      · have := hkK.2 w; omega
      · exact hkK.1 w
    exact fl_dbl_full hgk hz f1 hk896
  · have hkk : fl_k 24 (c * 2 ^ k) (2 ^ z) = K := by
      rcases Nat.eq_zero_or_pos K with w | w
      · -- all below 2 ^ 24 units
        have h1 := hkK.2 w
        have hlt : c * 2 ^ k < 2 ^ 24 * 2 ^ z := by
          by_cases c53 : c = 2 ^ 53
          · have : k < 896 := by have := fun y => full ⟨c53, y⟩; omega
            rw [c53, ← Nat.pow_add, ← Nat.pow_add]; exact Nat.pow_lt_pow_right (by omega) (by omega)
          · calc c * 2 ^ k < 2 ^ 53 * 2 ^ k := Nat.mul_lt_mul_of_pos_right (by omega) (Nat.two_pow_pos _)
              _ ≤ 2 ^ 53 * 2 ^ 896 := Nat.mul_le_mul_left _ (Nat.pow_le_pow_right (by omega) h1)
              _ = 2 ^ 24 * 2 ^ z := by rw [← Nat.pow_add, ← Nat.pow_add]; congr 1; omega
        have hq : c * 2 ^ k / 2 ^ z < 2 ^ 24 := (Nat.div_lt_iff_lt_mul hzp).mpr hlt
        unfold fl_k
        by_cases q0 : c * 2 ^ k / 2 ^ z = 0
        · rw [q0, Nat.log2_zero]; omega
        · have := (Nat.log2_lt q0).mpr hq; omega
      · have h1 := hkK.1 w
        have c52 := hlow (by omega)
        have c53 : c < 2 ^ 53 := by
          rcases Nat.lt_or_eq_of_le hup with y | y
          · exact y
          · exact absurd ⟨y, by omega⟩ full
        unfold fl_k
        have : (c * 2 ^ k / 2 ^ z).log2 = K + 23 := by
          refine fl_log2_of ?_ ?_
          · refine (Nat.le_div_iff_mul_le hzp).mpr ?_
            calc 2 ^ (K + 23) * 2 ^ z = 2 ^ 52 * 2 ^ k := by rw [← Nat.pow_add, ← Nat.pow_add]; congr 1; omega
              _ ≤ c * 2 ^ k := Nat.mul_le_mul_right _ c52
          · refine (Nat.div_lt_iff_lt_mul hzp).mpr ?_
            calc c * 2 ^ k < 2 ^ 53 * 2 ^ k := Nat.mul_lt_mul_of_pos_right c53 (Nat.two_pow_pos _)
              _ = 2 ^ (K + 23 + 1) * 2 ^ z := by rw [← Nat.pow_add, ← Nat.pow_add]; congr 1; omega
        omega
    have e : flR 24 (c * 2 ^ k) (2 ^ z) = K * 2 ^ 23 + Jvm.FP.Core.nearest (c * 2 ^ k) (2 ^ z * 2 ^ K) := by unfold flR; rw [hkk]
    rw [e]
    congr 1
    have := fl_near_pow (n := c) (d := 1) (x := k) (y := z + K) (x2 := 0) (y2 := g) (by omega)
    rw [Nat.pow_zero, Nat.mul_one, Nat.one_mul, Nat.one_mul] at this
    rw [← Nat.pow_add]; exact this
