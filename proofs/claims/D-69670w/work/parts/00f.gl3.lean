/-! PHASE B floats 13: float operations by double operations -/
set_option maxRecDepth 100000
theorem fl_near_d {N D : Nat} (hD : 0 < D) : 2 * (Jvm.FP.Core.nearest N D * D) ≤ 2 * N + D ∧ 2 * N ≤ 2 * (Jvm.FP.Core.nearest N D * D) + D := by
  have e := Nat.div_add_mod N D
  have hr := Nat.mod_lt N hD
  unfold Jvm.FP.Core.nearest
  rw [Nat.mul_comm D] at e
  generalize N / D = q at *
  generalize N % D = r at *
  have m2 := Nat.mod_two_eq_zero_or_one q
  split
  · omega
  · split
    · rw [Nat.add_mul, Nat.one_mul]; omega
    · rcases m2 with w | w
      · rw [w, Nat.add_zero]; omega
      · rw [w, Nat.add_mul, Nat.one_mul]; omega
theorem fl_big {N D : Nat} (hD : 0 < D) (h : N < D * 2 ^ 2000) : flR 53 N D < INF64 := by
  have hup := @fl_c_le 53 N D (by omega) hD
  have hq : N / D < 2 ^ 2000 := (Nat.div_lt_iff_lt_mul hD).mpr (by rw [Nat.mul_comm]; exact h)
  have hk : fl_k 53 N D ≤ 1947 := by
    unfold fl_k
    by_cases q0 : N / D = 0
    · rw [q0, Nat.log2_zero]; omega
    · have := (Nat.log2_lt q0).mpr hq; omega
  unfold flR
  generalize Jvm.FP.Core.nearest N (D * 2 ^ fl_k 53 N D) = c at *
  unfold INF64
  generalize fl_k 53 N D = k at *
  omega
theorem f64_parts {s : Bool} {m : Nat} (hm : m < 2 ^ 63) : (s.toNat * 2 ^ 63 + m) % 2 ^ 63 = m ∧ Jvm.FP.Core.fieldS F64 (s.toNat * 2 ^ 63 + m) = s ∧ flU F64 (s.toNat * 2 ^ 63 + m) = flU F64 m ∧ s.toNat * 2 ^ 63 + m < 2 ^ 64 := by
  have h1 : s.toNat ≤ 1 := by cases s <;> decide
  have hlt : s.toNat * 2 ^ 63 + m < 2 ^ 64 := by omega
  refine ⟨by omega, ?_, ?_, hlt⟩
  · rw [f64_S' hlt]
    cases s
    · simp; omega
    · simp
  · unfold flU
    rw [f64_E, f64_E, f64_T, f64_T, show (s.toNat * 2 ^ 63 + m) / 2 ^ 52 % 2 ^ 11 = m / 2 ^ 52 % 2 ^ 11 by omega, show (s.toNat * 2 ^ 63 + m) % 2 ^ 52 = m % 2 ^ 52 by omega]
/-- narrow, behind an operation -/
theorem fl_narR {N D z : Nat} (hz : z = 925) (s : Bool) (hD : 0 < D) (hb : N * 2 ^ z < D * 2 ^ 2000)
    (hm : Jvm.FP.Core.nearest (N * 2 ^ z) (D * 2 ^ fl_k 53 (N * 2 ^ z) D) % 2 ^ (z + fl_k 24 N D - fl_k 53 (N * 2 ^ z) D) = 2 ^ (z + fl_k 24 N D - fl_k 53 (N * 2 ^ z) D - 1) → N * 2 ^ z % (D * 2 ^ fl_k 53 (N * 2 ^ z) D) = 0) :
    Jvm.FP.Core.convert F64 F32 (fl_sg F64 s + min (fl_inf F64) (flR 53 (N * 2 ^ z) D)) = fl_sg F32 s + min (fl_inf F32) (flR 24 N D) := by
  have hlt := fl_big hD hb
  obtain ⟨h1, _⟩ := fl_dbl hz hD hm
  rw [f64_inf, Nat.min_eq_right (Nat.le_of_lt hlt), f64_sg]
  have hi : INF64 < 2 ^ 63 := by decide
  obtain ⟨p1, p2, p3, p4⟩ := @f64_parts s (flR 53 (N * 2 ^ z) D) (by omega)
  rw [fl_cv fl_ok64 fl_ok32 (f64_fin.mpr (by rw [p1]; exact hlt)) (a := 0) (b := z) (by rw [hz]; decide), p2, p3, f64_repr hD hlt, Nat.pow_zero, Nat.mul_one, show F32.p = 24 from rfl, h1]
/-- a float as a double -/
theorem fl_cut32 {x : Nat} (hf : x % 2 ^ 31 < INF32) : ∃ c e, flU F32 x = c * 2 ^ e ∧ c < 2 ^ 24 ∧ e ≤ 253 := by
  refine ⟨fl_c F32 x, fl_x F32 x, flU_eq F32 x, ?_, ?_⟩
  · unfold fl_c
    rw [f32_E, f32_T, show F32.tails = 2 ^ 23 from rfl]
    split <;> omega
  · unfold fl_x
    rw [f32_E]
    unfold INF32 at hf
    omega
theorem fl_wide {x z : Nat} (hz : z = 925) (hx : x < 2 ^ 32) (hf : x % 2 ^ 31 < INF32) :
    Jvm.FP.Core.convert F32 F64 x < 2 ^ 64 ∧ Jvm.FP.Core.convert F32 F64 x % 2 ^ 63 < INF64 ∧ Jvm.FP.Core.fieldS F64 (Jvm.FP.Core.convert F32 F64 x) = Jvm.FP.Core.fieldS F32 x ∧ flU F64 (Jvm.FP.Core.convert F32 F64 x) = flU F32 x * 2 ^ z := by
  obtain ⟨c, e, hU, hc, he⟩ := fl_cut32 hf
  have hb : flU F32 x * 2 ^ z < 1 * 2 ^ 2000 := by
    rw [hU, Nat.one_mul]
    calc c * 2 ^ e * 2 ^ z < 2 ^ 24 * 2 ^ e * 2 ^ z := Nat.mul_lt_mul_of_pos_right (Nat.mul_lt_mul_of_pos_right hc (Nat.two_pow_pos _)) (Nat.two_pow_pos _)
      _ = 2 ^ (24 + e + z) := by rw [Nat.pow_add, Nat.pow_add]
      _ ≤ 2 ^ 2000 := Nat.pow_le_pow_right (by omega) (by omega)
  have hlt := fl_big (by omega : 0 < 1) hb
  rw [fl_cv fl_ok32 fl_ok64 (f32_fin.mpr hf) (a := z) (b := 0) (by rw [hz]; decide), Nat.pow_zero, f64_sg, f64_inf, show F64.p = 53 from rfl, Nat.min_eq_right (Nat.le_of_lt hlt)]
  have hi : INF64 < 2 ^ 63 := by decide
  obtain ⟨p1, p2, p3, p4⟩ := @f64_parts (Jvm.FP.Core.fieldS F32 x) (flR 53 (flU F32 x * 2 ^ z) 1) (by omega)
  refine ⟨p4, by rw [p1]; exact hlt, p2, ?_⟩
  rw [p3, f64_repr (by omega) hlt, Nat.one_mul]
  -- all digits are kept
  have hk : fl_k 53 (flU F32 x * 2 ^ z) 1 ≤ e + z := by
    unfold fl_k
    rw [Nat.div_one]
    by_cases q0 : flU F32 x * 2 ^ z = 0
    · rw [q0, Nat.log2_zero]; omega
    · have : flU F32 x * 2 ^ z < 2 ^ (24 + e + z) := by
        rw [hU, Nat.pow_add, Nat.pow_add]
        exact Nat.mul_lt_mul_of_pos_right (Nat.mul_lt_mul_of_pos_right hc (Nat.two_pow_pos _)) (Nat.two_pow_pos _)
      have := (Nat.log2_lt q0).mpr this; omega
  generalize fl_k 53 (flU F32 x * 2 ^ z) 1 = k at *
  obtain ⟨w, hw⟩ := Nat.exists_eq_add_of_le hk
  have hV : flU F32 x * 2 ^ z = c * 2 ^ w * 2 ^ k := by rw [hU, Nat.mul_assoc, Nat.mul_assoc, ← Nat.pow_add, ← Nat.pow_add, hw]; congr 2; omega
  rw [hV, fl_near_exact (Nat.two_pow_pos _)]
theorem fl_wideI {x : Nat} (hx : x < 2 ^ 32) (hi : x % 2 ^ 31 = INF32) : Jvm.FP.Core.convert F32 F64 x = (Jvm.FP.Core.fieldS F32 x).toNat * 2 ^ 63 + INF64 := by
  unfold Jvm.FP.Core.convert
  rw [f32_bad hi]; exact f64_enc_inf _
theorem fl_narI (s : Bool) : Jvm.FP.Core.convert F64 F32 (s.toNat * 2 ^ 63 + INF64) = s.toNat * 2 ^ 31 + INF32 := by cases s <;> decide
/-- what is cut off exactly -/
theorem fl_exactX {q m k : Nat} (hq : q < 2 ^ 50) (hk : k = fl_k 53 (q * 2 ^ m) 1) : q * 2 ^ m % (1 * 2 ^ k) = 0 := by
  have hkm : k ≤ m := by
    rw [hk]; unfold fl_k
    rw [Nat.div_one]
    by_cases q0 : q * 2 ^ m = 0
    · rw [q0, Nat.log2_zero]; omega
    · have : q * 2 ^ m < 2 ^ (50 + m) := by rw [Nat.pow_add]; exact Nat.mul_lt_mul_of_pos_right hq (Nat.two_pow_pos _)
      have := (Nat.log2_lt q0).mpr this; omega
  obtain ⟨w, hw⟩ := Nat.exists_eq_add_of_le hkm
  rw [Nat.one_mul, hw, Nat.add_comm k, Nat.pow_add, ← Nat.mul_assoc, Nat.mul_mod_left]
/-- the middle is not met by a sum: one operand has its last digit high up, the other is small -/
theorem fl_midS {c J Z T d c1 : Nat} {W : Int} (hJ : 0 < J) (hc : 2 ^ 52 ≤ c) (hm : c % 2 ^ 29 = 2 ^ 28) (hZ : Z = c1 * 2 ^ d) (hc1 : c1 < 2 ^ 24) (hT : T < 2 ^ 23 * J)
    (hW : W = Z * J + T ∨ W = Z * J - T ∨ W = -(Z * J) + T ∨ W = -(Z * J) - T) (n1 : 2 * ((c : Int) * J) ≤ 2 * W + J) (n2 : 2 * W ≤ 2 * ((c : Int) * J) + J) : False := by
  have hJ' : (0 : Int) < (J : Int) := by omega
  have hTi : (T : Int) < 2 ^ 23 * (J : Int) := by have : ((T : Nat) : Int) < ((2 ^ 23 * J : Nat) : Int) := by exact_mod_cast hT
                                                  rw [Int.natCast_mul] at this; exact this
  have hT0 : (0 : Int) ≤ (T : Int) := by omega
  have key : (c : Int) - Z < 2 ^ 24 ∧ (Z : Int) - c < 2 ^ 24 ∨ (c : Int) + Z < 2 ^ 24 := by
    have e1 : ((c : Int) - Z) * J = (c : Int) * J - Z * J := Int.sub_mul _ _ _
    have e2 : ((Z : Int) - c) * J = (Z : Int) * J - c * J := Int.sub_mul _ _ _
    have e3 : ((c : Int) + Z) * J = (c : Int) * J + Z * J := Int.add_mul _ _ _
    generalize (c : Int) * J = p at *
    generalize (Z : Int) * J = q at *
    rcases hW with h | h | h | h
    · left; exact ⟨Int.lt_of_mul_lt_mul_right (a := (J : Int)) (by rw [e1]; omega) (by omega), Int.lt_of_mul_lt_mul_right (a := (J : Int)) (by rw [e2]; omega) (by omega)⟩
    · left; exact ⟨Int.lt_of_mul_lt_mul_right (a := (J : Int)) (by rw [e1]; omega) (by omega), Int.lt_of_mul_lt_mul_right (a := (J : Int)) (by rw [e2]; omega) (by omega)⟩
    · right; exact Int.lt_of_mul_lt_mul_right (a := (J : Int)) (by rw [e3]; omega) (by omega)
    · right; exact Int.lt_of_mul_lt_mul_right (a := (J : Int)) (by rw [e3]; omega) (by omega)
  rcases key with ⟨k1, k2⟩ | k
  · have hd : 28 ≤ d := by
      refine Nat.le_of_not_lt fun w => ?_
      have h1 : 2 ^ d ≤ 2 ^ 27 := Nat.pow_le_pow_right (by omega) (by omega)
      have h2 : c1 * 2 ^ d ≤ c1 * 2 ^ 27 := Nat.mul_le_mul_left _ h1
      omega
    obtain ⟨w, rfl⟩ := Nat.exists_eq_add_of_le hd
    obtain ⟨u, hu⟩ : ∃ u, u = c1 * 2 ^ w := ⟨_, rfl⟩
    have hZu : Z = 2 ^ 28 * u := by rw [hZ, hu, Nat.pow_add]; exact Nat.mul_left_comm _ _ _
    by_cases w0 : w = 0
    · subst w0
      rw [Nat.pow_zero, Nat.mul_one] at hu
      omega
    · obtain ⟨v, rfl⟩ : ∃ v, w = v + 1 := ⟨w - 1, by omega⟩
      rw [Nat.pow_succ, ← Nat.mul_assoc] at hu
      generalize c1 * 2 ^ v = y at *
      omega
  · omega
