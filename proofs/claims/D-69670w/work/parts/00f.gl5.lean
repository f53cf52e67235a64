/-! PHASE B floats 15: a float's operation is the double's, narrowed -/
set_option maxRecDepth 100000
/-- the double of a float's bits -/
def fW (x : Nat) : Nat := Jvm.FP.Core.convert F32 F64 x
def fN (x : Nat) : Nat := Jvm.FP.Core.convert F64 F32 x
theorem fl_z925 : ∃ z : Nat, z = 925 := ⟨_, rfl⟩
theorem fl_mb {c x z : Nat} (hc : c < 2 ^ 48) (hx : x + z ≤ 1900) : c * 2 ^ x * 2 ^ z < 2 ^ 2000 := by
  rw [Nat.mul_assoc, ← Nat.pow_add]
  calc c * 2 ^ (x + z) < 2 ^ 48 * 2 ^ (x + z) := Nat.mul_lt_mul_of_pos_right hc (Nat.two_pow_pos _)
    _ = 2 ^ (48 + (x + z)) := by rw [← Nat.pow_add]
    _ ≤ 2 ^ 2000 := Nat.pow_le_pow_right (by omega) (by omega)
theorem fN_W {x : Nat} (hx : x < 2 ^ 32) (nx : x % 2 ^ 31 ≤ INF32) : fN (fW x) = x := by
  unfold fN fW
  by_cases hi : x % 2 ^ 31 = INF32
  · rw [fl_wideI hx hi, fl_narI]
    have := f32_sv hx
    rw [hi, f32_sg] at this; exact this
  · obtain ⟨z, hz⟩ := fl_z925
    have hf : x % 2 ^ 31 < INF32 := by omega
    obtain ⟨w1, w2, w3, w4⟩ := fl_wide hz hx hf
    rw [fl_cv fl_ok64 fl_ok32 (f64_fin.mpr w2) (a := 0) (b := z) (by rw [hz]; decide), w3, w4, Nat.pow_zero, Nat.mul_one, show F32.p = 24 from rfl]
    have e : flR 24 (flU F32 x * 2 ^ z) (2 ^ z) = x % 2 ^ 31 := by
      have h1 := flR_mul (p := 24) (N := flU F32 x) (D := 1) (Nat.two_pow_pos z)
      rw [Nat.one_mul] at h1
      rw [h1]
      have h2 := fl_exact (f := F32) (by decide) x
      rw [show F32.p = 24 from rfl] at h2
      rw [h2, f32_E, f32_T, show F32.tails = 8388608 from rfl]; omega
    rw [e, f32_inf, Nat.min_eq_right (by omega)]
    exact f32_sv hx
theorem fl_wW {x z : Nat} (hz : z = 925) (hx : x < 2 ^ 32) (hf : x % 2 ^ 31 < INF32) :
    fW x < 2 ^ 64 ∧ fW x % 2 ^ 63 < INF64 ∧ Jvm.FP.Core.fieldS F64 (fW x) = Jvm.FP.Core.fieldS F32 x ∧ flU F64 (fW x) = flU F32 x * 2 ^ z := fl_wide hz hx hf
theorem fl_vW {x z : Nat} (w3 : Jvm.FP.Core.fieldS F64 (fW x) = Jvm.FP.Core.fieldS F32 x) (w4 : flU F64 (fW x) = flU F32 x * 2 ^ z) : fl_v F64 (fW x) = fl_v F32 x * ((2 ^ z : Nat) : Int) := by
  unfold fl_v; rw [w3, w4, fl_sgn_mul]
theorem fl_sgnE (s : Bool) (n : Nat) : ∃ a : Int, (a = 1 ∨ a = -1) ∧ Jvm.FP.Core.signed s n = a * (n : Int) := by
  cases s
  · exact ⟨1, .inl rfl, by simp [Jvm.FP.Core.signed]⟩
  · exact ⟨-1, .inr rfl, by simp [Jvm.FP.Core.signed]⟩
theorem fw_sum {x y : Nat} (hx : x < 2 ^ 32) (hy : y < 2 ^ 32) (fx : x % 2 ^ 31 < INF32) (fy : y % 2 ^ 31 < INF32) :
    fN (Jvm.FP.Core.add F64 (fW x) (fW y)) = Jvm.FP.Core.add F32 x y ∧ fN (Jvm.FP.Core.sub F64 (fW x) (fW y)) = Jvm.FP.Core.sub F32 x y := by
  obtain ⟨z, hz⟩ := fl_z925
  obtain ⟨a1, a2, a3, a4⟩ := fl_wW hz hx fx
  obtain ⟨b1, b2, b3, b4⟩ := fl_wW hz hy fy
  obtain ⟨c1, x1, u1, l1, m1⟩ := fl_cut32 fx
  obtain ⟨c2, x2, u2, l2, m2⟩ := fl_cut32 fy
  have va := fl_vW (x := x) (z := z) a3 a4
  have vb := fl_vW (x := y) (z := z) b3 b4
  have hzp := Nat.two_pow_pos z
  have gen : ∀ (s : Bool) (v : Int), (∃ a b : Int, (a = 1 ∨ a = -1) ∧ (b = 1 ∨ b = -1) ∧ v = a * ((c1 * 2 ^ x1 : Nat) : Int) + b * ((c2 * 2 ^ x2 : Nat) : Int)) →
      fN (fl_sg F64 s + min (fl_inf F64) (flR 53 (v * ((2 ^ z : Nat) : Int)).natAbs 1)) = fl_sg F32 s + min (fl_inf F32) (flR 24 v.natAbs 1) := by
    intro s v ⟨a, b, ha, hb, hv⟩
    rw [Int.natAbs_mul, Int.natAbs_natCast]
    have hW : ∃ a b : Int, (a = 1 ∨ a = -1) ∧ (b = 1 ∨ b = -1) ∧ (v.natAbs : Int) = a * ((c1 * 2 ^ x1 : Nat) : Int) + b * ((c2 * 2 ^ x2 : Nat) : Int) := by
      rcases Int.natAbs_eq v with e | e
      · exact ⟨a, b, ha, hb, by rw [← e]; exact hv⟩
      · refine ⟨-a, -b, by omega, by omega, ?_⟩
        rw [Int.neg_mul, Int.neg_mul, ← Int.neg_add, ← hv]; omega
    obtain ⟨a', b', ha', hb', hv'⟩ := hW
    refine fl_narR hz s (by omega) ?_ (fl_sumMid hz hv' ha' hb' l1 l2)
    have h1 : c1 * 2 ^ x1 < 2 ^ 24 * 2 ^ 253 := Nat.mul_lt_mul_of_lt_of_le l1 (Nat.pow_le_pow_right (by omega) m1) (Nat.two_pow_pos _)
    have h2 : c2 * 2 ^ x2 < 2 ^ 24 * 2 ^ 253 := Nat.mul_lt_mul_of_lt_of_le l2 (Nat.pow_le_pow_right (by omega) m2) (Nat.two_pow_pos _)
    have h3 : v.natAbs ≤ c1 * 2 ^ x1 + c2 * 2 ^ x2 := by
      generalize c1 * 2 ^ x1 = p at *
      generalize c2 * 2 ^ x2 = q at *
      rcases ha with rfl | rfl <;> rcases hb with rfl | rfl <;> omega
    have h4 : v.natAbs < 2 ^ 25 * 2 ^ 253 := by
      generalize 2 ^ 253 = P at *
      omega
    rw [Nat.one_mul]
    calc v.natAbs * 2 ^ z < 2 ^ 25 * 2 ^ 253 * 2 ^ z := Nat.mul_lt_mul_of_pos_right h4 hzp
      _ = 2 ^ (25 + 253 + z) := by rw [Nat.pow_add, Nat.pow_add]
      _ ≤ 2 ^ 2000 := Nat.pow_le_pow_right (by omega) (by omega)
  obtain ⟨ea, hea, eqa⟩ := fl_sgnE (Jvm.FP.Core.fieldS F32 x) (c1 * 2 ^ x1)
  obtain ⟨eb, heb, eqb⟩ := fl_sgnE (Jvm.FP.Core.fieldS F32 y) (c2 * 2 ^ x2)
  have vx : fl_v F32 x = ea * ((c1 * 2 ^ x1 : Nat) : Int) := by unfold fl_v; rw [u1]; exact eqa
  have vy : fl_v F32 y = eb * ((c2 * 2 ^ x2 : Nat) : Int) := by unfold fl_v; rw [u2]; exact eqb
  constructor
  · rw [fl_add fl_ok64 (f64_fin.mpr a2) (f64_fin.mpr b2), fl_add fl_ok32 (f32_fin.mpr fx) (f32_fin.mpr fy)]
    show fN (fl_sg F64 (Jvm.FP.Core.sumSign _ _ (fl_v F64 (fW x) + fl_v F64 (fW y))) + min (fl_inf F64) (flR 53 (fl_v F64 (fW x) + fl_v F64 (fW y)).natAbs 1)) = _
    rw [va, vb, ← Int.add_mul, fl_sumS _ _ _ hzp, gen _ _ ⟨ea, eb, hea, heb, by rw [vx, vy]⟩]
    show _ = fl_sg F32 _ + min (fl_inf F32) (flR 24 _ 1)
    rw [← a3, ← b3]
  · rw [fl_sub fl_ok64 (f64_fin.mpr a2) (f64_fin.mpr b2), fl_sub fl_ok32 (f32_fin.mpr fx) (f32_fin.mpr fy)]
    show fN (fl_sg F64 (Jvm.FP.Core.sumSign _ _ (fl_v F64 (fW x) - fl_v F64 (fW y))) + min (fl_inf F64) (flR 53 (fl_v F64 (fW x) - fl_v F64 (fW y)).natAbs 1)) = _
    rw [va, vb, ← Int.sub_mul, fl_sumS _ _ _ hzp, gen _ _ ⟨ea, -eb, hea, by omega, by rw [vx, vy, Int.neg_mul]; omega⟩]
    show _ = fl_sg F32 _ + min (fl_inf F32) (flR 24 _ 1)
    rw [← a3, ← b3]
theorem fw_mul {x y : Nat} (hx : x < 2 ^ 32) (hy : y < 2 ^ 32) (fx : x % 2 ^ 31 < INF32) (fy : y % 2 ^ 31 < INF32) : fN (Jvm.FP.Core.mul F64 (fW x) (fW y)) = Jvm.FP.Core.mul F32 x y := by
  obtain ⟨z, hz⟩ := fl_z925
  obtain ⟨a1, a2, a3, a4⟩ := fl_wW hz hx fx
  obtain ⟨b1, b2, b3, b4⟩ := fl_wW hz hy fy
  obtain ⟨c1, x1, u1, l1, m1⟩ := fl_cut32 fx
  obtain ⟨c2, x2, u2, l2, m2⟩ := fl_cut32 fy
  have hzp := Nat.two_pow_pos z
  rw [fl_mul fl_ok64 (f64_fin.mpr a2) (f64_fin.mpr b2), fl_mul fl_ok32 (f32_fin.mpr fx) (f32_fin.mpr fy), a3, b3, a4, b4, fl_z64, fl_z32, show F64.p = 53 from rfl, show F32.p = 24 from rfl]
  have e1 : flR 53 (flU F32 x * 2 ^ z * (flU F32 y * 2 ^ z)) (2 ^ 1074) = flR 53 (flU F32 x * flU F32 y * 2 ^ z) (2 ^ 149) := by
    have := flR_mul (p := 53) (N := flU F32 x * flU F32 y * 2 ^ z) (D := 2 ^ 149) hzp
    rw [← this, ← Nat.pow_add 2 149 z, show 149 + z = 1074 by omega]
    congr 1
    simp only [Nat.mul_assoc, Nat.mul_left_comm, Nat.mul_comm]
  rw [e1]
  obtain ⟨d, hd⟩ : ∃ d : Nat, d = 149 := ⟨_, rfl⟩
  rw [← hd]
  have hdp := Nat.two_pow_pos d
  have hc : c1 * c2 < 2 ^ 48 := by have := Nat.mul_lt_mul'' l1 l2; omega
  have hN : flU F32 x * flU F32 y = c1 * c2 * 2 ^ (x1 + x2) := by rw [u1, u2, Nat.pow_add, Nat.mul_mul_mul_comm]
  have hb := fl_mb (c := c1 * c2) (x := x1 + x2) (z := z) hc (by omega)
  refine fl_narR hz _ hdp ?_ (fun _ => ?_)
  · rw [hN]
    exact Nat.lt_of_lt_of_le hb (Nat.le_mul_of_pos_left _ hdp)
  · rw [hN]
    -- all digits are kept
    have hlow := @fl_log (c1 * c2 * 2 ^ (x1 + x2) * 2 ^ z) (2 ^ d) hdp
    obtain ⟨k, hk⟩ : ∃ k, k = fl_k 53 (c1 * c2 * 2 ^ (x1 + x2) * 2 ^ z) (2 ^ d) := ⟨_, rfl⟩
    rw [← hk]
    have hle : d + k ≤ x1 + x2 + z := by
      by_cases k0 : k = 0
      · omega
      · have hq : c1 * c2 * 2 ^ (x1 + x2) * 2 ^ z / 2 ^ d ≠ 0 := by intro w; rw [hk] at k0; unfold fl_k at k0; rw [w, Nat.log2_zero] at k0; omega
        have h3 := (hlow hq).1
        have h4 : (c1 * c2 * 2 ^ (x1 + x2) * 2 ^ z / 2 ^ d).log2 = k + 52 := by rw [hk] at k0 ⊢; unfold fl_k at k0 ⊢; omega
        rw [h4, ← Nat.pow_add, Nat.mul_assoc, ← Nat.pow_add] at h3
        have h5 : c1 * c2 * 2 ^ (x1 + x2 + z) < 2 ^ (48 + (x1 + x2 + z)) := by rw [Nat.pow_add 2 48]; exact Nat.mul_lt_mul_of_pos_right hc (Nat.two_pow_pos _)
        have h6 : 2 ^ (d + (k + 52)) < 2 ^ (48 + (x1 + x2 + z)) := Nat.lt_of_le_of_lt h3 h5
        have := (Nat.pow_lt_pow_iff_right (by omega : 1 < 2)).mp h6
        omega
    obtain ⟨w, hw⟩ := Nat.exists_eq_add_of_le hle
    rw [Nat.mul_assoc, ← Nat.pow_add, ← Nat.pow_add, hw, Nat.add_comm (d + k), Nat.pow_add, ← Nat.mul_assoc, Nat.mul_mod_left]
theorem fw_div {x y : Nat} (hx : x < 2 ^ 32) (hy : y < 2 ^ 32) (fx : x % 2 ^ 31 < INF32) (fy : y % 2 ^ 31 < INF32) (y0 : y % 2 ^ 31 ≠ 0) : fN (Jvm.FP.Core.div F64 (fW x) (fW y)) = Jvm.FP.Core.div F32 x y := by
  obtain ⟨z, hz⟩ := fl_z925
  obtain ⟨a1, a2, a3, a4⟩ := fl_wW hz hx fx
  obtain ⟨b1, b2, b3, b4⟩ := fl_wW hz hy fy
  obtain ⟨c1, x1, u1, l1, m1⟩ := fl_cut32 fx
  obtain ⟨c2, x2, u2, l2, m2⟩ := fl_cut32 fy
  have hzp := Nat.two_pow_pos z
  have hU0 : flU F32 y ≠ 0 := fun w => y0 (f32_U0.mp w)
  have hU0' : flU F64 (fW y) ≠ 0 := by
    show flU F64 (fW y) ≠ 0
    rw [b4]; intro w; rcases Nat.mul_eq_zero.mp w with k | k
    · exact hU0 k
    · omega
  have c20 : 0 < c2 := Nat.pos_of_ne_zero fun w => by rw [w, Nat.zero_mul] at u2; exact hU0 u2
  rw [fl_div fl_ok64 (f64_fin.mpr a2) (f64_fin.mpr b2) hU0', fl_div fl_ok32 (f32_fin.mpr fx) (f32_fin.mpr fy) hU0]
  show fN (fl_sg F64 (Jvm.FP.Core.fieldS F64 (fW x) != Jvm.FP.Core.fieldS F64 (fW y)) + min (fl_inf F64) (flR 53 (flU F64 (fW x) * 2 ^ fl_z F64) (flU F64 (fW y)))) = _
  rw [a3, b3, a4, b4, fl_z64, fl_z32, show F32.p = 24 from rfl]
  obtain ⟨d, hd⟩ : ∃ d : Nat, d = 149 := ⟨_, rfl⟩
  have e1 : flR 53 (flU F32 x * 2 ^ z * 2 ^ 1074) (flU F32 y * 2 ^ z) = flR 53 (flU F32 x * 2 ^ d * 2 ^ z) (flU F32 y) := by
    have := flR_mul (p := 53) (N := flU F32 x * 2 ^ d * 2 ^ z) (D := flU F32 y) hzp
    rw [← this, show 1074 = d + z by omega, Nat.pow_add]
    congr 1
    simp only [Nat.mul_assoc, Nat.mul_left_comm, Nat.mul_comm]
  rw [e1, ← hd]
  have hyp : 0 < flU F32 y := Nat.pos_of_ne_zero hU0
  obtain ⟨k, hk⟩ : ∃ k, k = fl_k 53 (flU F32 x * 2 ^ d * 2 ^ z) (flU F32 y) := ⟨_, rfl⟩
  have hX : flU F32 x * 2 ^ d * 2 ^ z = c1 * 2 ^ (x1 + d + z) := by rw [u1, Nat.pow_add, Nat.pow_add]; simp only [Nat.mul_assoc]
  have hY : flU F32 y * 2 ^ k = c2 * 2 ^ (x2 + k) := by rw [u2, Nat.mul_assoc, ← Nat.pow_add]
  refine fl_narR hz _ hyp ?_ (fun hmid => ?_)
  · have := fl_mb (c := c1) (x := x1 + d) (z := z) (by omega) (by omega)
    rw [u1, Nat.mul_assoc c1, ← Nat.pow_add]
    exact Nat.lt_of_lt_of_le this (Nat.le_mul_of_pos_left _ hyp)
  · rw [← hk, hX, hY] at hmid ⊢
    -- how many digits go
    have hgap : 29 ≤ z + fl_k 24 (flU F32 x * 2 ^ d) (flU F32 y) - k := by
      obtain ⟨q1, q2⟩ := fl_dbl_k hz hyp hk rfl
      rcases Nat.eq_zero_or_pos (fl_k 24 (flU F32 x * 2 ^ d) (flU F32 y)) with w | w
      · have := q2 w; omega
      · have := q1 w; omega
    exact fl_quoMid l1 l2 c20 hgap rfl hmid
theorem fw_rem {x y : Nat} (hx : x < 2 ^ 32) (hy : y < 2 ^ 32) (fx : x % 2 ^ 31 < INF32) (fy : y % 2 ^ 31 < INF32) (y0 : y % 2 ^ 31 ≠ 0) : fN (Jvm.FP.Core.rem F64 (fW x) (fW y)) = Jvm.FP.Core.rem F32 x y := by
  obtain ⟨z, hz⟩ := fl_z925
  obtain ⟨a1, a2, a3, a4⟩ := fl_wW hz hx fx
  obtain ⟨b1, b2, b3, b4⟩ := fl_wW hz hy fy
  obtain ⟨c1, x1, u1, l1, m1⟩ := fl_cut32 fx
  obtain ⟨c2, x2, u2, l2, m2⟩ := fl_cut32 fy
  have hzp := Nat.two_pow_pos z
  have hU0 : flU F32 y ≠ 0 := fun w => y0 (f32_U0.mp w)
  have hU0' : flU F64 (fW y) ≠ 0 := by
    show flU F64 (fW y) ≠ 0
    rw [b4]; intro w; rcases Nat.mul_eq_zero.mp w with k | k
    · exact hU0 k
    · omega
  have c20 : 0 < c2 := Nat.pos_of_ne_zero fun w => by rw [w, Nat.zero_mul] at u2; exact hU0 u2
  rw [fl_rem fl_ok64 (f64_fin.mpr a2) (f64_fin.mpr b2) hU0', fl_rem fl_ok32 (f32_fin.mpr fx) (f32_fin.mpr fy) hU0]
  show fN (fl_sg F64 (Jvm.FP.Core.fieldS F64 (fW x)) + min (fl_inf F64) (flR 53 (flU F64 (fW x) % flU F64 (fW y)) 1)) = _
  rw [a3, a4, b4, Nat.mul_mod_mul_right, show F32.p = 24 from rfl]
  -- the rest has few digits
  have hr : ∃ q m, flU F32 x % flU F32 y = q * 2 ^ m ∧ q < 2 ^ 24 ∧ m ≤ 253 := by
    rw [u1, u2]
    rcases Nat.lt_or_ge x1 x2 with w | w
    · obtain ⟨j, hj⟩ := Nat.exists_eq_add_of_le (Nat.le_of_lt w)
      rw [show c2 * 2 ^ x2 = c2 * 2 ^ j * 2 ^ x1 by rw [hj, Nat.pow_add, Nat.mul_comm (2 ^ x1), ← Nat.mul_assoc], Nat.mul_mod_mul_right]
      exact ⟨_, x1, rfl, Nat.lt_of_le_of_lt (Nat.mod_le _ _) l1, m1⟩
    · obtain ⟨j, hj⟩ := Nat.exists_eq_add_of_le w
      rw [show c1 * 2 ^ x1 = c1 * 2 ^ j * 2 ^ x2 by rw [hj, Nat.pow_add, Nat.mul_comm (2 ^ x2), ← Nat.mul_assoc], Nat.mul_mod_mul_right]
      exact ⟨_, x2, rfl, Nat.lt_trans (Nat.mod_lt _ c20) l2, m2⟩
  obtain ⟨q, m, hq, hq2, hm⟩ := hr
  refine fl_narR hz _ (by omega) ?_ (fun _ => ?_)
  · rw [hq, Nat.one_mul]
    exact fl_mb (by omega) (by omega)
  · rw [hq, Nat.mul_assoc, ← Nat.pow_add]
    exact fl_exactX (by omega) rfl
