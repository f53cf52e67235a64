/-! PHASE B floats 10: wide and narrow -/
set_option maxRecDepth 100000
abbrev INF32 : Nat := 2139095040
theorem f32_T (n : Nat) : Jvm.FP.Core.fieldT F32 n = n % 2 ^ 23 := rfl
theorem f32_E (n : Nat) : Jvm.FP.Core.fieldE F32 n = n / 2 ^ 23 % 2 ^ 8 := rfl
theorem f32_S' {n : Nat} (hn : n < 2 ^ 32) : Jvm.FP.Core.fieldS F32 n = decide (2 ^ 31 ≤ n) := by
  show (n / 2 ^ 23 / 2 ^ 8 % 2 == 1) = _
  rw [Nat.div_div_eq_div_mul, ← Nat.pow_add]
  by_cases h : 2 ^ 31 ≤ n
  · have : n / 2 ^ (23 + 8) % 2 = 1 := by omega
    rw [this]; simp [h]
  · have : n / 2 ^ (23 + 8) % 2 = 0 := by omega
    rw [this]; simp [h]
theorem f32_sg (s : Bool) : fl_sg F32 s = s.toNat * 2 ^ 31 := by cases s <;> rfl
theorem f32_inf : fl_inf F32 = INF32 := rfl
theorem f32_fin {n : Nat} : fl_fin F32 n ↔ n % 2 ^ 31 < INF32 := by
  unfold fl_fin
  rw [f32_E, show F32.exps - 1 = 255 from rfl]
  unfold INF32
  omega
theorem f32_bad {n : Nat} (h : n % 2 ^ 31 = INF32) : Jvm.FP.Core.decode F32 n = .inf (Jvm.FP.Core.fieldS F32 n) := by
  refine fl_dec_inf ?_ ?_
  · rw [f32_E, show F32.exps - 1 = 255 from rfl]; unfold INF32 at h; omega
  · rw [f32_T]; unfold INF32 at h; omega
theorem f32_sv {n : Nat} (hn : n < 2 ^ 32) : fl_sg F32 (Jvm.FP.Core.fieldS F32 n) + n % 2 ^ 31 = n := by
  rw [f32_sg, f32_S' hn]
  by_cases h : 2 ^ 31 ≤ n <;> simp [h] <;> omega
theorem f32_enc_inf (s : Bool) : Jvm.FP.Core.encode F32 (.inf s) = s.toNat * 2 ^ 31 + INF32 := by cases s <;> rfl
theorem f32_c0 {n : Nat} : fl_c F32 n = 0 ↔ n % 2 ^ 31 = 0 := by
  unfold fl_c
  rw [f32_E, f32_T, show F32.tails = 8388608 from rfl]
  split <;> omega
theorem f32_U0 {n : Nat} : flU F32 n = 0 ↔ n % 2 ^ 31 = 0 := by
  rw [← f32_c0]
  exact ⟨fun h => Classical.byContradiction fun z => flU_pos.mpr z h, fun h => Classical.byContradiction fun z => flU_pos.mp z h⟩
theorem nI_field {m : Nat} (hm : m < 2 ^ 32) : (nI m >>> ((23 : Int32) &&& 31)) &&& (255 : Int32) = nI (m / 2 ^ 23 % 2 ^ 8) := by
  have ht := pk_tn hm
  rw [pk_and _ 8 (by decide)]
  congr 1
  rw [Int32.toBitVec_shiftRight, show ((23 : Int32) &&& 31).toBitVec.smod 32 = 23#32 by decide]
  show ((nI m).toBitVec.sshiftRight 23).toNat % 2 ^ 8 = _
  have key := BitVec.toInt_sshiftRight (x := (nI m).toBitVec) (n := 23)
  have h1 : (nI m).toBitVec.toInt = if 2 * m < 2 ^ 32 then (m : Int) else (m : Int) - 2 ^ 32 := by rw [BitVec.toInt_eq_toNat_cond, ht]; rfl
  rw [h1, BitVec.toInt_eq_toNat_cond, Int.shiftRight_eq_div_pow] at key
  have hlt := ((nI m).toBitVec.sshiftRight 23).isLt
  generalize ((nI m).toBitVec.sshiftRight 23).toNat = r at *
  split at key <;> split at key <;> omega
theorem nI_sg {m : Nat} (hm : m < 2 ^ 32) : (0 ≤ nI m) ↔ m < 2 ^ 31 := by
  rw [Int32.le_iff_toInt_le]
  have : (nI m).toInt = if 2 * m < 2 ^ 32 then (m : Int) else (m : Int) - 2 ^ 32 := by
    show (nI m).toBitVec.toInt = _
    rw [BitVec.toInt_eq_toNat_cond, pk_tn hm]; rfl
  rw [this, show (0 : Int32).toInt = 0 from rfl]
  split <;> omega
theorem w_wide81 {c x : Nat} (s : Bool) (h0 : 0 < c) (hc : c < 2 ^ 24) (hx : x ≤ 253) (h : HP) :
    f_X46_wide_b81 (lN (s.toNat * 2 ^ 63)) (lN c) (nI (x + 1)) h = rok (lN (s.toNat * 2 ^ 63 + min INF64 (flR 53 (c * 2 ^ x * 2 ^ 925) 1))) h := by
  unfold f_X46_wide_b81
  rw [show nI (x + 1) - (150 : Int32) = Int32.ofInt ((x : Int) - 149) by rw [show (150 : Int32) = Int32.ofInt 150 from rfl, io_n, ← Int32.ofInt_sub]; congr 1; omega]
  rw [show (0 : Int32) = zB false from rfl, show (53 : Int32) = nI 53 from rfl, show (1023 : Int32) = nI 1023 from rfl, w_rnd (by omega) (by omega) (by omega) (by omega) (by omega) h0 (by omega) false h, bd_ok]
  have hp := Nat.two_pow_pos (x + 925)
  have e1 : c * 2 ^ x * 2 ^ 925 * 2 ^ 0 = c * (1 * 2 ^ (x + 925)) := by rw [Nat.pow_zero, Nat.mul_one, Nat.one_mul, Nat.pow_add, Nat.mul_assoc]
  have hp' : 0 < 1 * 2 ^ (x + 925) := by rw [Nat.one_mul]; exact hp
  have key := fl_soft_R (p := 53) (bias := 1023) (N := c * 2 ^ x * 2 ^ 925) (D := 1) (A := x + 925) (B := 0) (m := c) (e := (x : Int) - 149) (more := false) (by omega) (by omega) (by omega) (by omega) (by omega)
    (by rw [e1, Nat.mul_div_cancel _ hp']) (by rw [e1, Nat.mul_mod_left]; simp) h0 (by omega) (fun z => Bool.noConfusion z)
  rw [key, show (2 * 1023 + 1) * 2 ^ (53 - 1) = INF64 from rfl]
  have hlt : min INF64 (flR 53 (c * 2 ^ x * 2 ^ 925) 1) < 2 ^ 63 := Nat.lt_of_le_of_lt (Nat.min_le_left _ _) (by decide)
  rw [lN_orS' hlt (by cases s <;> decide)]
theorem w_wide {m : Nat} (hm : m < 2 ^ 32) (hn : m % 2 ^ 31 ≤ INF32) (h : HP) : f_X46_wide (nI m) h = rok (lN (Jvm.FP.Core.convert F32 F64 m)) h := by
  obtain ⟨s, hs⟩ : ∃ s, s = Jvm.FP.Core.fieldS F32 m := ⟨_, rfl⟩
  have h11 : f_X46_wide (nI m) h = f_X46_wide_b11 (nI m) (lN (s.toNat * 2 ^ 63)) h := by
    unfold f_X46_wide
    rw [hs, f32_S' hm]
    by_cases c : m < 2 ^ 31
    · rw [if_pos ((nI_sg hm).mpr c), show decide (2 ^ 31 ≤ m) = false by simp; omega]; rfl
    · rw [if_neg (fun z => c ((nI_sg hm).mp z)), show decide (2 ^ 31 ≤ m) = true by simp; omega]; rfl
  rw [h11]
  simp only [f_X46_wide_b11, lt3]
  rw [nI_field hm, pk_and _ 23 (by decide), pk_tn hm, nI_l (by omega)]
  obtain ⟨E, hE⟩ : ∃ E, E = m / 2 ^ 23 % 2 ^ 8 := ⟨_, rfl⟩
  obtain ⟨T, hT⟩ : ∃ T, T = m % 2 ^ 23 := ⟨_, rfl⟩
  have hET : m % 2 ^ 31 = E * 2 ^ 23 + T := by omega
  have hT2 : T < 2 ^ 23 := by omega
  have hE2 : E < 2 ^ 8 := by omega
  rw [← hE, ← hT]
  have e255 : (nI E = (255 : Int32)) ↔ E = 255 := nI_eq (b := 255) (by omega) (by omega)
  have eE0 : (nI E = (0 : Int32)) ↔ E = 0 := nI_eq (b := 0) (by omega) (by omega)
  have eT0 : (lg_cmp (lN T) (0 : Int64) = 0) ↔ T = 0 := lc_eq rfl (by omega) (by omega)
  by_cases c255 : E = 255
  · have ht : T = 0 := by unfold INF32 at hn; omega
    have hmi : m % 2 ^ 31 = INF32 := by unfold INF32; omega
    rw [if_pos (e255.mpr c255), ht]
    congr 1
    unfold Jvm.FP.Core.convert
    rw [f32_bad hmi]
    show _ = lN (Jvm.FP.Core.encode F64 (.inf _))
    rw [f64_enc_inf, ← hs]
    cases s <;> decide
  rw [if_neg (fun z => c255 (e255.mp z))]
  have hf : m % 2 ^ 31 < INF32 := by unfold INF32 at *; omega
  rw [fl_cv fl_ok32 fl_ok64 (f32_fin.mpr hf) (a := 925) (b := 0) (by decide), ← hs, f64_sg, f64_inf, show F64.p = 53 from rfl, Nat.pow_zero]
  have hfl : ∀ (c x : Nat), flU F32 m = c * 2 ^ x → 0 < c → c < 2 ^ 24 → x ≤ 253 → rok (lN (s.toNat * 2 ^ 63 + min INF64 (flR 53 (flU F32 m * 2 ^ 925) 1))) h = f_X46_wide_b81 (lN (s.toNat * 2 ^ 63)) (lN c) (nI (x + 1)) h := by
    intro c x h1 h2 h3 h4
    rw [w_wide81 s h2 h3 h4 h, h1]
  by_cases cE : E = 0
  · rw [if_pos (eE0.mpr cE)]
    have hU : flU F32 m = T := by unfold flU; rw [f32_E, f32_T, ← hE, ← hT, if_pos cE]
    by_cases cT : T = 0
    · rw [if_pos (eT0.mpr cT), hU, cT, Nat.zero_mul, flR_zero]; simp
    · rw [if_neg (fun z => cT (eT0.mp z))]
      simp only [f_X46_wide_b57, f_X46_wide_b72]
      rw [if_pos (eE0.mpr cE), if_pos (eE0.mpr cE), show (1 : Int32) = nI (0 + 1) from rfl]
      exact (hfl T 0 (by rw [hU]; simp) (by omega) (by omega) (by omega)).symm
  · rw [if_neg (fun z => cE (eE0.mp z))]
    simp only [f_X46_wide_b57, f_X46_wide_b72]
    rw [if_neg (fun z => cE (eE0.mp z)), if_neg (fun z => cE (eE0.mp z))]
    have hU : flU F32 m = (2 ^ 23 + T) * 2 ^ (E - 1) := by unfold flU; rw [f32_E, f32_T, ← hE, ← hT, if_neg cE]; rfl
    rw [show (8388608 : Int64) = lN (2 ^ 23 * 1) from rfl, wb_or (by omega) (by omega), Nat.or_comm, ← Nat.two_pow_add_eq_or_of_lt hT2, Nat.mul_one]
    rw [show nI E = nI (E - 1 + 1) by congr 1; omega]
    exact (hfl _ _ hU (by omega) (by omega) (by omega)).symm
theorem w_wideN {m : Nat} (hm : m < 2 ^ 32) (hn : INF32 < m % 2 ^ 31) (h : HP) : ∃ w, w < 2 ^ 64 ∧ INF64 < w % 2 ^ 63 ∧ f_X46_wide (nI m) h = rok (lN w) h := by
  obtain ⟨s, hs⟩ : ∃ s, s = Jvm.FP.Core.fieldS F32 m := ⟨_, rfl⟩
  have h11 : f_X46_wide (nI m) h = f_X46_wide_b11 (nI m) (lN (s.toNat * 2 ^ 63)) h := by
    unfold f_X46_wide
    rw [hs, f32_S' hm]
    by_cases c : m < 2 ^ 31
    · rw [if_pos ((nI_sg hm).mpr c), show decide (2 ^ 31 ≤ m) = false by simp; omega]; rfl
    · rw [if_neg (fun z => c ((nI_sg hm).mp z)), show decide (2 ^ 31 ≤ m) = true by simp; omega]; rfl
  rw [h11]
  simp only [f_X46_wide_b11, lt3]
  rw [nI_field hm, pk_and _ 23 (by decide), pk_tn hm, nI_l (by omega)]
  have hT : m % 2 ^ 23 < 2 ^ 23 := by omega
  have c255 : m / 2 ^ 23 % 2 ^ 8 = 255 := by unfold INF32 at hn; omega
  have hT0 : 0 < m % 2 ^ 23 := by unfold INF32 at hn; omega
  rw [c255, if_pos (show nI 255 = (255 : Int32) from rfl), lN_orI, wb_or (by cases s <;> decide) (by omega)]
  refine ⟨s.toNat * 2 ^ 63 + INF64 + m % 2 ^ 23, ?_, ?_, ?_⟩
  · have : s.toNat ≤ 1 := by cases s <;> decide
    unfold INF64; omega
  · have : s.toNat ≤ 1 := by cases s <;> decide
    unfold INF64; omega
  · congr 2
    have e : s.toNat * 2 ^ 63 + INF64 = 2 ^ 23 * ((s.toNat * 2 ^ 63 + INF64) / 2 ^ 23) := by cases s <;> decide
    rw [e, ← Nat.two_pow_add_eq_or_of_lt hT]
theorem nI_orS {r : Nat} (s : Bool) (hr : r < 2 ^ 31) : nI r ||| nI (s.toNat * 2 ^ 31) = nI (s.toNat * 2 ^ 31 + r) := by
  apply Int32.toBitVec_inj.mp
  rw [Int32.toBitVec_or]
  apply BitVec.eq_of_toNat_eq
  have h1 : s.toNat ≤ 1 := by cases s <;> decide
  rw [BitVec.toNat_or, pk_tn (by omega), pk_tn (by omega), pk_tn (by omega), Nat.or_comm, Nat.mul_comm, ← Nat.two_pow_add_eq_or_of_lt hr]
theorem w_narrow {b : Nat} (hb : b < 2 ^ 64) (nb : b % 2 ^ 63 ≤ INF64) (h : HP) : f_X46_narrow (lN b) h = rok (nI (Jvm.FP.Core.convert F64 F32 b)) h := by
  obtain ⟨s, hs⟩ : ∃ s, s = Jvm.FP.Core.fieldS F64 b := ⟨_, rfl⟩
  have h12 : f_X46_narrow (lN b) h = f_X46_narrow_b12 (lN b) (nI (s.toNat * 2 ^ 31)) h := by
    unfold f_X46_narrow
    rw [hs, f64_S' hb]
    by_cases c : b < 2 ^ 63
    · rw [if_pos ((lc_sg hb).mpr c), show decide (2 ^ 63 ≤ b) = false by simp; omega]; rfl
    · rw [if_neg (fun z => c ((lc_sg hb).mp z)), show decide (2 ^ 63 ≤ b) = true by simp; omega]; rfl
  rw [h12]
  unfold f_X46_narrow_b12
  rw [w_inf hb, bd_ok, w_zero hb, bd_ok]
  by_cases ci : b % 2 ^ 63 = INF64
  · rw [if_neg (fun z => zB_d.mp z ci)]
    congr 1
    unfold Jvm.FP.Core.convert
    rw [f64_bad ci]
    show _ = nI (Jvm.FP.Core.encode F32 (.inf _))
    rw [f32_enc_inf, ← hs]
    cases s <;> decide
  rw [if_pos (zB_d.mpr ci)]
  have fb : b % 2 ^ 63 < INF64 := by omega
  rw [fl_cv fl_ok64 fl_ok32 (f64_fin.mpr fb) (a := 0) (b := 925) (by decide), ← hs, f32_sg, f32_inf, show F32.p = 24 from rfl, Nat.pow_zero, Nat.mul_one]
  by_cases c0 : b % 2 ^ 63 = 0
  · rw [if_neg (fun z => zB_d.mp z c0), f64_U0.mpr c0, flR_zero]; simp
  rw [if_pos (zB_d.mpr c0)]
  obtain ⟨S, A, B, ex, sx, x1, x2, x3, x4, x5⟩ := w_cut hb fb c0
  rw [sx, bd_ok, ex, bd_ok]
  rw [show (0 : Int32) = zB false from rfl, show (24 : Int32) = nI 24 from rfl, show (127 : Int32) = nI 127 from rfl, w_rnd (by omega) (by omega) (by omega) (by omega) (by omega) (by omega) (by omega) false h, bd_ok, lN_i]
  obtain ⟨k, hk, hk'⟩ : ∃ k, k = 925 ∧ k = 925 := ⟨_, rfl, rfl⟩
  rw [← hk]
  have hp : 0 < 2 ^ k * 2 ^ A := Nat.mul_pos (Nat.two_pow_pos _) (Nat.two_pow_pos _)
  have e1 : flU F64 b * 2 ^ (B + k) = S * (2 ^ k * 2 ^ A) := by rw [Nat.pow_add, ← Nat.mul_assoc, x5, Nat.mul_assoc, Nat.mul_comm (2 ^ A)]
  have key := fl_soft_R (p := 24) (bias := 127) (N := flU F64 b) (D := 2 ^ k) (A := A) (B := B + k) (m := S) (e := (A : Int) - B - 1074) (more := false) (by omega) (by omega) (by omega) (Nat.two_pow_pos _) (by omega)
    (by rw [e1, Nat.mul_div_cancel _ hp]) (by rw [e1, Nat.mul_mod_left]; simp) (by omega) (by omega) (fun z => Bool.noConfusion z)
  rw [key, show (2 * 127 + 1) * 2 ^ (24 - 1) = INF32 from rfl]
  have hlt : min INF32 (flR 24 (flU F64 b) (2 ^ k)) < 2 ^ 31 := Nat.lt_of_le_of_lt (Nat.min_le_left _ _) (by decide)
  rw [nI_orS s hlt]
