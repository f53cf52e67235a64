/-! PHASE B floats 5: the twin's bits: infinite, zero, exponent and significand by units; made -/
set_option maxRecDepth 100000
theorem lN_and {a b c : Nat} (ha : a < 2 ^ 64) (hb : b < 2 ^ 64) (h : a &&& b = c) : lN a &&& lN b = lN c := by rw [wb_and ha hb, h]
theorem lN_top {a : Nat} (ha : a < 2 ^ 64) : lN a &&& (9223372036854775807 : Int64) = lN (a % 2 ^ 63) := wb_mask (k := 63) ha (by decide)
theorem lN_sgn {a : Nat} (ha : a < 2 ^ 64) : lN a &&& (-9223372036854775808 : Int64) = lN (a / 2 ^ 63 * 2 ^ 63) := by
  rw [show (-9223372036854775808 : Int64) = lN (2 ^ 63) from rfl]
  refine lN_and ha (by omega) ?_
  rcases Nat.lt_or_ge a (2 ^ 63) with c | c
  · rw [Nat.div_eq_of_lt c, Nat.zero_mul]
    refine Nat.eq_of_testBit_eq fun i => ?_
    rw [Nat.testBit_and, Nat.zero_testBit, Nat.testBit_two_pow]
    by_cases h : 63 = i
    · subst h; rw [Nat.testBit_lt_two_pow c]; rfl
    · simp [h]
  · have e : a / 2 ^ 63 = 1 := by omega
    rw [e, Nat.one_mul]
    refine Nat.eq_of_testBit_eq fun i => ?_
    rw [Nat.testBit_and, Nat.testBit_two_pow]
    by_cases h : 63 = i
    · subst h
      have : a.testBit 63 = true := by rw [Nat.testBit_eq_decide_div_mod_eq]; simp; omega
      rw [this]; simp
    · simp [h]
theorem lN_orS {a s : Nat} (ha : a < 2 ^ 63) (hs : s ≤ 1) : lN a ||| lN (s * 2 ^ 63) = lN (s * 2 ^ 63 + a) := by
  rw [wb_or (by omega) (by omega), Nat.or_comm, Nat.mul_comm, ← Nat.two_pow_add_eq_or_of_lt ha]
theorem lN_orS' {a s : Nat} (ha : a < 2 ^ 63) (hs : s ≤ 1) : lN (s * 2 ^ 63) ||| lN a = lN (s * 2 ^ 63 + a) := by
  rw [wb_or (by omega) (by omega), Nat.mul_comm, ← Nat.two_pow_add_eq_or_of_lt ha]
abbrev INF64 : Nat := 9218868437227405312
/-- the fields of 64 bits -/
theorem f64_T (n : Nat) : Jvm.FP.Core.fieldT F64 n = n % 2 ^ 52 := rfl
theorem f64_E (n : Nat) : Jvm.FP.Core.fieldE F64 n = n / 2 ^ 52 % 2 ^ 11 := rfl
theorem f64_S (n : Nat) : Jvm.FP.Core.fieldS F64 n = (n / 2 ^ 52 / 2 ^ 11 % 2 == 1) := rfl
theorem f64_S' {n : Nat} (hn : n < 2 ^ 64) : Jvm.FP.Core.fieldS F64 n = decide (2 ^ 63 ≤ n) := by
  rw [f64_S, Nat.div_div_eq_div_mul, ← Nat.pow_add]
  by_cases h : 2 ^ 63 ≤ n
  · have : n / 2 ^ (52 + 11) % 2 = 1 := by omega
    rw [this]; simp [h]
  · have : n / 2 ^ (52 + 11) % 2 = 0 := by omega
    rw [this]; simp [h]
theorem f64_sg (s : Bool) : fl_sg F64 s = s.toNat * 2 ^ 63 := by cases s <;> rfl
theorem f64_inf : fl_inf F64 = INF64 := rfl
theorem f64_fin {n : Nat} : fl_fin F64 n ↔ n % 2 ^ 63 < INF64 := by
  unfold fl_fin
  rw [f64_E, show F64.exps - 1 = 2047 from rfl]
  unfold INF64
  omega
theorem f64_bad {n : Nat} (h : n % 2 ^ 63 = INF64) : Jvm.FP.Core.decode F64 n = .inf (Jvm.FP.Core.fieldS F64 n) := by
  refine fl_dec_inf ?_ ?_
  · rw [f64_E, show F64.exps - 1 = 2047 from rfl]; unfold INF64 at h; omega
  · rw [f64_T]; unfold INF64 at h; omega
theorem f64_c0 {n : Nat} : fl_c F64 n = 0 ↔ n % 2 ^ 63 = 0 := by
  unfold fl_c
  rw [f64_E, f64_T, show F64.tails = 4503599627370496 from rfl]
  split <;> omega
theorem f64_U0 {n : Nat} : flU F64 n = 0 ↔ n % 2 ^ 63 = 0 := by
  rw [← f64_c0]
  exact ⟨fun h => Classical.byContradiction fun z => flU_pos.mpr z h, fun h => Classical.byContradiction fun z => flU_pos.mp z h⟩
theorem f64_enc_inf (s : Bool) : Jvm.FP.Core.encode F64 (.inf s) = s.toNat * 2 ^ 63 + INF64 := by cases s <;> rfl
/-- what is looked at -/
theorem w_inf {n : Nat} (hn : n < 2 ^ 64) (h : HP) : f_X46_isInfinite (lN n) h = rok (zB (decide (n % 2 ^ 63 = INF64))) h := by
  unfold f_X46_isInfinite
  rw [lN_top hn]
  have e := lc_eq (m := n % 2 ^ 63) (C := (9218868437227405312 : Int64)) (c := 9218868437227405312) rfl (by omega) (by omega)
  by_cases c : n % 2 ^ 63 = INF64
  · rw [if_pos (e.mpr c)]; simp [c, zB]
  · rw [if_neg (fun z => c (e.mp z))]; simp [c, zB]
theorem w_zero {n : Nat} (hn : n < 2 ^ 64) (h : HP) : f_X46_isZero (lN n) h = rok (zB (decide (n % 2 ^ 63 = 0))) h := by
  unfold f_X46_isZero
  rw [lN_top hn]
  have e := lc_eq (m := n % 2 ^ 63) (C := (0 : Int64)) (c := 0) rfl (by omega) (by omega)
  by_cases c : n % 2 ^ 63 = 0
  · rw [if_pos (e.mpr c)]; simp [c, zB]
  · rw [if_neg (fun z => c (e.mp z))]; simp [c, zB]
theorem w_none {n : Nat} (hn : n < 2 ^ 64) (h : HP) : f_X46_isNone (lN n) h = rok (zB (decide (INF64 < n % 2 ^ 63))) h := by
  unfold f_X46_isNone
  rw [lN_top hn]
  have e := lc_le (m := n % 2 ^ 63) (C := (9218868437227405312 : Int64)) (c := 9218868437227405312) rfl (by omega) (by omega)
  by_cases c : INF64 < n % 2 ^ 63
  · rw [if_neg (fun z => absurd (e.mp z) (by unfold INF64 at c; omega))]; simp [c, zB]
  · rw [if_pos (e.mpr (by unfold INF64 at c; omega))]; simp [c, zB]
theorem w_field {n : Nat} (hn : n < 2 ^ 64) : (lN n >>> (Int32.toInt64 (52 : Int32) &&& 63)) &&& (2047 : Int64) = lN (n / 2 ^ 52 % 2 ^ 11) := by
  have hm := wb_tn hn
  apply wb_inj
  rw [Int64.toBitVec_and, Int64.toBitVec_shiftRight]
  have hs : (Int32.toInt64 (52 : Int32) &&& 63).toBitVec.smod 64 = 52#64 := by decide
  rw [hs]
  apply BitVec.eq_of_toNat_eq
  rw [BitVec.toNat_and, wb_tn (by omega), show (2047 : Int64).toBitVec.toNat = 2 ^ 11 - 1 from rfl, Nat.and_two_pow_sub_one_eq_mod]
  have hx : ((lN n).toBitVec.sshiftRight' 52#64) = (lN n).toBitVec.sshiftRight 52 := rfl
  rw [hx]
  have key := BitVec.toInt_sshiftRight (x := (lN n).toBitVec) (n := 52)
  have h1 : (lN n).toBitVec.toInt = if 2 * n < 2 ^ 64 then (n : Int) else (n : Int) - 2 ^ 64 := by rw [BitVec.toInt_eq_toNat_cond, hm]; rfl
  rw [h1, BitVec.toInt_eq_toNat_cond, Int.shiftRight_eq_div_pow] at key
  have hlt := ((lN n).toBitVec.sshiftRight 52).isLt
  generalize ((lN n).toBitVec.sshiftRight 52).toNat = r at *
  split at key <;> split at key <;> omega
theorem w_tail {n : Nat} (hn : n < 2 ^ 64) : lN n &&& (4503599627370495 : Int64) = lN (n % 2 ^ 52) := wb_mask (k := 52) hn (by decide)
theorem fl_norm {c : Nat} (h0 : c ≠ 0) (h : c < 2 ^ 53) : c.log2 ≤ 52 ∧ 2 ^ 52 ≤ c * 2 ^ (52 - c.log2) ∧ c * 2 ^ (52 - c.log2) < 2 ^ 53 := by
  have t1 : 2 ^ c.log2 ≤ c := Nat.log2_self_le h0
  have t2 : c < 2 ^ (c.log2 + 1) := (Nat.log2_lt h0).mp (Nat.lt_succ_self _)
  have tT : c.log2 ≤ 52 := Nat.le_of_lt_succ ((Nat.log2_lt h0).mpr h)
  refine ⟨tT, ?_, ?_⟩
  · calc 2 ^ 52 = 2 ^ c.log2 * 2 ^ (52 - c.log2) := by rw [← Nat.pow_add]; congr 1; omega
      _ ≤ c * 2 ^ (52 - c.log2) := Nat.mul_le_mul_right _ t1
  · calc c * 2 ^ (52 - c.log2) < 2 ^ (c.log2 + 1) * 2 ^ (52 - c.log2) := Nat.mul_lt_mul_of_pos_right t2 (Nat.two_pow_pos _)
      _ = 2 ^ 53 := by rw [← Nat.pow_add]; congr 1; omega
/-- a finite number that is not zero, cut into exponent and significand -/
theorem w_cut {n : Nat} (hn : n < 2 ^ 64) (hf : n % 2 ^ 63 < INF64) (h0 : n % 2 ^ 63 ≠ 0) :
    ∃ (S A B : Nat), (∀ h, f_X46_exponent (lN n) h = rok (Int32.ofInt ((A : Int) - B - 1074)) h) ∧ (∀ h, f_X46_significand (lN n) h = rok (lN S) h) ∧
      2 ^ 52 ≤ S ∧ S < 2 ^ 53 ∧ A ≤ 2045 ∧ B ≤ 52 ∧ flU F64 n * 2 ^ B = S * 2 ^ A := by
  have hE : n / 2 ^ 52 % 2 ^ 11 < 2047 := by unfold INF64 at hf; omega
  have efield : Int64.toInt32 ((lN n >>> (Int32.toInt64 (52 : Int32) &&& 63)) &&& (2047 : Int64)) = nI (n / 2 ^ 52 % 2 ^ 11) := by rw [w_field hn, lN_i]
  by_cases hz : n / 2 ^ 52 % 2 ^ 11 = 0
  · have hT : n % 2 ^ 52 ≠ 0 := by omega
    obtain ⟨l1, l2, l3⟩ := fl_norm hT (by omega)
    refine ⟨n % 2 ^ 52 * 2 ^ (52 - (n % 2 ^ 52).log2), 0, 52 - (n % 2 ^ 52).log2, ?_, ?_, l2, l3, by omega, by omega, ?_⟩
    · intro h
      simp only [f_X46_exponent, lt3]
      rw [efield, hz, if_pos (show nI 0 ≤ 0 by decide), w_tail hn, show (-1074 : Int32) = Int32.ofInt (-1074) from rfl, w_exp_l (52 - (n % 2 ^ 52).log2) NN _ _ h (by have := NN_ge (k := 62) (by omega); omega) l2 l3, bd_ok]
      congr 2; omega
    · intro h
      simp only [f_X46_significand, lt3]
      have e := lc_le (m := n / 2 ^ 52 % 2 ^ 11) (C := (0 : Int64)) (c := 0) rfl (by omega) (by omega)
      rw [w_field hn, if_pos (e.mpr (by omega)), w_tail hn, w_sig_l (52 - (n % 2 ^ 52).log2) NN _ h (by have := NN_ge (k := 62) (by omega); omega) l2 l3, bd_ok]
    · unfold flU
      rw [f64_E, f64_T, if_pos hz, Nat.pow_zero, Nat.mul_one]
  · refine ⟨2 ^ 52 + n % 2 ^ 52, n / 2 ^ 52 % 2 ^ 11 - 1, 0, ?_, ?_, by omega, by omega, by omega, by omega, ?_⟩
    · intro h
      simp only [f_X46_exponent, lt3]
      rw [efield, if_neg (nI_nle (by omega) (by omega)), show (1075 : Int32) = Int32.ofInt 1075 from rfl, io_n, ← Int32.ofInt_sub]
      congr 2; omega
    · intro h
      simp only [f_X46_significand, lt3]
      have e := lc_le (m := n / 2 ^ 52 % 2 ^ 11) (C := (0 : Int64)) (c := 0) rfl (by omega) (by omega)
      rw [w_field hn, if_neg (fun z => absurd (e.mp z) (by omega)), w_tail hn]
      rw [show (4503599627370496 : Int64) = lN (2 ^ 52 * 1) from rfl, wb_or (by omega) (by omega), Nat.or_comm, ← Nat.two_pow_add_eq_or_of_lt (by omega)]
    · unfold flU
      rw [f64_E, f64_T, if_neg hz, Nat.pow_zero, Nat.mul_one]; rfl
theorem fl_pp {u s a b x y : Nat} (h : u * 2 ^ b = s * 2 ^ a) (e : x + a = y + b) : u * 2 ^ x = s * 2 ^ y := by
  refine Nat.eq_of_mul_eq_mul_right (Nat.two_pow_pos b) ?_
  rw [Nat.mul_right_comm, h, Nat.mul_assoc, Nat.mul_assoc, ← Nat.pow_add, ← Nat.pow_add]; congr 2; omega
theorem fl_ratio {n1 d1 n2 d2 : Nat} (h1 : 0 < d1) (h2 : 0 < d2) (h : n1 * d2 = n2 * d1) : n1 / d1 = n2 / d2 ∧ n1 % d1 * d2 = n2 % d2 * d1 := by
  have e1 := Nat.mul_div_mul_right n1 d1 h2
  have e2 := Nat.mul_div_mul_right n2 d2 h1
  have m1 := Nat.mul_mod_mul_right d2 n1 d1
  have m2 := Nat.mul_mod_mul_right d1 n2 d2
  rw [h, Nat.mul_comm d1 d2] at e1 m1
  exact ⟨e1.symm.trans e2, m1.symm.trans m2⟩
/-- made: with the sign -/
theorem w_made {m : Nat} {e : Int} (s more : Bool) (he1 : -100000 ≤ e) (he2 : e ≤ 100000) (h0 : 0 < m) (h62 : m < 2 ^ 62) (hR : fl_soft 53 1023 m e more < 2 ^ 63) (h : HP) :
    f_X46_made (zB s) (lN m) (Int32.ofInt e) (zB more) h = rok (lN (s.toNat * 2 ^ 63 + fl_soft 53 1023 m e more)) h := by
  unfold f_X46_made
  rw [show (53 : Int32) = nI 53 from rfl, show (1023 : Int32) = nI 1023 from rfl, w_rnd (by omega) (by omega) (by omega) he1 he2 h0 h62 more h, bd_ok]
  cases s with
  | false => rw [if_pos (show zB false = 0 from rfl)]; simp
  | true =>
    rw [if_neg (show ¬ zB true = 0 by decide), show (-9223372036854775808 : Int64) = lN (1 * 2 ^ 63) from rfl, lN_orS hR (by omega)]; rfl
/-- made is the rounding of N / D -/
theorem w_madeR {N D A B m : Nat} {e : Int} (s more : Bool) (hD : 0 < D) (he : e = (A : Int) - B - 1074) (hm : m = N * 2 ^ B / (D * 2 ^ A)) (hr : more = true ↔ N * 2 ^ B % (D * 2 ^ A) ≠ 0)
    (h0 : 0 < m) (h62 : m < 2 ^ 62) (hmp : more = true → 2 ^ 53 ≤ m) (he1 : -100000 ≤ e) (he2 : e ≤ 100000) (h : HP) :
    f_X46_made (zB s) (lN m) (Int32.ofInt e) (zB more) h = rok (lN (fl_sg F64 s + min (fl_inf F64) (flR 53 N D))) h := by
  have key := fl_soft_R (p := 53) (bias := 1023) (N := N) (D := D) (A := A) (B := B) (m := m) (e := e) (more := more) (by omega) (by omega) (by omega) hD (by omega) hm hr h0 h62 hmp
  have hi : (2 * 1023 + 1) * 2 ^ (53 - 1) = fl_inf F64 := rfl
  rw [hi] at key
  have hlt : fl_soft 53 1023 m e more < 2 ^ 63 := by rw [key]; exact Nat.lt_of_le_of_lt (Nat.min_le_left _ _) (by decide)
  rw [w_made s more he1 he2 h0 h62 hlt h, key, f64_sg]
