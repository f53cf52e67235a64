/-! PHASE B floats 11: floats of whole numbers, cutting, the rest -/
set_option maxRecDepth 100000
theorem w_rndI {V m : Nat} (more : Bool) (k : Nat) (hk : k ≤ 2) (hm : m = V / 2 ^ k) (hr : more = true ↔ V % 2 ^ k ≠ 0) (h0 : 0 < m) (h62 : m < 2 ^ 62) (hmp : more = true → 2 ^ 24 ≤ m) (h : HP) :
    f_X46_rounded (lN m) (nI k) (zB more) (24 : Int32) (127 : Int32) h = rok (lN (min INF32 (flR 24 (V * 2 ^ 149) 1))) h := by
  rw [show (24 : Int32) = nI 24 from rfl, show (127 : Int32) = nI 127 from rfl, io_n k, w_rnd (by omega) (by omega) (by omega) (by omega) (by omega) h0 h62 more h]
  have hp := Nat.two_pow_pos 149
  have hpk := Nat.two_pow_pos k
  have e1 : 1 * 2 ^ (149 + k) = 2 ^ k * 2 ^ 149 := by rw [Nat.one_mul, Nat.pow_add, Nat.mul_comm]
  rw [fl_soft_R (p := 24) (bias := 127) (N := V * 2 ^ 149) (D := 1) (A := 149 + k) (B := 0) (by omega) (by omega) (by omega) (by omega) (by omega) ?_ ?_ h0 h62 hmp]
  · rw [Nat.pow_zero, Nat.mul_one, e1, Nat.mul_div_mul_right _ _ hp, hm]
  · rw [hr, Nat.pow_zero, Nat.mul_one, e1, Nat.mul_mod_mul_right]
    constructor
    · intro w y; rcases Nat.mul_eq_zero.mp y with c | c
      · exact w c
      · omega
    · intro w y; rw [y, Nat.zero_mul] at w; exact w rfl
theorem w_floatOf (x : Int64) (h : HP) : f_X46_floatOf x 0 h = rok (lN (Jvm.FP.Core.convert F32 F64 (Jvm.FP.Core.fromInt F32 x.toInt))) h := by
  obtain ⟨n, hn, rfl⟩ := wb_of x
  rw [fl_ofInt fl_ok32, lN_toI hn, show F32.p = 24 from rfl, fl_z32, f32_inf]
  -- the end
  have b104 : ∀ (s more : Bool) (V m k : Nat), k ≤ 2 → m = V / 2 ^ k → (more = true ↔ V % 2 ^ k ≠ 0) → 0 < m → m < 2 ^ 62 → (more = true → 2 ^ 24 ≤ m) →
      f_X46_floatOf_b104 (zB s) (lN m) (nI k) (zB more) h = rok (lN (Jvm.FP.Core.convert F32 F64 (fl_sg F32 s + min INF32 (flR 24 (V * 2 ^ 149) 1)))) h := by
    intro s more V m k h1 h2 h3 h4 h5 h6
    unfold f_X46_floatOf_b104
    rw [w_rndI more k h1 h2 h3 h4 h5 h6 h, bd_ok, lN_i, bd_rok, bd_rok, f32_sg]
    have hlt : min INF32 (flR 24 (V * 2 ^ 149) 1) ≤ INF32 := Nat.min_le_left _ _
    generalize min INF32 (flR 24 (V * 2 ^ 149) 1) = r at *
    have hi : INF32 < 2 ^ 31 := by decide
    cases s with
    | false =>
      rw [if_pos (show zB false = 0 from rfl), show (0 : Int32) = nI (false.toNat * 2 ^ 31) from rfl, nI_orS false (by omega), w_wide (by simp; omega) (by simp; omega) h]
    | true =>
      rw [if_neg (show ¬ zB true = 0 by decide), show (-2147483648 : Int32) = nI (true.toNat * 2 ^ 31) from rfl, nI_orS true (by omega), w_wide (by simp; omega) (by simp; omega) h]
  have b34 : ∀ (s : Bool) (V : Nat), 0 < V → V ≤ 2 ^ 63 → f_X46_floatOf_b34 (zB s) (lN V) h = rok (lN (Jvm.FP.Core.convert F32 F64 (fl_sg F32 s + min INF32 (flR 24 (V * 2 ^ 149) 1)))) h := by
    intro s V h0 hV
    have big : 2 ^ 62 ≤ V → f_X46_floatOf_b56 (zB s) (lN V) h = rok (lN (Jvm.FP.Core.convert F32 F64 (fl_sg F32 s + min INF32 (flR 24 (V * 2 ^ 149) 1)))) h := by
      intro c
      simp only [f_X46_floatOf_b56, f_X46_floatOf_b57, f_X46_floatOf_b73, f_X46_floatOf_b83, f_X46_floatOf_b103, if_true]
      rw [show lN V &&& (3 : Int64) = lN (V % 2 ^ 2) from wb_mask (k := 2) (by omega) (by decide), lsr (x := 2) (m := V) (k := 2) (by omega) (by decide) rfl]
      have ec : (lg_cmp (lN (V % 2 ^ 2)) (0 : Int64) = 0) ↔ V % 2 ^ 2 = 0 := lc_eq rfl (by omega) (by omega)
      by_cases d : V % 2 ^ 2 = 0
      · rw [if_pos (ec.mpr d)]
        exact b104 s false V (V / 2 ^ 2) 2 (by omega) rfl ⟨fun z => Bool.noConfusion z, fun z => absurd d z⟩ (by omega) (by omega) (fun z => Bool.noConfusion z)
      · rw [if_neg (fun z => d (ec.mp z))]
        exact b104 s true V (V / 2 ^ 2) 2 (by omega) rfl ⟨fun _ => d, fun _ => rfl⟩ (by omega) (by omega) (fun _ => by omega)
    unfold f_X46_floatOf_b34
    by_cases c : V < 2 ^ 62
    · have e1 : (lg_cmp (lN V) (0 : Int64) ≤ 0) ↔ V ≤ 0 := lc_le rfl (by omega) (by omega)
      have e2 : (0 ≤ lg_cmp (lN V) (4611686018427387904 : Int64)) ↔ 4611686018427387904 ≤ V := lc_ge rfl (by omega) (by omega)
      rw [if_neg (fun z => absurd (e1.mp z) (by omega)), if_neg (fun z => absurd (e2.mp z) (by omega))]
      simp only [f_X46_floatOf_b57, f_X46_floatOf_b73, f_X46_floatOf_b83, f_X46_floatOf_b103, show ((1 : Int32) = 0) = False from eq_false (by decide), if_false]
      exact b104 s false V V 0 (by omega) (by simp) ⟨fun z => Bool.noConfusion z, fun z => absurd (Nat.mod_one V) z⟩ (by omega) (by omega) (fun z => Bool.noConfusion z)
    · by_cases d : V = 2 ^ 63
      · rw [if_pos (by rw [d]; decide)]; exact big (by omega)
      · have e1 : (lg_cmp (lN V) (0 : Int64) ≤ 0) ↔ V ≤ 0 := lc_le rfl (by omega) (by omega)
        have e2 : (0 ≤ lg_cmp (lN V) (4611686018427387904 : Int64)) ↔ 4611686018427387904 ≤ V := lc_ge rfl (by omega) (by omega)
        rw [if_neg (fun z => absurd (e1.mp z) (by omega)), if_pos (e2.mpr (by omega))]; exact big (by omega)
  unfold f_X46_floatOf
  have e0 : (lg_cmp (lN n) (0 : Int64) = 0) ↔ n = 0 := by
    rw [lg_cmp_eq, show (0 : Int64) = lN 0 from rfl]
    constructor
    · intro z; have := congrArg (fun y => y.toBitVec.toNat) z; simp only [wb_tn hn] at this; rw [this]; rfl
    · intro z; rw [z]
  by_cases c0 : n = 0
  · rw [if_pos (e0.mpr c0), c0, if_pos (by omega)]
    have e0 : Jvm.FP.Core.convert F32 F64 0 = 0 := by decide
    simp only [Int.natAbs_natCast, Nat.zero_mul, flR_zero, Nat.min_zero, Nat.add_zero]
    show rok (0 : Int64) h = rok (lN (Jvm.FP.Core.convert F32 F64 0)) h
    rw [e0]; rfl
  rw [if_neg (fun z => c0 (e0.mp z))]
  by_cases c : n < 2 ^ 63
  · rw [if_pos ((lc_sg hn).mpr c), if_pos c]
    simp only [f_X46_floatOf_b22, f_X46_floatOf_b23, if_true]
    rw [show (0 : Int32) = zB false from rfl, b34 false n (by omega) (by omega), show decide ((n : Int) < 0) = false by simp]
    simp
  · rw [if_neg (fun z => c ((lc_sg hn).mp z)), if_neg c]
    simp only [f_X46_floatOf_b23, if_true]
    rw [if_neg (show ¬ (1 : Int32) = 0 by decide), lN_neg (by omega) hn, show (1 : Int32) = zB true from rfl, b34 true (2 ^ 64 - n) (by omega) (by omega), show decide ((n : Int) - 2 ^ 64 < 0) = true by simp; omega]
    have e : Int.natAbs ((n : Int) - 2 ^ 64) = 2 ^ 64 - n := by omega
    rw [e]
theorem w_isGreat {b : Nat} (hb : b < 2 ^ 64) (nb : b % 2 ^ 63 ≤ INF64) (h : HP) :
    f_X46_isGreat (lN b) h = rok (zB (decide (b % 2 ^ 63 = INF64 ∨ 2 ^ 64 ≤ flU F64 b / 2 ^ 1074))) h ∧ (b % 2 ^ 63 ≠ INF64 → flU F64 b / 2 ^ 1074 < 2 ^ 64 → f_X46_cut (lN b) h = rok (lN (flU F64 b / 2 ^ 1074)) h) := by
  unfold f_X46_isGreat f_X46_cut
  rw [w_inf hb, bd_ok, w_zero hb, bd_ok]
  obtain ⟨z, hz⟩ : ∃ z, z = 1074 := ⟨_, rfl⟩
  rw [← hz]
  have hzp := Nat.two_pow_pos z
  by_cases ci : b % 2 ^ 63 = INF64
  · rw [if_neg (fun w => zB_d.mp w ci)]
    exact ⟨by simp [ci, zB], fun w => absurd ci w⟩
  rw [if_pos (zB_d.mpr ci)]
  by_cases c0 : b % 2 ^ 63 = 0
  · rw [if_neg (fun w => zB_d.mp w c0), f64_U0.mpr c0, Nat.zero_div, bd_ok, if_neg (fun w => zB_d.mp w c0)]
    refine ⟨?_, fun _ _ => rfl⟩
    have : ¬ (b % 2 ^ 63 = INF64 ∨ 2 ^ 64 ≤ 0) := by rintro (w | w); exact ci w; omega
    simp only [this, decide_false]; rfl
  rw [if_pos (zB_d.mpr c0), bd_ok, if_pos (zB_d.mpr c0)]
  have fb : b % 2 ^ 63 < INF64 := by omega
  obtain ⟨S, A, B, ex, sx, x1, x2, x3, x4, x5⟩ := w_cut hb fb c0
  rw [ex, bd_ok, bd_ok, sx, bd_ok]
  have e11 : (Int32.ofInt ((A : Int) - B - 1074) ≤ (11 : Int32)) ↔ (A : Int) - B - 1074 ≤ 11 := io_le (b := 11) (by omega) (by omega) (by omega) (by omega)
  have e0 : (Int32.ofInt ((A : Int) - B - 1074) < (0 : Int32)) ↔ (A : Int) - B - 1074 < 0 := io_lt (b := 0) (by omega) (by omega) (by omega) (by omega)
  have e52 : ((-52 : Int32) ≤ Int32.ofInt ((A : Int) - B - 1074)) ↔ -52 ≤ (A : Int) - B - 1074 := by rw [show (-52 : Int32) = Int32.ofInt (-52) from rfl]; exact io_le (by omega) (by omega) (by omega) (by omega)
  -- the whole part
  have up : 0 ≤ (A : Int) - B - 1074 → flU F64 b / 2 ^ z = S * 2 ^ ((A : Int) - B - 1074).toNat := by
    intro c
    obtain ⟨k, hk⟩ : ∃ k : Nat, (k : Int) = (A : Int) - B - 1074 := ⟨((A : Int) - B - 1074).toNat, by omega⟩
    rw [← hk, Int.toNat_natCast]
    have : flU F64 b * 2 ^ 0 = S * 2 ^ (k + z) := fl_pp x5 (by omega)
    rw [Nat.pow_zero, Nat.mul_one] at this
    rw [this, Nat.pow_add, ← Nat.mul_assoc, Nat.mul_div_cancel _ hzp]
  have dn : (A : Int) - B - 1074 < 0 → flU F64 b / 2 ^ z = S / 2 ^ (-((A : Int) - B - 1074)).toNat := by
    intro c
    obtain ⟨k, hk⟩ : ∃ k : Nat, (k : Int) = -((A : Int) - B - 1074) := ⟨(-((A : Int) - B - 1074)).toNat, by omega⟩
    rw [← hk, Int.toNat_natCast]
    have : flU F64 b * 2 ^ k = S * 2 ^ z := fl_pp x5 (by omega)
    exact (fl_ratio hzp (Nat.two_pow_pos k) this).1
  refine ⟨?_, ?_⟩
  · by_cases c : (A : Int) - B - 1074 ≤ 11
    · rw [if_pos (e11.mpr c)]
      have : flU F64 b / 2 ^ z < 2 ^ 64 := by
        by_cases d : (A : Int) - B - 1074 < 0
        · rw [dn d]; exact Nat.lt_of_le_of_lt (Nat.div_le_self _ _) (by omega)
        · rw [up (by omega)]
          have : 2 ^ ((A : Int) - B - 1074).toNat ≤ 2 ^ 11 := Nat.pow_le_pow_right (by omega) (by omega)
          have : S * 2 ^ ((A : Int) - B - 1074).toNat ≤ S * 2 ^ 11 := Nat.mul_le_mul_left _ this
          omega
      have : ¬ (b % 2 ^ 63 = INF64 ∨ 2 ^ 64 ≤ flU F64 b / 2 ^ z) := by rintro (w | w); exact ci w; omega
      simp only [this, decide_false]; rfl
    · rw [if_neg (fun w => c (e11.mp w))]
      have : b % 2 ^ 63 = INF64 ∨ 2 ^ 64 ≤ flU F64 b / 2 ^ z := by
        right
        rw [up (by omega)]
        have : 2 ^ 12 ≤ 2 ^ ((A : Int) - B - 1074).toNat := Nat.pow_le_pow_right (by omega) (by omega)
        have : S * 2 ^ 12 ≤ S * 2 ^ ((A : Int) - B - 1074).toNat := Nat.mul_le_mul_left _ this
        omega
      simp only [this, decide_true]; rfl
  · intro _ hlt
    by_cases d : (A : Int) - B - 1074 < 0
    · rw [if_pos (e0.mpr d), dn d]
      by_cases d2 : -52 ≤ (A : Int) - B - 1074
      · rw [if_pos (e52.mpr d2)]
        rw [show -Int32.ofInt ((A : Int) - B - 1074) = nI (-((A : Int) - B - 1074)).toNat by rw [← Int32.ofInt_neg, io_pos (by omega)]]
        rw [lsr (by omega) (by omega) rfl]
      · rw [if_neg (fun w => d2 (e52.mp w))]
        have : 2 ^ 53 ≤ 2 ^ (-((A : Int) - B - 1074)).toNat := Nat.pow_le_pow_right (by omega) (by omega)
        rw [Nat.div_eq_of_lt (by omega)]; rfl
    · rw [if_neg (fun w => d (e0.mp w)), up (by omega)]
      have c11 : (A : Int) - B - 1074 ≤ 11 := by
        refine Int.not_lt.mp fun w => ?_
        rw [up (by omega)] at hlt
        have : 2 ^ 12 ≤ 2 ^ ((A : Int) - B - 1074).toNat := Nat.pow_le_pow_right (by omega) (by omega)
        have : S * 2 ^ 12 ≤ S * 2 ^ ((A : Int) - B - 1074).toNat := Nat.mul_le_mul_left _ this
        omega
      rw [io_pos (by omega), lsh _ _ (by omega) rfl]
theorem lJ_of {t : Nat} (s : Bool) (h : t < 2 ^ 63) : (if s then -(lN t) else lN t) = Int64.ofInt (Jvm.FP.Core.signed s t) := by
  unfold Jvm.FP.Core.signed
  cases s with
  | false => simp only [Bool.false_eq_true, if_false]; exact Int64.ofInt_eq_ofNat.symm
  | true => simp only [if_true]; rw [Int64.ofInt_neg]; congr 1
/-- cut to a whole number from -M - 1 to M -/
theorem w_cut13 {b M : Nat} (hb : b < 2 ^ 64) (nb : b % 2 ^ 63 ≤ INF64) (hM : M < 2 ^ 63) (h : HP) :
    f_X4_cut_b13 (lN b) (lN M) h = rok (Int64.ofInt (Jvm.FP.Core.toInt (-(M : Int) - 1) M (Jvm.FP.Core.decode F64 b))) h := by
  obtain ⟨s, hs⟩ : ∃ s, s = Jvm.FP.Core.fieldS F64 b := ⟨_, rfl⟩
  have h25 : f_X4_cut_b13 (lN b) (lN M) h = f_X4_cut_b25 (lN b) (lN M) (zB s) h := by
    unfold f_X4_cut_b13
    rw [hs, f64_S' hb]
    by_cases c : b < 2 ^ 63
    · rw [if_pos ((lc_sg hb).mpr c), show decide (2 ^ 63 ≤ b) = false by simp; omega]; rfl
    · rw [if_neg (fun z => c ((lc_sg hb).mp z)), show decide (2 ^ 63 ≤ b) = true by simp; omega]; rfl
  rw [h25]
  -- what is out of range
  have b67 : ∀ a7 : Int64, f_X4_cut_b67 (lN M) (zB s) a7 h = rok (Int64.ofInt (if s then -(M : Int) - 1 else M)) h := by
    intro a7
    simp only [f_X4_cut_b67, f_X4_cut_b72]
    rw [if_neg (show ¬ (1 : Int32) = 0 by decide)]
    cases s with
    | false => rw [if_pos (show zB false = 0 from rfl)]; simp only [Bool.false_eq_true, if_false]; congr 1
    | true =>
      rw [if_neg (show ¬ zB true = 0 by decide)]
      simp only [if_true]
      rw [Int64.ofInt_sub, Int64.ofInt_neg]; congr 2
  have b72 : ∀ t : Nat, t < 2 ^ 63 → f_X4_cut_b72 (lN M) (zB s) (lN t) 0 h = rok (Int64.ofInt (Jvm.FP.Core.signed s t)) h := by
    intro t ht
    simp only [f_X4_cut_b72, if_true]
    rw [← lJ_of s ht]
    cases s with
    | false => rw [if_pos (show zB false = 0 from rfl)]; rfl
    | true => rw [if_neg (show ¬ zB true = 0 by decide)]; rfl
  obtain ⟨g1, g2⟩ := w_isGreat hb nb h
  unfold f_X4_cut_b25
  rw [g1, bd_ok]
  by_cases cg : b % 2 ^ 63 = INF64 ∨ 2 ^ 64 ≤ flU F64 b / 2 ^ 1074
  · rw [if_neg (fun z => zB_d.mp z cg)]
    simp only [f_X4_cut_b46, cg, decide_true]
    rw [if_neg (show ¬ zB true = 0 by decide), b67]
    congr 2
    by_cases ci : b % 2 ^ 63 = INF64
    · rw [f64_bad ci, ← hs]; rfl
    · have hU : 2 ^ 64 ≤ flU F64 b / 2 ^ 1074 := by rcases cg with z | z; exact absurd z ci; exact z
      rw [fl_dec (f64_fin.mpr (by omega)), ← hs]
      unfold Jvm.FP.Core.toInt
      simp only
      rw [fl_trunc fl_ok64, fl_z64, ← flU_eq]
      unfold Jvm.FP.Core.signed
      cases s <;> simp only [Bool.false_eq_true, if_true, if_false] <;> omega
  · have ci : b % 2 ^ 63 ≠ INF64 := fun z => cg (.inl z)
    have hU : flU F64 b / 2 ^ 1074 < 2 ^ 64 := Nat.lt_of_not_le fun z => cg (.inr z)
    rw [if_pos (zB_d.mpr cg), g2 ci hU, bd_ok]
    rw [fl_dec (f64_fin.mpr (by omega)), ← hs]
    unfold Jvm.FP.Core.toInt
    simp only
    rw [fl_trunc fl_ok64, fl_z64, ← flU_eq]
    generalize flU F64 b / 2 ^ 1074 = t at *
    simp only [f_X4_cut_b46, cg, decide_false]
    rw [if_pos (show zB false = 0 from rfl)]
    have hlt : (lg_cmp (lN t) (0 : Int64) < 0) ↔ 2 ^ 63 ≤ t := by
      have := lc_sg hU
      rw [lg_cmp_lt, Int64.lt_iff_toInt_lt, lN_toI hU, show (0 : Int64).toInt = 0 from rfl]
      split <;> omega
    by_cases c1 : 2 ^ 63 ≤ t
    · rw [if_pos (hlt.mpr c1), b67]
      congr 2
      unfold Jvm.FP.Core.signed
      cases s <;> simp only [Bool.false_eq_true, if_true, if_false] <;> omega
    · rw [if_neg (fun z => c1 (hlt.mp z))]
      have hle : (lg_cmp (lN t) (lN M) ≤ 0) ↔ t ≤ M := lc_le rfl (by omega) hM
      by_cases c2 : t ≤ M
      · rw [if_pos (hle.mpr c2), b72 t (by omega)]
        congr 2
        unfold Jvm.FP.Core.signed
        cases s <;> simp only [Bool.false_eq_true, if_true, if_false] <;> omega
      · rw [if_neg (fun z => c2 (hle.mp z)), b67]
        congr 2
        unfold Jvm.FP.Core.signed
        cases s <;> simp only [Bool.false_eq_true, if_true, if_false] <;> omega
theorem w_rest_l (v10 : Int64) {n : Nat} (hn : 0 < n) (hn2 : n < 2 ^ 53) (f : Int) (hf1 : -3000 ≤ f) (hf2 : f ≤ 3000) (s : Nat) (hs : s ≤ 3000) : ∀ (r m : Nat) (h : HP), s < m → r < n →
    f_X4_rest_l67 (lN n) (Int32.ofInt f) v10 m (lN r) (Int32.ofInt (f + s)) h = rok (lN (r * 2 ^ s % n)) h := by
  induction s with
  | zero =>
    intro r m h hm hr
    obtain ⟨m, rfl⟩ : ∃ j, m = j + 1 := ⟨m - 1, by omega⟩
    rw [f_X4_rest_l67_s]
    simp only [b_X4_rest_l67]
    rw [if_pos ((io_le (by omega) (by omega) (by omega) (by omega)).mpr (by omega)), Nat.pow_zero, Nat.mul_one, Nat.mod_eq_of_lt hr]
  | succ s ih =>
    intro r m h hm hr
    obtain ⟨m, rfl⟩ : ∃ j, m = j + 1 := ⟨m - 1, by omega⟩
    rw [f_X4_rest_l67_s]
    simp only [b_X4_rest_l67, lt3, dvJ]
    have hn0 : ¬ lN n = 0 := by
      intro z
      have := (pk_lEQ (a := n) (b := 0) (by omega) (by omega)).mp z; omega
    rw [if_neg (fun z => absurd ((io_le (by omega) (by omega) (by omega) (by omega)).mp z) (by omega)), if_neg hn0, lsh1, pk_lRem (by omega) hn (by omega)]
    rw [show (-1 : Int32) = Int32.ofInt (-1) from rfl, ← Int32.ofInt_add, show f + ((s + 1 : Nat) : Int) + -1 = f + s by omega]
    rw [ih (by omega) _ m h (by omega) (Nat.mod_lt _ hn)]
    congr 2
    rw [Nat.pow_succ', ← Nat.mul_assoc, Nat.mod_mul_mod]
theorem w_rest {a b : Nat} (ha : a < 2 ^ 64) (hb : b < 2 ^ 64) (fa : a % 2 ^ 63 < INF64) (nb : b % 2 ^ 63 ≤ INF64) (cb0 : b % 2 ^ 63 ≠ 0) (h : HP) :
    f_X4_rest (lN a) (lN b) h = rok (lN (Jvm.FP.Core.rem F64 a b)) h := by
  have hself : fl_sg F64 (Jvm.FP.Core.fieldS F64 a) + min (fl_inf F64) (flR 53 (flU F64 a) 1) = a := by rw [f64_min fa, f64_sv ha]
  unfold f_X4_rest
  rw [w_inf hb, bd_ok]
  by_cases cb : b % 2 ^ 63 = INF64
  · rw [if_neg (fun z => zB_d.mp z cb)]
    congr 2
    unfold Jvm.FP.Core.rem
    rw [f64_bad cb, fl_dec (f64_fin.mpr fa)]
    show a = Jvm.FP.Core.encode F64 (Jvm.FP.Core.round F64 (.fin _ _ _))
    rw [fl_encR fl_ok64, ← flU_eq]; exact hself.symm
  rw [if_pos (zB_d.mpr cb), w_zero ha, bd_ok]
  have fb : b % 2 ^ 63 < INF64 := by omega
  rw [fl_rem fl_ok64 (f64_fin.mpr fa) (f64_fin.mpr fb) (fun z => cb0 (f64_U0.mp z)), show F64.p = 53 from rfl]
  by_cases ca0 : a % 2 ^ 63 = 0
  · rw [if_neg (fun z => zB_d.mp z ca0)]
    congr 2
    have hu := f64_U0.mpr ca0
    rw [hu] at hself
    rw [hu, Nat.zero_mod]; exact hself.symm
  rw [if_pos (zB_d.mpr ca0)]
  obtain ⟨Sa, Aa, Ba, ea, sa, a1, a2, a3, a4, a5⟩ := w_cut ha fa ca0
  obtain ⟨Sb, Ab, Bb, eb, sb, b1, b2, b3, b4, b5⟩ := w_cut hb fb cb0
  simp only [sa, sb, ea, eb, bd_ok, lt3]
  have el : (Int32.ofInt ((Ab : Int) - Bb - 1074) ≤ Int32.ofInt ((Aa : Int) - Ba - 1074)) ↔ (Ab : Int) - Bb ≤ Aa - Ba := by rw [io_le (by omega) (by omega) (by omega) (by omega)]; omega
  by_cases c : (Ab : Int) - Bb ≤ Aa - Ba
  · rw [if_pos (el.mpr c)]
    obtain ⟨y, hy⟩ : ∃ y : Nat, (y : Int) = (Aa : Int) - Ba - (Ab - Bb) := ⟨((Aa : Int) - Ba - (Ab - Bb)).toNat, by omega⟩
    have hn0 : ¬ lN Sb = 0 := by
      intro z
      have := (pk_lEQ (a := Sb) (b := 0) (by omega) (by omega)).mp z; omega
    simp only [dvJ, if_neg hn0]
    rw [pk_lRem (by omega) (by omega) (by omega), show (Aa : Int) - Ba - 1074 = (Ab : Int) - Bb - 1074 + y by omega, w_rest_l _ (by omega) b2 _ (by omega) (by omega) y (by omega) _ NN h (by have := NN_ge (k := 3001) (by omega); omega) (Nat.mod_lt _ (by omega)), bd_ok]
    have hr : (flU F64 a % flU F64 b) * 2 ^ Bb = (Sa * 2 ^ y % Sb) * 2 ^ Ab := by
      rw [← Nat.mul_mod_mul_right, ← Nat.mul_mod_mul_right, b5, show flU F64 a * 2 ^ Bb = Sa * 2 ^ (y + Ab) from fl_pp a5 (by omega), Nat.pow_add, ← Nat.mul_assoc]
    rw [Nat.mod_mul_mod]
    generalize hrr : Sa * 2 ^ y % Sb = r at *
    have hrl : r < Sb := by rw [← hrr]; exact Nat.mod_lt _ (by omega)
    have er : (lg_cmp (lN r) (0 : Int64) = 0) ↔ r = 0 := lc_eq rfl (by omega) (by omega)
    have esg : lN a &&& (-9223372036854775808 : Int64) = lN ((Jvm.FP.Core.fieldS F64 a).toNat * 2 ^ 63) := by
      rw [lN_sgn ha, f64_S' ha]
      congr 2
      by_cases k : 2 ^ 63 ≤ a
      · simp [k]; omega
      · simp [k]; omega
    rw [esg]
    by_cases r0 : r = 0
    · rw [if_pos (er.mpr r0)]
      have : flU F64 a % flU F64 b = 0 := by
        rw [r0, Nat.zero_mul] at hr
        rcases Nat.mul_eq_zero.mp hr with k | k
        · exact k
        · have := Nat.two_pow_pos Bb; omega
      rw [this, flR_zero, f64_sg]; simp
    · rw [if_neg (fun z => r0 (er.mp z))]
      have hp : 0 < 1 * 2 ^ Ab := by rw [Nat.one_mul]; exact Nat.two_pow_pos _
      rw [show (0 : Int32) = zB false from rfl, w_madeR (N := flU F64 a % flU F64 b) (D := 1) (A := Ab) (B := Bb) false false (by omega) (by omega) (by rw [hr, Nat.one_mul, Nat.mul_div_cancel _ (Nat.two_pow_pos _)]) (by rw [hr, Nat.one_mul, Nat.mul_mod_left]; simp) (by omega) (by omega) (fun z => Bool.noConfusion z) (by omega) (by omega) h, bd_ok]
      have hlt : min (fl_inf F64) (flR 53 (flU F64 a % flU F64 b) 1) < 2 ^ 63 := Nat.lt_of_le_of_lt (Nat.min_le_left _ _) (by decide)
      rw [f64_sg, f64_sg, show false.toNat * 2 ^ 63 = 0 from rfl, Nat.zero_add, lN_orS' hlt (by cases Jvm.FP.Core.fieldS F64 a <;> decide)]
  · rw [if_neg (fun z => c (el.mp z))]
    congr 2
    have hU : flU F64 a < flU F64 b := by
      -- the lesser exponent is the lesser number
      refine Nat.lt_of_mul_lt_mul_right (a := 2 ^ (Ba + Bb)) ?_
      rw [Nat.pow_add, ← Nat.mul_assoc, a5, Nat.mul_comm (2 ^ Ba), ← Nat.mul_assoc, b5, Nat.mul_assoc, Nat.mul_assoc, ← Nat.pow_add, ← Nat.pow_add]
      calc Sa * 2 ^ (Aa + Bb) < 2 ^ 53 * 2 ^ (Aa + Bb) := Nat.mul_lt_mul_of_pos_right a2 (Nat.two_pow_pos _)
        _ = 2 ^ 52 * 2 ^ (Aa + Bb + 1) := by rw [← Nat.pow_add, ← Nat.pow_add]; congr 1; omega
        _ ≤ 2 ^ 52 * 2 ^ (Ab + Ba) := Nat.mul_le_mul_left _ (Nat.pow_le_pow_right (by omega) (by omega))
        _ ≤ Sb * 2 ^ (Ab + Ba) := Nat.mul_le_mul_right _ b1
    rw [Nat.mod_eq_of_lt hU]; exact hself.symm
