/-! PHASE B floats 4: the twin's soft floats, walked: exponent, significand, rounded -/
set_option maxRecDepth 100000
theorem io_lt {a b : Int} (h1 : -2147483648 ≤ a) (h2 : a < 2147483648) (h3 : -2147483648 ≤ b) (h4 : b < 2147483648) : Int32.ofInt a < Int32.ofInt b ↔ a < b := by
  rw [Int32.lt_iff_toInt_lt, Int32.toInt_ofInt_of_le (by omega) (by omega), Int32.toInt_ofInt_of_le (by omega) (by omega)]
theorem io_le {a b : Int} (h1 : -2147483648 ≤ a) (h2 : a < 2147483648) (h3 : -2147483648 ≤ b) (h4 : b < 2147483648) : Int32.ofInt a ≤ Int32.ofInt b ↔ a ≤ b := by
  rw [Int32.le_iff_toInt_le, Int32.toInt_ofInt_of_le (by omega) (by omega), Int32.toInt_ofInt_of_le (by omega) (by omega)]
theorem io_eq {a b : Int} (h1 : -2147483648 ≤ a) (h2 : a < 2147483648) (h3 : -2147483648 ≤ b) (h4 : b < 2147483648) : Int32.ofInt a = Int32.ofInt b ↔ a = b := by
  rw [← Int32.toInt_inj, Int32.toInt_ofInt_of_le (by omega) (by omega), Int32.toInt_ofInt_of_le (by omega) (by omega)]
theorem io_n (n : Nat) : nI n = Int32.ofInt n := Int32.ofInt_eq_ofNat.symm
theorem io_pos {a : Int} (h : 0 ≤ a) : Int32.ofInt a = nI a.toNat := by rw [io_n, Int.toNat_of_nonneg h]
theorem lsh1 (m : Nat) : lN m <<< (Int32.toInt64 (1 : Int32) &&& 63) = lN (m * 2) := (wb_shl m (k := 1) (by decide)).trans (by rw [Nat.pow_one])
theorem lsh {x : Int32} (m k : Nat) (hk : k < 64) (hx : x = nI k) : lN m <<< (Int32.toInt64 x &&& 63) = lN (m * 2 ^ k) := by rw [hx]; exact wb_shl m hk
theorem lsr {x : Int32} {m k : Nat} (hm : m < 2 ^ 64) (hk : k < 64) (hx : x = nI k) : UInt64.toInt64 (Int64.toUInt64 (lN m) >>> (Int64.toUInt64 (Int32.toInt64 x) &&& Int64.toUInt64 63)) = lN (m / 2 ^ k) := by rw [hx]; exact wb_shr hm hk
theorem lc_ge {m c : Nat} {C : Int64} (hC : C = lN c) (hm : m < 2 ^ 63) (hc : c < 2 ^ 63) : (0 ≤ lg_cmp (lN m) C) ↔ c ≤ m := by rw [hC, lg_cmp_ge, pk_lLE hc hm]
theorem lc_gt {m c : Nat} {C : Int64} (hC : C = lN c) (hm : m < 2 ^ 63) (hc : c < 2 ^ 63) : (0 < lg_cmp (lN m) C) ↔ c < m := by rw [hC, lg_cmp_gt, pk_lLT hc hm]
theorem lc_le {m c : Nat} {C : Int64} (hC : C = lN c) (hm : m < 2 ^ 63) (hc : c < 2 ^ 63) : (lg_cmp (lN m) C ≤ 0) ↔ m ≤ c := by rw [hC, lg_cmp_le, pk_lLE hm hc]
theorem lc_lt {m c : Nat} {C : Int64} (hC : C = lN c) (hm : m < 2 ^ 63) (hc : c < 2 ^ 63) : (lg_cmp (lN m) C < 0) ↔ m < c := by rw [hC, lg_cmp_lt, pk_lLT hm hc]
theorem lc_eq {m c : Nat} {C : Int64} (hC : C = lN c) (hm : m < 2 ^ 63) (hc : c < 2 ^ 63) : (lg_cmp (lN m) C = 0) ↔ m = c := by rw [hC, lg_cmp_eq, pk_lEQ hm hc]
theorem w_exp_l (s : Nat) : ∀ (n m : Nat) (e : Int) (h : HP), s < n → 2 ^ 52 ≤ m * 2 ^ s → m * 2 ^ s < 2 ^ 53 → f_X46_exponent_l31 n (Int32.ofInt e) (lN m) h = rok (Int32.ofInt (e - s)) h := by
  induction s with
  | zero =>
    intro n m e h hn h1 h2
    obtain ⟨n, rfl⟩ : ∃ k, n = k + 1 := ⟨n - 1, by omega⟩
    rw [Nat.pow_zero, Nat.mul_one] at h1 h2
    rw [f_X46_exponent_l31_s]
    simp only [b_X46_exponent_l31, lt3]
    rw [if_pos ((lc_ge (C := 4503599627370496) (c := 4503599627370496) rfl (by omega) (by omega)).mpr (by omega))]
    simp
  | succ s ih =>
    intro n m e h hn h1 h2
    obtain ⟨n, rfl⟩ : ∃ k, n = k + 1 := ⟨n - 1, by omega⟩
    have hm : m < 2 ^ 52 := by
      rw [Nat.pow_succ] at h2
      have := Nat.two_pow_pos s
      have h3 : m * 2 ^ s < 2 ^ 52 := by rw [← Nat.mul_assoc] at h2; omega
      exact Nat.lt_of_le_of_lt (Nat.le_mul_of_pos_right _ this) h3
    rw [f_X46_exponent_l31_s]
    simp only [b_X46_exponent_l31, lt3]
    rw [if_neg (fun q => absurd ((lc_ge (m := m) (C := 4503599627370496) (c := 4503599627370496) rfl (by omega) (by omega)).mp q) (by omega))]
    rw [lsh1, show (-1 : Int32) = Int32.ofInt (-1) from rfl, ← Int32.ofInt_add, ih n (m * 2) (e + -1) h (by omega) (by rw [Nat.mul_assoc, ← Nat.pow_succ']; exact h1) (by rw [Nat.mul_assoc, ← Nat.pow_succ']; exact h2)]
    congr 2; omega
theorem w_sig_l (s : Nat) : ∀ (n m : Nat) (h : HP), s < n → 2 ^ 52 ≤ m * 2 ^ s → m * 2 ^ s < 2 ^ 53 → f_X46_significand_l25 n (lN m) h = rok (lN (m * 2 ^ s)) h := by
  induction s with
  | zero =>
    intro n m h hn h1 h2
    obtain ⟨n, rfl⟩ : ∃ k, n = k + 1 := ⟨n - 1, by omega⟩
    rw [Nat.pow_zero, Nat.mul_one] at h1 h2 ⊢
    rw [f_X46_significand_l25_s]
    simp only [b_X46_significand_l25, lt3]
    rw [if_pos ((lc_ge (C := 4503599627370496) (c := 4503599627370496) rfl (by omega) (by omega)).mpr (by omega))]
  | succ s ih =>
    intro n m h hn h1 h2
    obtain ⟨n, rfl⟩ : ∃ k, n = k + 1 := ⟨n - 1, by omega⟩
    have hm : m < 2 ^ 52 := by
      rw [Nat.pow_succ] at h2
      have := Nat.two_pow_pos s
      have h3 : m * 2 ^ s < 2 ^ 52 := by rw [← Nat.mul_assoc] at h2; omega
      exact Nat.lt_of_le_of_lt (Nat.le_mul_of_pos_right _ this) h3
    rw [f_X46_significand_l25_s]
    simp only [b_X46_significand_l25, lt3]
    rw [if_neg (fun q => absurd ((lc_ge (m := m) (C := 4503599627370496) (c := 4503599627370496) rfl (by omega) (by omega)).mp q) (by omega))]
    rw [lsh1, ih n (m * 2) h (by omega) (by rw [Nat.mul_assoc, ← Nat.pow_succ']; exact h1) (by rw [Nat.mul_assoc, ← Nat.pow_succ']; exact h2), Nat.mul_assoc, ← Nat.pow_succ']
theorem w_rnd_l (v3 v4 v5 : Int32) (s : Nat) : ∀ (n m : Nat) (e : Int) (h : HP), s < n → 2 ^ 61 ≤ m * 2 ^ s → m * 2 ^ s < 2 ^ 62 → f_X46_rounded_l6 v3 v4 v5 n (lN m) (Int32.ofInt e) h = rok (lN (m * 2 ^ s), Int32.ofInt (e - s)) h := by
  induction s with
  | zero =>
    intro n m e h hn h1 h2
    obtain ⟨n, rfl⟩ : ∃ k, n = k + 1 := ⟨n - 1, by omega⟩
    rw [Nat.pow_zero, Nat.mul_one] at h1 h2 ⊢
    rw [f_X46_rounded_l6_s]
    simp only [b_X46_rounded_l6, lt3]
    rw [if_pos ((lc_ge (C := 2305843009213693952) (c := 2305843009213693952) rfl (by omega) (by omega)).mpr (by omega))]
    simp
  | succ s ih =>
    intro n m e h hn h1 h2
    obtain ⟨n, rfl⟩ : ∃ k, n = k + 1 := ⟨n - 1, by omega⟩
    have hm : m < 2 ^ 61 := by
      rw [Nat.pow_succ] at h2
      have := Nat.two_pow_pos s
      have h3 : m * 2 ^ s < 2 ^ 61 := by rw [← Nat.mul_assoc] at h2; omega
      exact Nat.lt_of_le_of_lt (Nat.le_mul_of_pos_right _ this) h3
    rw [f_X46_rounded_l6_s]
    simp only [b_X46_rounded_l6, lt3]
    rw [if_neg (fun q => absurd ((lc_ge (m := m) (C := 2305843009213693952) (c := 2305843009213693952) rfl (by omega) (by omega)).mp q) (by omega))]
    rw [lsh1, show (-1 : Int32) = Int32.ofInt (-1) from rfl, ← Int32.ofInt_add, ih n (m * 2) (e + -1) h (by omega) (by rw [Nat.mul_assoc, ← Nat.pow_succ']; exact h1) (by rw [Nat.mul_assoc, ← Nat.pow_succ']; exact h2), Nat.mul_assoc, ← Nat.pow_succ']
    congr 3; omega
/-- whole number of a truth -/
def zB (b : Bool) : Int32 := if b then 1 else 0
theorem zB_0 (b : Bool) : (zB b = 0) ↔ b = false := by cases b <;> decide
theorem w_rnd_top {m : Nat} (h0 : 0 < m) (h62 : m < 2 ^ 62) : m.log2 ≤ 61 ∧ 2 ^ 61 ≤ m * 2 ^ (61 - m.log2) ∧ m * 2 ^ (61 - m.log2) < 2 ^ 62 := by
  have hm0 : m ≠ 0 := by omega
  have t1 : 2 ^ m.log2 ≤ m := Nat.log2_self_le hm0
  have t2 : m < 2 ^ (m.log2 + 1) := (Nat.log2_lt hm0).mp (Nat.lt_succ_self _)
  have tT : m.log2 ≤ 61 := Nat.le_of_lt_succ ((Nat.log2_lt hm0).mpr h62)
  refine ⟨tT, ?_, ?_⟩
  · calc 2 ^ 61 = 2 ^ m.log2 * 2 ^ (61 - m.log2) := by rw [← Nat.pow_add]; congr 1; omega
      _ ≤ m * 2 ^ (61 - m.log2) := Nat.mul_le_mul_right _ t1
  · calc m * 2 ^ (61 - m.log2) < 2 ^ (m.log2 + 1) * 2 ^ (61 - m.log2) := Nat.mul_lt_mul_of_pos_right t2 (Nat.two_pow_pos _)
      _ = 2 ^ 62 := by rw [← Nat.pow_add]; congr 1; omega
theorem w_rnd152 {p : Nat} (hp : 1 ≤ p) (hp2 : p ≤ 62) {F : Int} (hF1 : -2147483648 ≤ F) (hF2 : F < 2147483648) (q : Nat) (h : HP) :
    f_X46_rounded_b152 (nI p) (Int32.ofInt F) (lN q) h = rok (lN (if 0 < F then (F - 1).toNat * 2 ^ (p - 1) + q else q)) h := by
  unfold f_X46_rounded_b152
  have e0 : (0 < Int32.ofInt F) ↔ 0 < F := io_lt (a := 0) (by omega) (by omega) hF1 hF2
  by_cases c : 0 < F
  · rw [if_pos (e0.mpr c), if_pos c]
    rw [show Int32.ofInt F - (1 : Int32) = nI (F - 1).toNat by rw [show (1 : Int32) = Int32.ofInt 1 from rfl, ← Int32.ofInt_sub, io_pos (by omega)]]
    rw [nI_l (by omega), lsh _ (p - 1) (by omega) (show nI p - (1 : Int32) = nI (p - 1) from pk_sub (b := 1) hp), lN_add]
  · rw [if_neg (fun z => c (e0.mp z)), if_neg c]
theorem w_rnd82 {p : Nat} (hp : 1 ≤ p) (hp2 : p ≤ 62) {F : Int} (hF1 : -2147483648 ≤ F) (hF2 : F < 2147483648) {x d : Nat} (hx : x < 2 ^ 62) (hd : 1 ≤ d) (hd2 : d < 2147483648) (more : Bool) (h : HP) :
    f_X46_rounded_b82 (zB more) (nI p) (lN x) (Int32.ofInt F) (nI d) h = rok (lN (if 62 < d then 0 else
      let q2 := if 2 ^ (d - 1) < x % 2 ^ d ∨ (x % 2 ^ d = 2 ^ (d - 1) ∧ (more = true ∨ x / 2 ^ d % 2 = 1)) then x / 2 ^ d + 1 else x / 2 ^ d
      if 0 < F then (F - 1).toNat * 2 ^ (p - 1) + q2 else q2)) h := by
  simp only [f_X46_rounded_b82, lt3]
  have e62 : (nI d ≤ (62 : Int32)) ↔ d ≤ 62 := nI_leI (b := 62) (by omega) (by omega)
  by_cases c : d ≤ 62
  · rw [if_pos (e62.mpr c), if_neg (show ¬ 62 < d by omega)]
    have hx64 : x < 2 ^ 64 := by omega
    have hpd : 2 ^ d ≤ 2 ^ 62 := Nat.pow_le_pow_right (by omega) c
    have hpd1 : 2 ^ (d - 1) ≤ 2 ^ 62 := Nat.pow_le_pow_right (by omega) (by omega)
    rw [lsr hx64 (by omega) rfl]
    rw [show ((1 : Int64) <<< (Int32.toInt64 (nI d) &&& 63)) - (1 : Int64) = lN (2 ^ d - 1) by
      rw [show (1 : Int64) = lN 1 from rfl, lsh 1 d (by omega) rfl, Nat.one_mul, lN_sub (Nat.two_pow_pos d)]]
    rw [show ((1 : Int64) <<< (Int32.toInt64 (nI d - (1 : Int32)) &&& 63)) = lN (2 ^ (d - 1)) by
      rw [show (1 : Int64) = lN 1 from rfl, lsh 1 (d - 1) (by omega) (show nI d - (1 : Int32) = nI (d - 1) from pk_sub (b := 1) hd), Nat.one_mul]]
    rw [wb_mask hx64 (by omega)]
    have hr : x % 2 ^ d < 2 ^ 62 := Nat.lt_of_lt_of_le (Nat.mod_lt _ (Nat.two_pow_pos d)) hpd
    have hq : x / 2 ^ d < 2 ^ 62 := Nat.lt_of_le_of_lt (Nat.div_le_self _ _) hx
    have c1 : (0 < lg_cmp (lN (x % 2 ^ d)) (lN (2 ^ (d - 1)))) ↔ 2 ^ (d - 1) < x % 2 ^ d := by rw [lg_cmp_gt, pk_lLT (by omega) (by omega)]
    have c2 : (lg_cmp (lN (x % 2 ^ d)) (lN (2 ^ (d - 1))) = 0) ↔ x % 2 ^ d = 2 ^ (d - 1) := by rw [lg_cmp_eq, pk_lEQ (by omega) (by omega)]
    have c3 : (lg_cmp (lN (x / 2 ^ d) &&& (1 : Int64)) (1 : Int64) = 0) ↔ x / 2 ^ d % 2 = 1 := by
      rw [wb_a1 (by omega), lg_cmp_eq, show (1 : Int64) = lN 1 from rfl, pk_lEQ (by omega) (by omega)]
    have b1 : f_X46_rounded_b146 (nI p) (Int32.ofInt F) (lN (x / 2 ^ d)) h = rok (lN (if 0 < F then (F - 1).toNat * 2 ^ (p - 1) + (x / 2 ^ d + 1) else x / 2 ^ d + 1)) h := by
      simp only [f_X46_rounded_b146, lt3]
      rw [lN_1, w_rnd152 hp hp2 hF1 hF2]
    have b2 := w_rnd152 hp hp2 hF1 hF2 (x / 2 ^ d) h
    by_cases k1 : 2 ^ (d - 1) < x % 2 ^ d
    · rw [if_pos (c1.mpr k1), b1]
      simp only [k1, true_or, if_true]
    · rw [if_neg (fun z => k1 (c1.mp z))]
      by_cases k2 : x % 2 ^ d = 2 ^ (d - 1)
      · rw [if_pos (c2.mpr k2)]
        cases more with
        | false =>
          rw [if_pos (show zB false = 0 from rfl)]
          by_cases k3 : x / 2 ^ d % 2 = 1
          · rw [if_pos (c3.mpr k3), b1]
            have : (2 ^ (d - 1) < x % 2 ^ d ∨ (x % 2 ^ d = 2 ^ (d - 1) ∧ (false = true ∨ x / 2 ^ d % 2 = 1))) := .inr ⟨k2, .inr k3⟩
            simp only [this, if_true]
          · rw [if_neg (fun z => k3 (c3.mp z)), b2]
            have : ¬ (2 ^ (d - 1) < x % 2 ^ d ∨ (x % 2 ^ d = 2 ^ (d - 1) ∧ (false = true ∨ x / 2 ^ d % 2 = 1))) := by
              rintro (z | ⟨_, z | z⟩)
              · exact k1 z
              · exact Bool.noConfusion z
              · exact k3 z
            simp only [this, if_false]
        | true =>
          rw [if_neg (show ¬ zB true = 0 by decide), b1]
          have : (2 ^ (d - 1) < x % 2 ^ d ∨ (x % 2 ^ d = 2 ^ (d - 1) ∧ (true = true ∨ x / 2 ^ d % 2 = 1))) := .inr ⟨k2, .inl rfl⟩
          simp [k2]
      · rw [if_neg (fun z => k2 (c2.mp z)), b2]
        have : ¬ (2 ^ (d - 1) < x % 2 ^ d ∨ (x % 2 ^ d = 2 ^ (d - 1) ∧ (more = true ∨ x / 2 ^ d % 2 = 1))) := by
          rintro (z | ⟨z, _⟩)
          · exact k1 z
          · exact k2 z
        simp only [this, if_false]
  · rw [if_neg (fun z => c (e62.mp z)), if_pos (show 62 < d by omega)]
    rfl
theorem w_rnd {p bias m : Nat} {e : Int} (hp : 2 ≤ p) (hp2 : p ≤ 53) (hb : bias ≤ 1023) (he1 : -100000 ≤ e) (he2 : e ≤ 100000) (h0 : 0 < m) (h62 : m < 2 ^ 62) (more : Bool) (h : HP) :
    f_X46_rounded (lN m) (Int32.ofInt e) (zB more) (nI p) (nI bias) h = rok (lN (fl_soft p bias m e more)) h := by
  obtain ⟨tT, t1, t2⟩ := w_rnd_top h0 h62
  unfold f_X46_rounded
  rw [w_rnd_l _ _ _ (61 - m.log2) NN m e h (by have := NN_ge (k := 62) (by omega); omega) t1 t2, bd_ok]
  simp only [lt3]
  rw [show (Int32.ofInt (e - ((61 - m.log2 : Nat) : Int)) + (61 : Int32)) + nI bias = Int32.ofInt (e + (m.log2 : Int) + bias) by
    rw [show (61 : Int32) = Int32.ofInt 61 from rfl, io_n, ← Int32.ofInt_add, ← Int32.ofInt_add]; congr 1; omega]
  rw [show ((2 : Int32) * nI bias) + (1 : Int32) = nI (2 * bias + 1) by rw [show (2 : Int32) = nI 2 from rfl, pk_mul, nI_1]]
  unfold fl_soft
  generalize hF : e + (m.log2 : Int) + bias = F
  have hlt : (Int32.ofInt F < nI (2 * bias + 1)) ↔ F < ((2 * bias + 1 : Nat) : Int) := by rw [io_n]; exact io_lt (by omega) (by omega) (by omega) (by omega)
  by_cases c : F < ((2 * bias + 1 : Nat) : Int)
  · rw [if_pos (hlt.mpr c), if_neg (show ¬ ((2 * bias + 1 : Nat) : Int) ≤ F by omega)]
    rw [show (62 : Int32) - nI p = nI (62 - p) from pk_sub (a := 62) (by omega)]
    have e0 : (0 < Int32.ofInt F) ↔ 0 < F := io_lt (a := 0) (by omega) (by omega) (by omega) (by omega)
    by_cases c0 : 0 < F
    · rw [if_pos (e0.mpr c0), w_rnd82 (by omega) (by omega) (by omega) (by omega) t2 (by omega) (by omega)]
      simp only [c0, if_true]
    · rw [if_neg (fun z => c0 (e0.mp z))]
      rw [show (nI (62 - p) + (1 : Int32)) - Int32.ofInt F = nI (63 - (p : Int) - F).toNat by
        rw [nI_1, io_n, ← Int32.ofInt_sub, io_pos (by omega)]; congr 1; omega]
      rw [w_rnd82 (by omega) (by omega) (by omega) (by omega) t2 (by omega) (by omega)]
      simp only [c0, if_false]
  · rw [if_neg (fun z => c (hlt.mp z)), if_pos (show ((2 * bias + 1 : Nat) : Int) ≤ F by omega), nI_l (by omega), lsh _ (p - 1) (by omega) (show nI p - (1 : Int32) = nI (p - 1) from pk_sub (b := 1) (by omega))]
