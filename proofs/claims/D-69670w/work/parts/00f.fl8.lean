/-! PHASE B floats 8: product and quotient -/
set_option maxRecDepth 100000
theorem lc_sg0 (s : Bool) : (lg_cmp (lN (s.toNat * 2 ^ 63)) (0 : Int64) = 0) ↔ s = false := by cases s <;> decide
theorem lN_orI (s : Bool) : lN (s.toNat * 2 ^ 63) ||| (9218868437227405312 : Int64) = lN (s.toNat * 2 ^ 63 + INF64) := by cases s <;> decide
theorem fl_z_e : ∃ z, z = fl_z F64 ∧ z = 1074 := ⟨_, rfl, fl_z64⟩
theorem w_multiply {a b : Nat} (ha : a < 2 ^ 64) (hb : b < 2 ^ 64) (na : a % 2 ^ 63 ≤ INF64) (nb : b % 2 ^ 63 ≤ INF64) (hi : ¬ (a % 2 ^ 63 = INF64 ∧ b % 2 ^ 63 = 0)) (hi2 : ¬ (b % 2 ^ 63 = INF64 ∧ a % 2 ^ 63 = 0)) (h : HP) :
    f_X46_multiply (lN a) (lN b) h = rok (lN (Jvm.FP.Core.mul F64 a b)) h := by
  simp only [f_X46_multiply, lt3]
  rw [lN_xsg ha hb]
  obtain ⟨s, hs⟩ : ∃ s, s = (Jvm.FP.Core.fieldS F64 a != Jvm.FP.Core.fieldS F64 b) := ⟨_, rfl⟩
  rw [← hs, w_inf ha, bd_ok, w_inf hb, bd_ok, w_zero ha, bd_ok, w_zero hb, bd_ok]
  by_cases ca : a % 2 ^ 63 = INF64
  · rw [if_neg (fun z => zB_d.mp z ca), lN_orI]
    congr 2
    unfold Jvm.FP.Core.mul
    rw [f64_bad ca]
    by_cases cb : b % 2 ^ 63 = INF64
    · rw [f64_bad cb, hs]; exact (f64_enc_inf _).symm
    · rw [fl_dec (f64_fin.mpr (by omega))]
      unfold Jvm.FP.Core.exactProduct
      simp only
      rw [if_neg (fun z => hi ⟨ca, f64_c0.mp z⟩), hs]; exact (f64_enc_inf _).symm
  rw [if_pos (zB_d.mpr ca)]
  have fa : a % 2 ^ 63 < INF64 := by omega
  by_cases cb : b % 2 ^ 63 = INF64
  · rw [if_neg (fun z => zB_d.mp z cb), lN_orI]
    congr 2
    unfold Jvm.FP.Core.mul
    rw [f64_bad cb, fl_dec (f64_fin.mpr fa)]
    unfold Jvm.FP.Core.exactProduct
    simp only
    rw [if_neg (fun z => hi2 ⟨cb, f64_c0.mp z⟩), hs]; exact (f64_enc_inf _).symm
  rw [if_pos (zB_d.mpr cb)]
  have fb : b % 2 ^ 63 < INF64 := by omega
  rw [fl_mul fl_ok64 (f64_fin.mpr fa) (f64_fin.mpr fb), ← hs]
  by_cases ca0 : a % 2 ^ 63 = 0
  · rw [if_neg (fun z => zB_d.mp z ca0), f64_U0.mpr ca0, Nat.zero_mul, flR_zero, f64_sg]; simp
  rw [if_pos (zB_d.mpr ca0)]
  by_cases cb0 : b % 2 ^ 63 = 0
  · rw [if_neg (fun z => zB_d.mp z cb0), f64_U0.mpr cb0, Nat.mul_zero, flR_zero, f64_sg]; simp
  rw [if_pos (zB_d.mpr cb0)]
  obtain ⟨Sa, Aa, Ba, ea, sa, a1, a2, a3, a4, a5⟩ := w_cut ha fa ca0
  obtain ⟨Sb, Ab, Bb, eb, sb, b1, b2, b3, b4, b5⟩ := w_cut hb fb cb0
  rw [sa, bd_ok, sb, bd_ok]
  have mk : ∀ {m : Nat}, m < 2 ^ 53 → lN m &&& (134217727 : Int64) = lN (m % 2 ^ 27) := fun hm => wb_mask (k := 27) (by omega) (by decide)
  have sh : ∀ {m : Nat}, m < 2 ^ 62 → UInt64.toInt64 (Int64.toUInt64 (lN m) >>> (Int64.toUInt64 (Int32.toInt64 (27 : Int32)) &&& Int64.toUInt64 63)) = lN (m / 2 ^ 27) := fun hm => lsr (x := 27) (by omega) (by decide) rfl
  rw [mk a2, mk b2, sh (by omega : Sa < 2 ^ 62), sh (by omega : Sb < 2 ^ 62)]
  simp only [lN_mul, lN_add]
  obtain ⟨low, hlow⟩ : ∃ low, low = (Sa % 2 ^ 27) * (Sb % 2 ^ 27) := ⟨_, rfl⟩
  have k1 : Sa / 2 ^ 27 < 2 ^ 26 := by omega
  have k2 : Sb / 2 ^ 27 < 2 ^ 26 := by omega
  have k3 : Sa % 2 ^ 27 < 2 ^ 27 := by omega
  have k4 : Sb % 2 ^ 27 < 2 ^ 27 := by omega
  have lt1 : low < 2 ^ 54 := by have := Nat.mul_lt_mul'' k3 k4; rw [hlow]; omega
  rw [← hlow, sh (by omega : low < 2 ^ 62)]
  simp only [lN_add]
  obtain ⟨mid, hmid⟩ : ∃ mid, mid = (Sa / 2 ^ 27) * (Sb % 2 ^ 27) + (Sa % 2 ^ 27) * (Sb / 2 ^ 27) + low / 2 ^ 27 := ⟨_, rfl⟩
  have lt2 : (Sa / 2 ^ 27) * (Sb % 2 ^ 27) < 2 ^ 53 := by have := Nat.mul_lt_mul'' k1 k4; omega
  have lt3 : (Sa % 2 ^ 27) * (Sb / 2 ^ 27) < 2 ^ 53 := by have := Nat.mul_lt_mul'' k3 k2; omega
  have lt4 : mid < 2 ^ 55 := by rw [hmid]; omega
  rw [← hmid, sh (by omega : mid < 2 ^ 62)]
  simp only [lN_add]
  obtain ⟨high, hhigh⟩ : ∃ high, high = (Sa / 2 ^ 27) * (Sb / 2 ^ 27) + mid / 2 ^ 27 := ⟨_, rfl⟩
  have lt5 : high < 2 ^ 53 := by have := Nat.mul_lt_mul'' k1 k2; rw [hhigh]; omega
  rw [← hhigh]
  obtain ⟨p1, p2⟩ := fl_prod hlow hmid hhigh
  rw [show lN mid &&& (134217727 : Int64) = lN (mid % 2 ^ 27) from wb_mask (k := 27) (by omega) (by decide)]
  rw [show lN low &&& (134217727 : Int64) = lN (low % 2 ^ 27) from wb_mask (k := 27) (by omega) (by decide)]
  rw [show lN (mid % 2 ^ 27) &&& (524287 : Int64) = lN (mid % 2 ^ 27 % 2 ^ 19) from wb_mask (k := 19) (by omega) (by decide)]
  have g1 : (lg_cmp (lN (low % 2 ^ 27)) (0 : Int64) = 0) ↔ low % 2 ^ 27 = 0 := lc_eq rfl (by omega) (by omega)
  have g2 : (lg_cmp (lN (mid % 2 ^ 27 % 2 ^ 19)) (0 : Int64) = 0) ↔ mid % 2 ^ 27 % 2 ^ 19 = 0 := lc_eq rfl (by omega) (by omega)
  obtain ⟨z, hz, hz'⟩ := fl_z_e
  -- the end
  have fin : ∀ more : Bool, (more = true ↔ Sa * Sb % 2 ^ 46 ≠ 0) → f_X46_multiply_b160 (lN a) (lN b) (lN (s.toNat * 2 ^ 63)) (lN high) (lN (mid % 2 ^ 27)) (zB more) h = rok (lN (fl_sg F64 s + min (fl_inf F64) (flR F64.p (flU F64 a * flU F64 b) (2 ^ fl_z F64)))) h := by
    intro more hmore
    have e174 : f_X46_multiply_b160 (lN a) (lN b) (lN (s.toNat * 2 ^ 63)) (lN high) (lN (mid % 2 ^ 27)) (zB more) h = f_X46_made (zB s) (lN (Sa * Sb / 2 ^ 46)) (Int32.ofInt ((Aa : Int) - Ba + Ab - Bb - 2102)) (zB more) h := by
      have bdr : ∀ r : Rs Int64, bd r (fun x1 h2 => rok x1 h2) = r := by
        intro r; cases r with
        | none => rfl
        | some v => cases v <;> rfl
      have hm : (lN high <<< (Int32.toInt64 (8 : Int32) &&& 63)) ||| (UInt64.toInt64 (Int64.toUInt64 (lN (mid % 2 ^ 27)) >>> (Int64.toUInt64 (Int32.toInt64 (19 : Int32)) &&& Int64.toUInt64 63))) = lN (Sa * Sb / 2 ^ 46) := by
        rw [lsh (x := 8) high 8 (by omega) rfl, lsr (x := 19) (m := mid % 2 ^ 27) (k := 19) (by omega) (by omega) rfl, wb_or (by omega) (by omega), p1, Nat.mul_comm high, ← Nat.two_pow_add_eq_or_of_lt (by omega)]
      have he : (Int32.ofInt ((Aa : Int) - Ba - 1074) + Int32.ofInt ((Ab : Int) - Bb - 1074)) + (46 : Int32) = Int32.ofInt ((Aa : Int) - Ba + Ab - Bb - 2102) := by
        rw [show (46 : Int32) = Int32.ofInt 46 from rfl, ← Int32.ofInt_add, ← Int32.ofInt_add]; congr 1; omega
      unfold f_X46_multiply_b160
      simp only [f_X46_multiply_b174, ea, eb, bd_ok, bdr, hm, he]
      cases s with
      | false => rw [if_pos ((lc_sg0 false).mpr rfl)]; rfl
      | true => rw [if_neg (fun w => Bool.noConfusion ((lc_sg0 true).mp w))]; rfl
    rw [e174, ← hz]
    have pos : 2 ^ 104 ≤ Sa * Sb := by
      have : 2 ^ 52 * 2 ^ 52 ≤ Sa * Sb := Nat.mul_le_mul a1 b1
      rw [← Nat.pow_add] at this; exact this
    have up : Sa * Sb < 2 ^ 106 := by
      have : Sa * Sb < 2 ^ 53 * 2 ^ 53 := Nat.mul_lt_mul'' a2 b2
      rw [← Nat.pow_add] at this; exact this
    have hprod : flU F64 a * flU F64 b * 2 ^ (Ba + Bb + z) * 2 ^ 46 = Sa * Sb * (2 ^ z * 2 ^ (Aa + Ab + 46)) := by
      have e1 : flU F64 a * flU F64 b * 2 ^ (Ba + Bb) = Sa * Sb * 2 ^ (Aa + Ab) := by
        rw [Nat.pow_add, Nat.pow_add, Nat.mul_mul_mul_comm, a5, b5, Nat.mul_mul_mul_comm]
      rw [Nat.pow_add, ← Nat.mul_assoc, e1, Nat.pow_add (m := Aa + Ab)]
      simp only [Nat.mul_assoc, Nat.mul_left_comm, Nat.mul_comm]
    have hz0 : 0 < 2 ^ z := Nat.two_pow_pos z
    obtain ⟨q1, q2⟩ := fl_ratio (Nat.mul_pos hz0 (Nat.two_pow_pos (Aa + Ab + 46))) (Nat.two_pow_pos 46) hprod
    have hrm : (flU F64 a * flU F64 b * 2 ^ (Ba + Bb + z) % (2 ^ z * 2 ^ (Aa + Ab + 46)) = 0) ↔ (Sa * Sb % 2 ^ 46 = 0) := by
      have w1 := Nat.two_pow_pos 46
      have w2 := Nat.mul_pos hz0 (Nat.two_pow_pos (Aa + Ab + 46))
      constructor
      · intro y; rw [y, Nat.zero_mul] at q2; rcases Nat.mul_eq_zero.mp q2.symm with c | c; exact c; omega
      · intro y; rw [y, Nat.zero_mul] at q2; rcases Nat.mul_eq_zero.mp q2 with c | c; exact c; omega
    refine w_madeR (A := Aa + Ab + 46) (B := Ba + Bb + z) _ _ hz0 (by omega) q1.symm (hmore.trans (not_congr hrm.symm)) (by omega) (by omega) (fun _ => by omega) (by omega) (by omega) h
  by_cases c1 : low % 2 ^ 27 = 0
  · rw [if_pos (g1.mpr c1)]
    by_cases c2 : mid % 2 ^ 27 % 2 ^ 19 = 0
    · rw [if_pos (g2.mpr c2)]
      exact fin false ⟨fun w => Bool.noConfusion w, fun w => absurd (p2.mpr ⟨c1, c2⟩) w⟩
    · rw [if_neg (fun w => c2 (g2.mp w))]
      exact fin true ⟨fun _ w => c2 (p2.mp w).2, fun _ => rfl⟩
  · rw [if_neg (fun w => c1 (g1.mp w))]
    exact fin true ⟨fun _ w => c1 (p2.mp w).1, fun _ => rfl⟩
theorem w_div_l (v0 v2 v4 : Int64) (n : Nat) (hn : 2 ^ 52 ≤ n) (hn2 : n < 2 ^ 53) (s : Nat) : ∀ (k S q r m : Nat) (h : HP), k + s = 57 → s < m → S * 2 ^ k = 2 * q * n + r → r < 2 * n → q < 2 ^ k → 
    ∃ q' r', f_X46_divide_l65 v0 v2 v4 (lN n) m (lN r) (lN q) (nI k) h = rok (lN r', lN q') h ∧ S * 2 ^ 57 = 2 * q' * n + r' ∧ r' < 2 * n ∧ q' < 2 ^ 57 ∧ (k < 57 → r' % 2 = 0) := by
  induction s with
  | zero =>
    intro k S q r m h hk hm hS hr hq
    obtain ⟨m, rfl⟩ : ∃ j, m = j + 1 := ⟨m - 1, by omega⟩
    have k57 : k = 57 := by omega
    subst k57
    refine ⟨q, r, ?_, hS, hr, hq, fun z => absurd z (by omega)⟩
    rw [f_X46_divide_l65_s]
    simp only [b_X46_divide_l65]
    rw [if_pos (show (57 : Int32) ≤ nI 57 by decide)]
  | succ s ih =>
    intro k S q r m h hk hm hS hr hq
    obtain ⟨m, rfl⟩ : ∃ j, m = j + 1 := ⟨m - 1, by omega⟩
    have hkk : k < 57 := by omega
    have e57 : ((57 : Int32) ≤ nI k) ↔ 57 ≤ k := nI_leI (a := 57) (by omega) (by omega)
    have hq57 : q < 2 ^ 57 := Nat.lt_of_lt_of_le hq (Nat.pow_le_pow_right (by omega) (by omega))
    have pk : 2 ^ (k + 1) = 2 * 2 ^ k := by rw [Nat.pow_succ]; omega
    rw [f_X46_divide_l65_s]
    simp only [b_X46_divide_l65, lt3]
    rw [if_neg (fun w => absurd (e57.mp w) (by omega)), lsh1]
    have ec : (lg_cmp (lN r) (lN n) < 0) ↔ r < n := lc_lt rfl (by omega) (by omega)
    by_cases c : r < n
    · rw [if_pos (ec.mpr c)]
      simp only [f_X46_divide_l65b99, lt3]
      rw [lsh1, nI_1]
      obtain ⟨q', r', e1, e2, e3, e4, e5⟩ := ih (k + 1) S (q * 2) (r * 2) m h (by omega) (by omega) (by rw [Nat.pow_succ, ← Nat.mul_assoc, hS, Nat.add_mul]; congr 1; simp only [Nat.mul_assoc, Nat.mul_left_comm, Nat.mul_comm]) (by omega) (by omega)
      refine ⟨q', r', e1, e2, e3, e4, fun _ => ?_⟩
      by_cases k1 : k + 1 < 57
      · exact e5 k1
      · have hk1 : k + 1 = 57 := by omega
        have s0 : s = 0 := by omega
        subst s0
        obtain ⟨m2, rfl⟩ : ∃ j, m = j + 1 := ⟨m - 1, by omega⟩
        rw [hk1, f_X46_divide_l65_s] at e1
        simp only [b_X46_divide_l65] at e1
        rw [if_pos (show (57 : Int32) ≤ nI 57 by decide)] at e1
        have e6 : lN (r * 2) = lN r' := by
          have := Option.some.inj e1
          have := Sum.inr.inj this
          exact congrArg (fun z => z.1.1) this
        have := (pk_lEQ (by omega) (by omega)).mp e6
        omega
    · rw [if_neg (fun w => c (ec.mp w))]
      simp only [f_X46_divide_l65b99, lt3]
      have eor : lN (q * 2) ||| (1 : Int64) = lN (q * 2 + 1) := by
        rw [show (1 : Int64) = lN 1 from rfl, wb_or (by omega) (by omega)]
        congr 1
        have := Nat.two_pow_add_eq_or_of_lt (b := 1) (i := 1) (by omega) q
        rw [Nat.pow_one, Nat.mul_comm] at this; exact this.symm
      rw [eor, lN_sub (by omega), lsh1, nI_1]
      obtain ⟨q', r', e1, e2, e3, e4, e5⟩ := ih (k + 1) S (q * 2 + 1) ((r - n) * 2) m h (by omega) (by omega) (by
        rw [Nat.pow_succ, ← Nat.mul_assoc, hS]
        have e7 : 2 * (q * 2 + 1) * n = 2 * (2 * q * n) + 2 * n := by rw [Nat.mul_assoc, Nat.add_mul, Nat.one_mul, Nat.mul_add, Nat.mul_comm q 2]
        rw [e7]; omega) (by omega) (by omega)
      refine ⟨q', r', e1, e2, e3, e4, fun _ => ?_⟩
      by_cases k1 : k + 1 < 57
      · exact e5 k1
      · have hk1 : k + 1 = 57 := by omega
        have s0 : s = 0 := by omega
        subst s0
        obtain ⟨m2, rfl⟩ : ∃ j, m = j + 1 := ⟨m - 1, by omega⟩
        rw [hk1, f_X46_divide_l65_s] at e1
        simp only [b_X46_divide_l65] at e1
        rw [if_pos (show (57 : Int32) ≤ nI 57 by decide)] at e1
        have e6 : lN ((r - n) * 2) = lN r' := by
          have := Option.some.inj e1
          have := Sum.inr.inj this
          exact congrArg (fun z => z.1.1) this
        have := (pk_lEQ (by omega) (by omega)).mp e6
        omega
theorem w_divide {a b : Nat} (ha : a < 2 ^ 64) (hb : b < 2 ^ 64) (na : a % 2 ^ 63 ≤ INF64) (nb : b % 2 ^ 63 ≤ INF64) (hi : ¬ (a % 2 ^ 63 = INF64 ∧ b % 2 ^ 63 = INF64)) (hi2 : ¬ (a % 2 ^ 63 = 0 ∧ b % 2 ^ 63 = 0)) (h : HP) :
    f_X46_divide (lN a) (lN b) h = rok (lN (Jvm.FP.Core.div F64 a b)) h := by
  simp only [f_X46_divide, lt3]
  rw [lN_xsg ha hb]
  obtain ⟨s, hs⟩ : ∃ s, s = (Jvm.FP.Core.fieldS F64 a != Jvm.FP.Core.fieldS F64 b) := ⟨_, rfl⟩
  rw [← hs, w_inf ha, bd_ok, w_zero hb, bd_ok, w_zero ha, bd_ok, w_inf hb, bd_ok]
  by_cases ca : a % 2 ^ 63 = INF64
  · rw [if_neg (fun z => zB_d.mp z ca), lN_orI]
    congr 2
    unfold Jvm.FP.Core.div
    rw [f64_bad ca, fl_dec (f64_fin.mpr (show b % 2 ^ 63 < INF64 by have := fun z => hi ⟨ca, z⟩; omega)), hs]
    exact (f64_enc_inf _).symm
  rw [if_pos (zB_d.mpr ca)]
  have fa : a % 2 ^ 63 < INF64 := by omega
  by_cases cb0 : b % 2 ^ 63 = 0
  · rw [if_neg (fun z => zB_d.mp z cb0), lN_orI]
    congr 2
    have fb : b % 2 ^ 63 < INF64 := by rw [cb0]; decide
    unfold Jvm.FP.Core.div
    rw [fl_dec (f64_fin.mpr fa), fl_dec (f64_fin.mpr fb)]
    unfold Jvm.FP.Core.quotient
    simp only
    rw [if_pos (f64_c0.mpr cb0), if_neg (fun z => hi2 ⟨f64_c0.mp z, cb0⟩), hs]
    exact (f64_enc_inf _).symm
  rw [if_pos (zB_d.mpr cb0)]
  by_cases ca0 : a % 2 ^ 63 = 0
  · rw [if_neg (fun z => zB_d.mp z ca0)]
    congr 2
    by_cases cb : b % 2 ^ 63 = INF64
    · unfold Jvm.FP.Core.div
      rw [f64_bad cb, fl_dec (f64_fin.mpr fa), ← f64_sg, hs]
      exact (fl_enc0 _).symm
    · rw [fl_div fl_ok64 (f64_fin.mpr fa) (f64_fin.mpr (by omega)) (fun z => cb0 (f64_U0.mp z)), f64_U0.mpr ca0, Nat.zero_mul, flR_zero, ← hs, f64_sg]; simp
  rw [if_pos (zB_d.mpr ca0)]
  by_cases cb : b % 2 ^ 63 = INF64
  · rw [if_neg (fun z => zB_d.mp z cb)]
    congr 2
    unfold Jvm.FP.Core.div
    rw [f64_bad cb, fl_dec (f64_fin.mpr fa), ← f64_sg, hs]
    exact (fl_enc0 _).symm
  rw [if_pos (zB_d.mpr cb)]
  have fb : b % 2 ^ 63 < INF64 := by omega
  rw [fl_div fl_ok64 (f64_fin.mpr fa) (f64_fin.mpr fb) (fun z => cb0 (f64_U0.mp z)), ← hs]
  obtain ⟨Sa, Aa, Ba, ea, sa, a1, a2, a3, a4, a5⟩ := w_cut ha fa ca0
  obtain ⟨Sb, Ab, Bb, eb, sb, b1, b2, b3, b4, b5⟩ := w_cut hb fb cb0
  rw [sa, bd_ok, sb, bd_ok]
  obtain ⟨q, r, l1, l2, l3, l4, l5⟩ := w_div_l (lN a) (lN b) (lN (s.toNat * 2 ^ 63)) Sb b1 b2 57 0 Sa 0 Sa NN h (by omega) (by have := NN_ge (k := 62) (by omega); omega) (by simp) (by omega) (by decide)
  have l1' : f_X46_divide_l65 (lN a) (lN b) (lN (s.toNat * 2 ^ 63)) (lN Sb) NN (lN Sa) (0 : Int64) (0 : Int32) h = rok (lN r, lN q) h := l1
  rw [l1', bd_ok]
  simp only
  have l6 := l5 (by omega)
  obtain ⟨r2, hr2⟩ : ∃ r2, r = 2 * r2 := ⟨r / 2, by omega⟩
  have hq : Sa * 2 ^ 56 = Sb * q + r2 := by
    have e1 : Sa * 2 ^ 57 = 2 * (Sa * 2 ^ 56) := by omega
    have e2 : 2 * q * Sb = 2 * (Sb * q) := by rw [Nat.mul_assoc, Nat.mul_comm q]
    rw [e1, e2, hr2] at l2
    exact Nat.eq_of_mul_eq_mul_left (show 0 < 2 by decide) (by rw [Nat.mul_add]; exact l2)
  have hr2l : r2 < Sb := by omega
  have hdiv : Sa * 2 ^ 56 / Sb = q := by rw [hq, Nat.mul_add_div (by omega), Nat.div_eq_of_lt hr2l, Nat.add_zero]
  have hmod : Sa * 2 ^ 56 % Sb = r2 := by rw [hq, Nat.mul_add_mod, Nat.mod_eq_of_lt hr2l]
  have hq0 : 2 ^ 55 ≤ q := by
    rw [← hdiv]
    refine (Nat.le_div_iff_mul_le (by omega)).mpr ?_
    omega
  obtain ⟨z, hz, hz'⟩ := fl_z_e
  have e123 : ∀ s' : Bool, f_X46_divide_b123 (lN a) (lN b) (lN r) (lN q) (zB s') h = f_X46_made (zB s') (lN q) (Int32.ofInt ((Aa : Int) - Ba - Ab + Bb - 56)) (zB (decide (r ≠ 0))) h := by
    intro s'
    have bdr : ∀ r : Rs Int64, bd r (fun x1 h2 => rok x1 h2) = r := by
      intro r; cases r with
      | none => rfl
      | some v => cases v <;> rfl
    have he : (Int32.ofInt ((Aa : Int) - Ba - 1074) - Int32.ofInt ((Ab : Int) - Bb - 1074)) - (56 : Int32) = Int32.ofInt ((Aa : Int) - Ba - Ab + Bb - 56) := by
      rw [show (56 : Int32) = Int32.ofInt 56 from rfl, ← Int32.ofInt_sub, ← Int32.ofInt_sub]; congr 1; omega
    simp only [f_X46_divide_b123, ea, eb, bd_ok, bdr, he]
    have ec : (lg_cmp (lN r) (0 : Int64) = 0) ↔ r = 0 := lc_eq rfl (by omega) (by omega)
    by_cases c : r = 0
    · rw [if_pos (ec.mpr c)]; simp [c, zB]
    · rw [if_neg (fun w => c (ec.mp w))]; simp [c, zB]
  have hsel : (if lg_cmp (lN (s.toNat * 2 ^ 63)) (0 : Int64) = 0 then f_X46_divide_b123 (lN a) (lN b) (lN r) (lN q) (0 : Int32) h else f_X46_divide_b123 (lN a) (lN b) (lN r) (lN q) (1 : Int32) h) = f_X46_divide_b123 (lN a) (lN b) (lN r) (lN q) (zB s) h := by
    cases s with
    | false => rw [if_pos ((lc_sg0 false).mpr rfl)]; rfl
    | true => rw [if_neg (fun w => Bool.noConfusion ((lc_sg0 true).mp w))]; rfl
  rw [hsel, e123, ← hz]
  have hprod : flU F64 a * 2 ^ z * 2 ^ (Ba + Ab + 56) * Sb = Sa * 2 ^ 56 * (flU F64 b * 2 ^ (Aa + Bb + z)) := by
    have e1 : flU F64 a * 2 ^ z * 2 ^ (Ba + Ab + 56) * Sb = (flU F64 a * 2 ^ Ba) * (Sb * 2 ^ Ab) * (2 ^ z * 2 ^ 56) := by
      rw [Nat.pow_add, Nat.pow_add]; simp only [Nat.mul_assoc, Nat.mul_left_comm, Nat.mul_comm]
    have e2 : Sa * 2 ^ 56 * (flU F64 b * 2 ^ (Aa + Bb + z)) = (Sa * 2 ^ Aa) * (flU F64 b * 2 ^ Bb) * (2 ^ z * 2 ^ 56) := by
      rw [Nat.pow_add, Nat.pow_add]; simp only [Nat.mul_assoc, Nat.mul_left_comm, Nat.mul_comm]
    rw [e1, e2, a5, b5]
  have hub : 0 < flU F64 b := Nat.pos_of_ne_zero fun w => cb0 (f64_U0.mp w)
  have hden : 0 < flU F64 b * 2 ^ (Aa + Bb + z) := Nat.mul_pos hub (Nat.two_pow_pos _)
  obtain ⟨q1, q2⟩ := fl_ratio hden (by omega : 0 < Sb) hprod
  have hrm : (flU F64 a * 2 ^ z * 2 ^ (Ba + Ab + 56) % (flU F64 b * 2 ^ (Aa + Bb + z)) = 0) ↔ (Sa * 2 ^ 56 % Sb = 0) := by
    constructor
    · intro y; rw [y, Nat.zero_mul] at q2; rcases Nat.mul_eq_zero.mp q2.symm with c | c; exact c; omega
    · intro y; rw [y, Nat.zero_mul] at q2; rcases Nat.mul_eq_zero.mp q2 with c | c; exact c; omega
  refine w_madeR (A := Aa + Bb + z) (B := Ba + Ab + 56) _ _ hub (by omega) (by rw [q1, hdiv]) ?_ (by omega) (by omega) (fun _ => by omega) (by omega) (by omega) h
  rw [decide_eq_true_iff, ne_eq, ne_eq, hrm, hmod]; omega
