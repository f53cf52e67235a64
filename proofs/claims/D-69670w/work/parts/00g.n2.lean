/-! PHASE B numbers 2: the component's reals, bits, conversions -/
set_option maxRecDepth 100000
theorem u64_n {n : Nat} (h : n < 2 ^ 64) : (UInt64.ofNat n).toNat = n := UInt64.toNat_ofNat_of_lt' h
theorem u32_n {n : Nat} (h : n < 2 ^ 32) : (UInt32.ofNat n).toNat = n := UInt32.toNat_ofNat_of_lt' h
theorem nD_ok {β : Type} {n : Nat} (hn : n < 2 ^ 64) (h : n % 2 ^ 63 ≤ INF64) (t : Rs β) : nD (UInt64.ofNat n) t = t := by
  unfold nD
  refine if_pos ?_
  rw [UInt64.le_iff_toNat_le, UInt64.toNat_and, u64_n hn, show (0x7fffffffffffffff : UInt64).toNat = 2 ^ 63 - 1 from rfl, Nat.and_two_pow_sub_one_eq_mod]
  exact h
theorem nF_ok {β : Type} {n : Nat} (hn : n < 2 ^ 32) (h : n % 2 ^ 31 ≤ INF32) (t : Rs β) : nF (UInt32.ofNat n) t = t := by
  unfold nF
  refine if_pos ?_
  rw [UInt32.le_iff_toNat_le, UInt32.toNat_and, u32_n hn, show (0x7fffffff : UInt32).toNat = 2 ^ 31 - 1 from rfl, Nat.and_two_pow_sub_one_eq_mod]
  exact h
theorem f64_nan {n : Nat} (h : n % 2 ^ 63 ≤ INF64) : Jvm.FP.Core.isNaN F64 n = false := by
  unfold Jvm.FP.Core.isNaN
  rw [decide_eq_false_iff_not]
  by_cases c : n % 2 ^ 63 = INF64
  · rw [f64_bad c]; intro z; exact Jvm.FP.Core.Datum.noConfusion z
  · rw [fl_dec (f64_fin.mpr (by omega))]; intro z; exact Jvm.FP.Core.Datum.noConfusion z
theorem f32_nan {n : Nat} (h : n % 2 ^ 31 ≤ INF32) : Jvm.FP.Core.isNaN F32 n = false := by
  unfold Jvm.FP.Core.isNaN
  rw [decide_eq_false_iff_not]
  by_cases c : n % 2 ^ 31 = INF32
  · rw [f32_bad c]; intro z; exact Jvm.FP.Core.Datum.noConfusion z
  · rw [fl_dec (f32_fin.mpr (by omega))]; intro z; exact Jvm.FP.Core.Datum.noConfusion z
theorem fp_f2d {n : Nat} (hn : n < 2 ^ 32) (h : n % 2 ^ 31 ≤ INF32) : Jvm.FP.f2d (UInt32.ofNat n) = UInt64.ofNat (fW n) := by
  unfold Jvm.FP.f2d Jvm.FP.Core.fIsNaN
  rw [u32_n hn, f32_nan h, if_neg (by decide)]
  unfold Jvm.FP.Core.f2d fW
  rw [u32_n hn]
theorem fp_d2f {n : Nat} (hn : n < 2 ^ 64) (h : n % 2 ^ 63 ≤ INF64) : Jvm.FP.d2f (UInt64.ofNat n) = UInt32.ofNat (fN n) := by
  unfold Jvm.FP.d2f Jvm.FP.Core.dIsNaN
  rw [u64_n hn, f64_nan h, if_neg (by decide)]
  unfold Jvm.FP.Core.d2f fN
  rw [u64_n hn]
/-- results stay numbers -/
theorem fl_res64 (s : Bool) (R : Nat) : fl_sg F64 s + min (fl_inf F64) R < 2 ^ 64 ∧ (fl_sg F64 s + min (fl_inf F64) R) % 2 ^ 63 ≤ INF64 := by
  rw [f64_sg, f64_inf]
  have h1 : min INF64 R ≤ INF64 := Nat.min_le_left _ _
  have h2 : INF64 < 2 ^ 63 := by decide
  have h3 : s.toNat ≤ 1 := by cases s <;> decide
  generalize min INF64 R = m at *
  omega
theorem fl_res32 (s : Bool) (R : Nat) : fl_sg F32 s + min (fl_inf F32) R < 2 ^ 32 ∧ (fl_sg F32 s + min (fl_inf F32) R) % 2 ^ 31 ≤ INF32 := by
  rw [f32_sg, f32_inf]
  have h1 : min INF32 R ≤ INF32 := Nat.min_le_left _ _
  have h2 : INF32 < 2 ^ 31 := by decide
  have h3 : s.toNat ≤ 1 := by cases s <;> decide
  generalize min INF32 R = m at *
  omega
theorem fW_ok {n : Nat} (hn : n < 2 ^ 32) (h : n % 2 ^ 31 ≤ INF32) : fW n < 2 ^ 64 ∧ fW n % 2 ^ 63 ≤ INF64 := by
  by_cases c : n % 2 ^ 31 = INF32
  · have e : fW n = (Jvm.FP.Core.fieldS F32 n).toNat * 2 ^ 63 + INF64 := fl_wideI hn c
    rw [e]
    have h3 : (Jvm.FP.Core.fieldS F32 n).toNat ≤ 1 := by cases Jvm.FP.Core.fieldS F32 n <;> decide
    have h2 : INF64 < 2 ^ 63 := by decide
    omega
  · obtain ⟨w1, w2, _, _⟩ := fl_wW (x := n) rfl hn (by omega)
    exact ⟨w1, Nat.le_of_lt w2⟩
theorem fN_ok {n : Nat} (hn : n < 2 ^ 64) (h : n % 2 ^ 63 ≤ INF64) : fN n < 2 ^ 32 ∧ fN n % 2 ^ 31 ≤ INF32 := by
  by_cases c : n % 2 ^ 63 = INF64
  · have e : fN n = (Jvm.FP.Core.fieldS F64 n).toNat * 2 ^ 31 + INF32 := by
      have h1 := fl_narI (Jvm.FP.Core.fieldS F64 n)
      have h2 := f64_sv hn
      rw [c, f64_sg] at h2
      rw [h2] at h1; exact h1
    rw [e]
    have h3 : (Jvm.FP.Core.fieldS F64 n).toNat ≤ 1 := by cases Jvm.FP.Core.fieldS F64 n <;> decide
    have h2 : INF32 < 2 ^ 31 := by decide
    omega
  · unfold fN
    rw [fl_cv fl_ok64 fl_ok32 (f64_fin.mpr (by omega)) (a := 0) (b := 925) (by decide)]
    exact fl_res32 _ _
theorem fI64_ok (i : Int) : Jvm.FP.Core.fromInt F64 i < 2 ^ 64 ∧ Jvm.FP.Core.fromInt F64 i % 2 ^ 63 ≤ INF64 := by rw [fl_ofInt fl_ok64]; exact fl_res64 _ _
theorem fI32_ok (i : Int) : Jvm.FP.Core.fromInt F32 i < 2 ^ 32 ∧ Jvm.FP.Core.fromInt F32 i % 2 ^ 31 ≤ INF32 := by rw [fl_ofInt fl_ok32]; exact fl_res32 _ _
theorem nu_ok6 {v : Int64} (h : nu_ok 6 v) : uv v < 2 ^ 32 ∧ uv v % 2 ^ 31 ≤ INF32 := h
theorem nu_ok7 {v : Int64} (h : nu_ok 7 v) : uv v % 2 ^ 63 ≤ INF64 := h
theorem nu_real_ok {k : Nat} {v : Int64} (h : nu_ok k v) : nu_real k v < 2 ^ 64 ∧ nu_real k v % 2 ^ 63 ≤ INF64 := by
  unfold nu_real
  split
  · rename_i e; subst e; exact fW_ok h.1 h.2
  · split
    · rename_i e; subst e; exact ⟨uv_lt v, h⟩
    · exact fI64_ok _
theorem i32_uv {v : Int64} (h : uv v < 2 ^ 32) : Int64.toInt32 v = nI (uv v) := by
  have := lN_i (uv v); rw [uv_lN] at this; exact this
theorem x_real {k : Nat} {v : Int64} (hk : k ≤ 7) (h : nu_ok k v) (hp : HP) : f_X34_real (nI k) v hp = rok (UInt64.ofNat (nu_real k v)) hp := by
  unfold f_X34_real
  by_cases k6 : k = 6
  · subst k6
    rw [if_pos (show nI 6 = (6 : Int32) from rfl), i32_uv h.1]
    show nF (UInt32.ofNat (uv v)) (nD (Jvm.FP.f2d (UInt32.ofNat (uv v))) (rok (Jvm.FP.f2d (UInt32.ofNat (uv v))) hp)) = _
    have hw := fW_ok h.1 h.2
    rw [nF_ok h.1 h.2, fp_f2d h.1 h.2, nD_ok hw.1 hw.2]; rfl
  · rw [if_neg (fun z => k6 ((nk k (c := 6) (C := (6 : Int32)) rfl (by omega) (by omega)).mp z))]
    by_cases k7 : k = 7
    · subst k7
      rw [if_pos (show nI 7 = (7 : Int32) from rfl)]
      have e : dOfJ v = UInt64.ofNat (uv v) := by rw [← uv_lN v, lN_uv (uv_lt v)]; rfl
      rw [e, nD_ok (uv_lt v) h]; rfl
    · rw [if_neg (fun z => k7 ((nk k (c := 7) (C := (7 : Int32)) rfl (by omega) (by omega)).mp z))]
      unfold nu_real
      rw [if_neg k6, if_neg k7]; rfl
theorem mask32 {n : Nat} (h : n < 2 ^ 32) : (Int32.toInt64 (nI n)) &&& (4294967295 : Int64) = lN n := by
  rw [cutF]
  congr 1
  have h1 : (Int32.toInt64 (nI n)).toInt = (nI n).toInt := Int32.toInt_toInt64 _
  have h2 := uv_int (Int32.toInt64 (nI n))
  have h3 := uv_lt (Int32.toInt64 (nI n))
  have h4 : (nI n).toInt = if 2 * n < 2 ^ 32 then (n : Int) else (n : Int) - 2 ^ 32 := by
    show (nI n).toBitVec.toInt = _
    rw [BitVec.toInt_eq_toNat_cond, pk_tn h]; rfl
  rw [h1, h4] at h2
  split at h2 <;> split at h2 <;> omega
theorem x_bits6 {n : Nat} (hn : n < 2 ^ 64) (h : n % 2 ^ 63 ≤ INF64) (hp : HP) : f_X34_bits (nI 6) (UInt64.ofNat n) hp = rok (lN (fN n)) hp := by
  unfold f_X34_bits
  have hw := fN_ok hn h
  rw [if_pos (show nI 6 = (6 : Int32) from rfl)]
  show nF (Jvm.FP.d2f (UInt64.ofNat n)) (nF (Jvm.FP.d2f (UInt64.ofNat n)) (rok ((Int32.toInt64 (iOfF (Jvm.FP.d2f (UInt64.ofNat n)))) &&& (4294967295 : Int64)) hp)) = _
  rw [fp_d2f hn h, nF_ok hw.1 hw.2, nF_ok hw.1 hw.2]
  show rok ((Int32.toInt64 (nI (fN n))) &&& (4294967295 : Int64)) hp = _
  rw [mask32 hw.1]
theorem x_bits7 {n k : Nat} (hk : k ≠ 6) (hk2 : k ≤ 7) (hn : n < 2 ^ 64) (h : n % 2 ^ 63 ≤ INF64) (hp : HP) : f_X34_bits (nI k) (UInt64.ofNat n) hp = rok (lN n) hp := by
  unfold f_X34_bits
  rw [if_neg (fun z => hk ((nk k (c := 6) (C := (6 : Int32)) rfl (by omega) (by omega)).mp z)), nD_ok hn h]; rfl
theorem x_cut {k : Nat} (hk : k ≤ 7) (v : Int64) (hp : HP) : f_X34_cut (nI k) v hp = rok (nu_cut k v) hp := by
  unfold f_X34_cut nu_cut
  have e1 := nk k (c := 1) (C := 1) rfl (by omega) (by omega)
  have e2 := nk k (c := 2) (C := 2) rfl (by omega) (by omega)
  have e3 := nk k (c := 3) (C := 3) rfl (by omega) (by omega)
  have e4 := nk k (c := 4) (C := 4) rfl (by omega) (by omega)
  by_cases c1 : k = 1
  · rw [if_pos (e1.mpr c1), if_pos c1]
  rw [if_neg (fun z => c1 (e1.mp z)), if_neg c1]
  by_cases c2 : k = 2
  · rw [if_pos (e2.mpr c2), if_pos c2]
  rw [if_neg (fun z => c2 (e2.mp z)), if_neg c2]
  by_cases c3 : k = 3
  · rw [if_pos (e3.mpr c3), if_pos c3]
  rw [if_neg (fun z => c3 (e3.mp z)), if_neg c3]
  by_cases c4 : k = 4
  · rw [if_pos (e4.mpr c4), if_pos c4]
  rw [if_neg (fun z => c4 (e4.mp z)), if_neg c4]
theorem io_nat (n : Nat) : Int32.ofInt n = nI n := (io_n n).symm
theorem i32to64 {i : Int} (h1 : -2147483648 ≤ i) (h2 : i < 2147483648) : Int32.toInt64 (Int32.ofInt i) = Int64.ofInt i := by
  apply Int64.toInt_inj.mp
  rw [Int32.toInt_toInt64, Int32.toInt_ofInt_of_le (by omega) (by omega), Int64.toInt_ofInt_of_le (by omega) (by omega)]
theorem toInt_rng (lo hi : Int) (h0 : lo ≤ 0) (h1 : 0 ≤ hi) (d : Jvm.FP.Core.Datum) : lo ≤ Jvm.FP.Core.toInt lo hi d ∧ Jvm.FP.Core.toInt lo hi d ≤ hi := by
  cases d with
  | nan => exact ⟨h0, h1⟩
  | inf s => cases s <;> simp [Jvm.FP.Core.toInt] <;> omega
  | fin s c q => simp only [Jvm.FP.Core.toInt]; omega
theorem x_convert {k j : Nat} {v : Int64} (hk : k ≤ 7) (hj : j ≤ 7) (h : nu_ok k v) (hp : HP) : f_X34_convert (nI k) (nI j) v hp = rok (nu_conv k j v) hp := by
  have hr := nu_real_ok h
  unfold f_X34_convert nu_conv
  by_cases e : k = j
  · rw [if_pos (by rw [e]), if_pos e]
  rw [if_neg (fun z => e ((nI_eq (by omega) (by omega)).mp z)), if_neg e]
  have j6 := nk j (c := 6) (C := 6) rfl (by omega) (by omega)
  have j7 := nk j (c := 7) (C := 7) rfl (by omega) (by omega)
  have j5 := nk j (c := 5) (C := 5) rfl (by omega) (by omega)
  have k6 : ((6 : Int32) ≤ nI k) ↔ 6 ≤ k := nI_leI (a := 6) (by omega) (by omega)
  have b42 : (j = 6 ∨ j = 7) → f_X34_convert_b42 (nI k) (nI j) v hp = rok (if j = 6 then lN (fN (nu_real k v)) else lN (nu_real k v)) hp := by
    intro hj2
    unfold f_X34_convert_b42
    rw [x_real hk h, bd_ok, bd_rok]
    rcases hj2 with rfl | rfl
    · rw [x_bits6 hr.1 hr.2]; rfl
    · rw [x_bits7 (by omega) (by omega) hr.1 hr.2]; rfl
  by_cases c6 : j = 6
  · rw [if_pos (j6.mpr c6), if_pos c6]
    by_cases ck : k < 6
    · rw [if_neg (fun z => absurd (k6.mp z) (by omega)), if_pos ck]
      have hw := fI32_ok v.toInt
      show nF (UInt32.ofNat (Jvm.FP.Core.fromInt F32 v.toInt)) (rok ((Int32.toInt64 (nI (Jvm.FP.Core.fromInt F32 v.toInt))) &&& (4294967295 : Int64)) hp) = _
      rw [nF_ok hw.1 hw.2, mask32 hw.1]
    · rw [if_pos (k6.mpr (by omega)), if_neg ck]
      unfold f_X34_convert_b30
      rw [if_pos (j6.mpr c6), b42 (.inl c6), if_pos c6]
  · rw [if_neg (fun z => c6 (j6.mp z)), if_neg c6]
    unfold f_X34_convert_b30
    rw [if_neg (fun z => c6 (j6.mp z))]
    by_cases c7 : j = 7
    · rw [if_pos (j7.mpr c7), if_pos c7, b42 (.inr c7), if_neg c6]
    rw [if_neg (fun z => c7 (j7.mp z)), if_neg c7]
    by_cases ck : k < 6
    · rw [if_neg (fun z => absurd (k6.mp z) (by omega)), if_pos ck, x_cut (by omega), bd_ok]
    rw [if_pos (k6.mpr (by omega)), if_neg ck, x_real hk h, bd_ok]
    by_cases c5 : j = 5
    · rw [if_pos (j5.mpr c5), if_pos c5]
      show rok (Int64.ofInt (Jvm.FP.Core.toInt _ _ (Jvm.FP.Core.decode F64 (UInt64.ofNat (nu_real k v)).toNat))) hp = _
      rw [u64_n hr.1]; rfl
    · rw [if_neg (fun z => c5 (j5.mp z)), if_neg c5]
      have e2 : Int32.toInt64 (Jvm.FP.d2i (UInt64.ofNat (nu_real k v))) = Int64.ofInt (Jvm.FP.Core.toInt (-2147483648) 2147483647 (Jvm.FP.Core.decode F64 (nu_real k v))) := by
        show Int32.toInt64 (Int32.ofInt (Jvm.FP.Core.toInt (-2 ^ 31) (2 ^ 31 - 1) (Jvm.FP.Core.decode F64 (UInt64.ofNat (nu_real k v)).toNat))) = _
        rw [u64_n hr.1, show (-2 ^ 31 : Int) = -2147483648 from rfl, show (2 ^ 31 - 1 : Int) = 2147483647 from rfl]
        have := toInt_rng (-2147483648) 2147483647 (by omega) (by omega) (Jvm.FP.Core.decode F64 (nu_real k v))
        exact i32to64 (by omega) (by omega)
      show bd (f_X34_cut (nI j) (Int32.toInt64 (Jvm.FP.d2i (UInt64.ofNat (nu_real k v)))) hp) _ = _
      rw [e2, x_cut (by omega), bd_ok]
