/-! PHASE B floats 7: the twin's sum as the model's; product, quotient, whole numbers -/
set_option maxRecDepth 100000
theorem zB_d {P : Prop} [Decidable P] : (zB (decide P) = 0) ↔ ¬ P := by by_cases h : P <;> simp [h, zB]
theorem f64_infv {n : Nat} (hn : n < 2 ^ 64) (h : n % 2 ^ 63 = INF64) : Jvm.FP.Core.encode F64 (Jvm.FP.Core.round F64 (.inf (Jvm.FP.Core.fieldS F64 n))) = n := by
  show Jvm.FP.Core.encode F64 (.inf _) = n
  have := f64_sv hn
  rw [f64_enc_inf, ← f64_sg]; omega
theorem fl_addU {s t : Bool} {U V : Nat} (h : V ≤ U) (hU : U ≠ 0) :
    fl_sg F64 (Jvm.FP.Core.sumSign s t (Jvm.FP.Core.signed s U + Jvm.FP.Core.signed t V)) + min (fl_inf F64) (flR 53 (Jvm.FP.Core.signed s U + Jvm.FP.Core.signed t V).natAbs 1) =
      if s = t then fl_sg F64 s + min (fl_inf F64) (flR 53 (U + V) 1) else if U = V then 0 else fl_sg F64 s + min (fl_inf F64) (flR 53 (U - V) 1) := by
  by_cases c : s = t
  · rw [if_pos c, ← c]
    have e1 : (Jvm.FP.Core.signed s U + Jvm.FP.Core.signed s V).natAbs = U + V := by cases s <;> simp [Jvm.FP.Core.signed] <;> omega
    have e2 : Jvm.FP.Core.sumSign s s (Jvm.FP.Core.signed s U + Jvm.FP.Core.signed s V) = s := by
      unfold Jvm.FP.Core.sumSign
      cases s
      · rw [if_neg (by simp [Jvm.FP.Core.signed]; omega)]; simp [Jvm.FP.Core.signed]; omega
      · rw [if_neg (by simp [Jvm.FP.Core.signed]; omega)]; simp [Jvm.FP.Core.signed]; omega
    rw [e1, e2]
  · rw [if_neg c]
    by_cases d : U = V
    · rw [if_pos d, ← d]
      have e1 : Jvm.FP.Core.signed s U + Jvm.FP.Core.signed t U = 0 := by cases s <;> cases t <;> simp_all [Jvm.FP.Core.signed] <;> omega
      rw [e1]
      have e2 : Jvm.FP.Core.sumSign s t 0 = false := by cases s <;> cases t <;> simp_all [Jvm.FP.Core.sumSign]
      rw [e2, f64_sg, Int.natAbs_zero, flR_zero]; simp
    · rw [if_neg d]
      have e1 : (Jvm.FP.Core.signed s U + Jvm.FP.Core.signed t V).natAbs = U - V := by cases s <;> cases t <;> simp_all [Jvm.FP.Core.signed] <;> omega
      have e2 : Jvm.FP.Core.sumSign s t (Jvm.FP.Core.signed s U + Jvm.FP.Core.signed t V) = s := by
        unfold Jvm.FP.Core.sumSign
        cases s <;> cases t
        · exact absurd rfl c
        · rw [if_neg (by simp [Jvm.FP.Core.signed]; omega)]; simp [Jvm.FP.Core.signed]; omega
        · rw [if_neg (by simp [Jvm.FP.Core.signed]; omega)]; simp [Jvm.FP.Core.signed]; omega
        · exact absurd rfl c
      rw [e1, e2]
theorem fl_sumC (s t : Bool) (v : Int) : Jvm.FP.Core.sumSign s t v = Jvm.FP.Core.sumSign t s v := by unfold Jvm.FP.Core.sumSign; rw [Bool.and_comm]
theorem w_add14 {a b : Nat} (ha : a < 2 ^ 64) (hb : b < 2 ^ 64) (h : HP) :
    f_X46_add_b14 (lN a) (lN b) h = rok (if a % 2 ^ 63 = 0 ∧ b % 2 ^ 63 = 0 then lN a &&& lN b else lN a) h := by
  unfold f_X46_add_b14
  rw [w_zero ha, bd_ok, w_zero hb]
  by_cases c : a % 2 ^ 63 = 0
  · rw [if_neg (fun z => zB_d.mp z c), bd_ok]
    by_cases d : b % 2 ^ 63 = 0
    · rw [if_neg (fun z => zB_d.mp z d), if_pos ⟨c, d⟩]
    · rw [if_pos (zB_d.mpr d), if_neg (fun z => d z.2)]
  · rw [if_pos (zB_d.mpr c), if_neg (fun z => c z.1)]
theorem w_add {a b : Nat} (ha : a < 2 ^ 64) (hb : b < 2 ^ 64) (na : a % 2 ^ 63 ≤ INF64) (nb : b % 2 ^ 63 ≤ INF64) (hi : ¬ (a % 2 ^ 63 = INF64 ∧ b % 2 ^ 63 = INF64 ∧ a ≠ b)) (h : HP) :
    f_X46_add (lN a) (lN b) h = rok (lN (Jvm.FP.Core.add F64 a b)) h := by
  unfold f_X46_add
  rw [w_inf ha, bd_ok]
  by_cases ca : a % 2 ^ 63 = INF64
  · rw [if_neg (fun z => zB_d.mp z ca), w_add14 ha hb, if_neg (by rw [ca]; intro z; exact absurd z.1 (by decide))]
    congr 2
    unfold Jvm.FP.Core.add
    rw [f64_bad ca]
    by_cases cb : b % 2 ^ 63 = INF64
    · have e : a = b := Classical.byContradiction fun z => hi ⟨ca, cb, z⟩
      rw [← e, f64_bad ca]
      unfold Jvm.FP.Core.exactSum
      simp only [if_true]
      exact (f64_infv ha ca).symm
    · rw [fl_dec (f64_fin.mpr (by omega))]
      exact (f64_infv ha ca).symm
  rw [if_pos (zB_d.mpr ca), w_zero hb, bd_ok]
  have fa : a % 2 ^ 63 < INF64 := by omega
  by_cases cb0 : b % 2 ^ 63 = 0
  · rw [if_neg (fun z => zB_d.mp z cb0), w_add14 ha hb]
    congr 1
    have fb : b % 2 ^ 63 < INF64 := by rw [cb0]; decide
    have ub : flU F64 b = 0 := f64_U0.mpr cb0
    rw [fl_add fl_ok64 (f64_fin.mpr fa) (f64_fin.mpr fb)]
    unfold fl_v
    rw [ub]
    by_cases ca0 : a % 2 ^ 63 = 0
    · have ua : flU F64 a = 0 := f64_U0.mpr ca0
      rw [if_pos ⟨ca0, cb0⟩, ua]
      have ea : a = 0 ∨ a = 2 ^ 63 := by omega
      have eb : b = 0 ∨ b = 2 ^ 63 := by omega
      rcases ea with rfl | rfl <;> rcases eb with rfl | rfl <;> decide
    · rw [if_neg (fun z => ca0 z.1)]
      have ua : flU F64 a ≠ 0 := fun z => ca0 (f64_U0.mp z)
      rw [show F64.p = 53 from rfl, fl_addU (Nat.zero_le _) ua]
      have hm := f64_min fa
      have hv := f64_sv ha
      by_cases cs : Jvm.FP.Core.fieldS F64 a = Jvm.FP.Core.fieldS F64 b
      · rw [if_pos cs, Nat.add_zero, hm, hv]
      · rw [if_neg cs, if_neg ua, Nat.sub_zero, hm, hv]
  rw [if_pos (zB_d.mpr cb0), w_inf hb, bd_ok]
  by_cases cb : b % 2 ^ 63 = INF64
  · rw [if_neg (fun z => zB_d.mp z cb)]
    congr 2
    unfold Jvm.FP.Core.add
    rw [f64_bad cb, fl_dec (f64_fin.mpr fa)]
    exact (f64_infv hb cb).symm
  rw [if_pos (zB_d.mpr cb), w_zero ha, bd_ok]
  have fb : b % 2 ^ 63 < INF64 := by omega
  rw [fl_add fl_ok64 (f64_fin.mpr fa) (f64_fin.mpr fb)]
  unfold fl_v
  have ub : flU F64 b ≠ 0 := fun z => cb0 (f64_U0.mp z)
  by_cases ca0 : a % 2 ^ 63 = 0
  · have ua : flU F64 a = 0 := f64_U0.mpr ca0
    rw [if_neg (fun z => zB_d.mp z ca0), fl_sumC, Int.add_comm, ua, show F64.p = 53 from rfl, fl_addU (Nat.zero_le _) ub]
    have hm := f64_min fb
    have hv := f64_sv hb
    by_cases cs : Jvm.FP.Core.fieldS F64 b = Jvm.FP.Core.fieldS F64 a
    · rw [if_pos cs, Nat.add_zero, hm, hv]
    · rw [if_neg cs, if_neg ub, Nat.sub_zero, hm, hv]
  rw [if_pos (zB_d.mpr ca0)]
  have ua : flU F64 a ≠ 0 := fun z => ca0 (f64_U0.mp z)
  obtain ⟨Sa, Aa, Ba, ea, sa, a1, a2, a3, a4, a5⟩ := w_cut ha fa ca0
  obtain ⟨Sb, Ab, Bb, eb, sb, b1, b2, b3, b4, b5⟩ := w_cut hb fb cb0
  simp only [ea, eb, sa, sb, bd_ok, f_X46_add_b86, f_X46_add_b90, f_X46_add_b91, f_X46_add_b103, show ((1 : Int32) = 0) = False from eq_false (by decide), if_true, if_false]
  have first : ((Ab : Int) - Bb < Aa - Ba ∨ ((Ab : Int) - Bb = Aa - Ba ∧ Sb ≤ Sa)) → f_X46_add_b115 (lN a) (lN b) h = rok (lN (fl_sg F64 (Jvm.FP.Core.sumSign (Jvm.FP.Core.fieldS F64 a) (Jvm.FP.Core.fieldS F64 b) (Jvm.FP.Core.signed (Jvm.FP.Core.fieldS F64 a) (flU F64 a) + Jvm.FP.Core.signed (Jvm.FP.Core.fieldS F64 b) (flU F64 b))) + min (fl_inf F64) (flR F64.p (Jvm.FP.Core.signed (Jvm.FP.Core.fieldS F64 a) (flU F64 a) + Jvm.FP.Core.signed (Jvm.FP.Core.fieldS F64 b) (flU F64 b)).natAbs 1))) h := by
    intro ho
    obtain ⟨r1, r2⟩ := w_add115 ha hb ea sa a1 a2 a3 a4 a5 eb sb b1 b2 b3 b4 b5 ho h
    rw [r1, show F64.p = 53 from rfl, fl_addU r2 ua]
  have second : ((Aa : Int) - Ba < Ab - Bb ∨ ((Aa : Int) - Ba = Ab - Bb ∧ Sa ≤ Sb)) → f_X46_add_b115 (lN b) (lN a) h = rok (lN (fl_sg F64 (Jvm.FP.Core.sumSign (Jvm.FP.Core.fieldS F64 a) (Jvm.FP.Core.fieldS F64 b) (Jvm.FP.Core.signed (Jvm.FP.Core.fieldS F64 a) (flU F64 a) + Jvm.FP.Core.signed (Jvm.FP.Core.fieldS F64 b) (flU F64 b))) + min (fl_inf F64) (flR F64.p (Jvm.FP.Core.signed (Jvm.FP.Core.fieldS F64 a) (flU F64 a) + Jvm.FP.Core.signed (Jvm.FP.Core.fieldS F64 b) (flU F64 b)).natAbs 1))) h := by
    intro ho
    obtain ⟨r1, r2⟩ := w_add115 hb ha eb sb b1 b2 b3 b4 b5 ea sa a1 a2 a3 a4 a5 ho h
    rw [r1, fl_sumC, Int.add_comm, show F64.p = 53 from rfl, fl_addU r2 ub]
  have l1 : (Int32.ofInt ((Ab : Int) - Bb - 1074) < Int32.ofInt ((Aa : Int) - Ba - 1074)) ↔ (Ab : Int) - Bb < Aa - Ba := by rw [io_lt (by omega) (by omega) (by omega) (by omega)]; omega
  have l2 : (Int32.ofInt ((Aa : Int) - Ba - 1074) = Int32.ofInt ((Ab : Int) - Bb - 1074)) ↔ (Aa : Int) - Ba = Ab - Bb := by rw [io_eq (by omega) (by omega) (by omega) (by omega)]; omega
  have l3 : (lg_cmp (lN Sa) (lN Sb) < 0) ↔ Sa < Sb := lc_lt rfl (by omega) (by omega)
  by_cases c1 : (Ab : Int) - Bb < Aa - Ba
  · rw [if_pos (l1.mpr c1)]; exact first (.inl c1)
  · rw [if_neg (fun z => c1 (l1.mp z))]
    by_cases c2 : (Aa : Int) - Ba = Ab - Bb
    · rw [if_pos (l2.mpr c2)]
      by_cases c3 : Sa < Sb
      · rw [if_pos (l3.mpr c3)]; exact second (.inr ⟨c2, by omega⟩)
      · rw [if_neg (fun z => c3 (l3.mp z))]; exact first (.inr ⟨c2.symm, by omega⟩)
    · rw [if_neg (fun z => c2 (l2.mp z))]; exact second (.inl (by omega))
/-- halves of a significand -/
theorem fl_halves {m n : Nat} : m * n = (m / 2 ^ 27) * (n / 2 ^ 27) * 2 ^ 54 + ((m / 2 ^ 27) * (n % 2 ^ 27) + (m % 2 ^ 27) * (n / 2 ^ 27)) * 2 ^ 27 + (m % 2 ^ 27) * (n % 2 ^ 27) := by
  have e1 := Nat.div_add_mod m (2 ^ 27)
  have e2 := Nat.div_add_mod n (2 ^ 27)
  generalize m / 2 ^ 27 = a at *
  generalize m % 2 ^ 27 = b at *
  generalize n / 2 ^ 27 = c at *
  generalize n % 2 ^ 27 = d at *
  rw [← e1, ← e2, Nat.add_mul, Nat.mul_add, Nat.mul_add]
  have h1 : 2 ^ 27 * a * (2 ^ 27 * c) = a * c * 2 ^ 54 := by rw [Nat.mul_mul_mul_comm, ← Nat.pow_add, Nat.mul_comm]
  have h2 : 2 ^ 27 * a * d = a * d * 2 ^ 27 := by rw [Nat.mul_comm (2 ^ 27), Nat.mul_right_comm]
  have h3 : b * (2 ^ 27 * c) = b * c * 2 ^ 27 := by rw [Nat.mul_left_comm, Nat.mul_comm]
  rw [h1, h2, h3, Nat.add_mul]; omega
/-- the product's bits from its halves -/
theorem fl_prod {m n low mid high : Nat} (hl : low = (m % 2 ^ 27) * (n % 2 ^ 27)) (hm : mid = (m / 2 ^ 27) * (n % 2 ^ 27) + (m % 2 ^ 27) * (n / 2 ^ 27) + low / 2 ^ 27) (hh : high = (m / 2 ^ 27) * (n / 2 ^ 27) + mid / 2 ^ 27) :
    m * n / 2 ^ 46 = high * 2 ^ 8 + mid % 2 ^ 27 / 2 ^ 19 ∧ (m * n % 2 ^ 46 = 0 ↔ (low % 2 ^ 27 = 0 ∧ mid % 2 ^ 27 % 2 ^ 19 = 0)) := by
  have e := @fl_halves m n
  generalize m / 2 ^ 27 * (n % 2 ^ 27) + m % 2 ^ 27 * (n / 2 ^ 27) = x at *
  rw [← hl] at e
  generalize (m / 2 ^ 27) * (n / 2 ^ 27) = y at *
  generalize m * n = P at *
  omega
theorem lN_xsg {a b : Nat} (ha : a < 2 ^ 64) (hb : b < 2 ^ 64) : (lN a ^^^ lN b) &&& (-9223372036854775808 : Int64) = lN ((Jvm.FP.Core.fieldS F64 a != Jvm.FP.Core.fieldS F64 b).toNat * 2 ^ 63) := by
  have hlt : a ^^^ b < 2 ^ 64 := Nat.xor_lt_two_pow ha hb
  have hxx : lN a ^^^ lN b = lN (a ^^^ b) := by
    apply wb_inj
    rw [Int64.toBitVec_xor, wb_tb, wb_tb, wb_tb]
    apply BitVec.eq_of_toNat_eq
    rw [BitVec.toNat_xor, BitVec.toNat_ofNat, BitVec.toNat_ofNat, BitVec.toNat_ofNat, Nat.mod_eq_of_lt ha, Nat.mod_eq_of_lt hb, Nat.mod_eq_of_lt hlt]
  rw [hxx, lN_sgn hlt, f64_S' ha, f64_S' hb]
  have e : (a ^^^ b).testBit 63 = (a.testBit 63 != b.testBit 63) := by rw [Nat.testBit_xor]
  rw [Nat.testBit_eq_decide_div_mod_eq, Nat.testBit_eq_decide_div_mod_eq, Nat.testBit_eq_decide_div_mod_eq] at e
  have d1 : decide (a / 2 ^ 63 % 2 = 1) = decide (2 ^ 63 ≤ a) := by congr 1; apply propext; omega
  have d2 : decide (b / 2 ^ 63 % 2 = 1) = decide (2 ^ 63 ≤ b) := by congr 1; apply propext; omega
  rw [d1, d2] at e
  rw [← e]
  generalize a ^^^ b = c at *
  congr 2
  by_cases k : c / 2 ^ 63 % 2 = 1
  · simp [k]; omega
  · simp [k]; omega
