/-! PHASE B floats 2: the model's operations, told by units of the least number -/
set_option maxRecDepth 100000
abbrev F64 : Jvm.FP.Core.Fmt := Jvm.FP.Core.b64
abbrev F32 : Jvm.FP.Core.Fmt := Jvm.FP.Core.b32
/-- a finite number's magnitude, in units of the least -/
def flU (f : Jvm.FP.Core.Fmt) (n : Nat) : Nat :=
  if Jvm.FP.Core.fieldE f n = 0 then Jvm.FP.Core.fieldT f n else (f.tails + Jvm.FP.Core.fieldT f n) * 2 ^ (Jvm.FP.Core.fieldE f n - 1)
def fl_fin (f : Jvm.FP.Core.Fmt) (n : Nat) : Prop := Jvm.FP.Core.fieldE f n ≠ f.exps - 1
/-- the coefficient and the exponent over the least -/
def fl_c (f : Jvm.FP.Core.Fmt) (n : Nat) : Nat := if Jvm.FP.Core.fieldE f n = 0 then Jvm.FP.Core.fieldT f n else f.tails + Jvm.FP.Core.fieldT f n
def fl_x (f : Jvm.FP.Core.Fmt) (n : Nat) : Nat := Jvm.FP.Core.fieldE f n - 1
theorem flU_eq (f : Jvm.FP.Core.Fmt) (n : Nat) : flU f n = fl_c f n * 2 ^ fl_x f n := by
  unfold flU fl_c fl_x
  split
  · rename_i h; rw [h]; simp
  · rfl
theorem fl_dec {f : Jvm.FP.Core.Fmt} {n : Nat} (h : fl_fin f n) : Jvm.FP.Core.decode f n = .fin (Jvm.FP.Core.fieldS f n) (fl_c f n) (f.qmin + (fl_x f n : Int)) := by
  unfold Jvm.FP.Core.decode fl_c fl_x
  rw [if_neg h]
  split
  · rename_i e; rw [e]; simp
  · rename_i e; congr 1; omega
theorem fl_dec_inf {f : Jvm.FP.Core.Fmt} {n : Nat} (h : Jvm.FP.Core.fieldE f n = f.exps - 1) (ht : Jvm.FP.Core.fieldT f n = 0) : Jvm.FP.Core.decode f n = .inf (Jvm.FP.Core.fieldS f n) := by
  unfold Jvm.FP.Core.decode; rw [if_pos h, if_pos ht]
/-- a format as the two that there are -/
def fl_ok (f : Jvm.FP.Core.Fmt) : Prop := 2 ≤ f.p ∧ 1 ≤ f.emax ∧ f.exps = 2 * f.emax + 2
theorem fl_ok64 : fl_ok F64 := by unfold fl_ok; decide
theorem fl_ok32 : fl_ok F32 := by unfold fl_ok; decide
theorem fl_pow_pos (n : Nat) : 0 < 2 ^ n := Nat.two_pow_pos n
/-- encoding of a rounded whole datum c * 2^(qmin + x) -/
theorem fl_encR {f : Jvm.FP.Core.Fmt} (ok : fl_ok f) (s : Bool) (c x : Nat) :
    Jvm.FP.Core.encode f (Jvm.FP.Core.round f (.fin s c (f.qmin + (x : Int)))) = fl_sg f s + min (fl_inf f) (flR f.p (c * 2 ^ x) 1) := by
  unfold Jvm.FP.Core.round
  simp only
  by_cases h : c = 0
  · subst h
    unfold Jvm.FP.Core.roundRatio
    rw [if_pos rfl]
    unfold Jvm.FP.Core.encode
    simp only
    have : 0 < f.tails := Nat.two_pow_pos _
    rw [if_pos this, fl_asm, Nat.zero_mul]
    have : flR f.p 0 1 = 0 := by unfold flR fl_k Jvm.FP.Core.nearest; simp [Nat.log2_zero]
    rw [Nat.zero_mul, this]; simp
  · rw [fl_round s (by have := ok.1; omega) ok.2.1 ok.2.2 h (by omega) (a := x) (b := 0) (by omega)]
def fl_z (f : Jvm.FP.Core.Fmt) : Nat := (-f.qmin).toNat
theorem fl_z64 : fl_z F64 = 1074 := by decide
theorem fl_z32 : fl_z F32 = 149 := by decide
theorem fl_qm {f : Jvm.FP.Core.Fmt} (ok : fl_ok f) : f.qmin = -(fl_z f : Int) := by
  have := ok.1; have := ok.2.1; unfold fl_z Jvm.FP.Core.Fmt.qmin; omega
theorem flR_zero (p D : Nat) : flR p 0 D = 0 := by unfold flR fl_k Jvm.FP.Core.nearest; simp [Nat.log2_zero]
theorem fl_enc0 {f : Jvm.FP.Core.Fmt} (s : Bool) : Jvm.FP.Core.encode f (.fin s 0 f.qmin) = fl_sg f s := by
  unfold Jvm.FP.Core.encode
  simp only
  rw [if_pos (show 0 < f.tails from Nat.two_pow_pos _), fl_asm]; simp
theorem fl_rr {f : Jvm.FP.Core.Fmt} (ok : fl_ok f) (s : Bool) {n d a b : Nat} {e : Int} (hd : d ≠ 0) (hab : (a : Int) - b = e - f.qmin) :
    Jvm.FP.Core.encode f (Jvm.FP.Core.roundRatio f s n d e) = fl_sg f s + min (fl_inf f) (flR f.p (n * 2 ^ a) (d * 2 ^ b)) := by
  by_cases h : n = 0
  · subst h
    unfold Jvm.FP.Core.roundRatio
    rw [if_pos rfl, fl_enc0, Nat.zero_mul, flR_zero]; simp
  · exact fl_round s (by have := ok.1; omega) ok.2.1 ok.2.2 h hd hab
/-- the whole number with a sign, in units -/
def fl_v (f : Jvm.FP.Core.Fmt) (n : Nat) : Int := Jvm.FP.Core.signed (Jvm.FP.Core.fieldS f n) (flU f n)
theorem fl_sgn_mul (s : Bool) (a b : Nat) : Jvm.FP.Core.signed s (a * b) = Jvm.FP.Core.signed s a * (b : Int) := by
  unfold Jvm.FP.Core.signed; split <;> simp [Int.neg_mul]
theorem fl_inU {c x m : Nat} {q e : Int} (h : q - e = (x : Int) - m) (hm : m ≤ x) : Jvm.FP.Core.inUnits c q e * 2 ^ m = c * 2 ^ x := by
  unfold Jvm.FP.Core.inUnits
  rw [show (q - e).toNat = x - m by omega, Nat.mul_assoc, ← Nat.pow_add, Nat.sub_add_cancel hm]
theorem fl_sumU {f : Jvm.FP.Core.Fmt} (s t : Bool) (c d x y : Nat) :
    Jvm.FP.Core.sumUnits s c (f.qmin + (x : Int)) t d (f.qmin + (y : Int)) (f.qmin + ((min x y : Nat) : Int)) * ((2 ^ min x y : Nat) : Int) = Jvm.FP.Core.signed s (c * 2 ^ x) + Jvm.FP.Core.signed t (d * 2 ^ y) := by
  unfold Jvm.FP.Core.sumUnits
  rw [Int.add_mul, ← fl_sgn_mul, ← fl_sgn_mul, fl_inU (x := x) (by omega) (Nat.min_le_left _ _), fl_inU (x := y) (by omega) (Nat.min_le_right _ _)]
theorem fl_sumS (s t : Bool) (v : Int) {m : Nat} (hm : 0 < m) : Jvm.FP.Core.sumSign s t (v * (m : Int)) = Jvm.FP.Core.sumSign s t v := by
  have hm' : (0 : Int) < (m : Int) := by omega
  unfold Jvm.FP.Core.sumSign
  have e1 : (v * (m : Int) = 0) = (v = 0) := propext ⟨fun h => by rcases Int.mul_eq_zero.mp h with c | c; exact c; omega, fun h => by rw [h, Int.zero_mul]⟩
  have e2 : (v * (m : Int) < 0) = (v < 0) := propext ⟨fun h => Int.not_le.mp fun q => absurd (Int.mul_nonneg q (Int.le_of_lt hm')) (Int.not_le.mpr h), fun h => Int.mul_neg_of_neg_of_pos h hm'⟩
  simp only [e1, e2]
theorem fl_exSum {f : Jvm.FP.Core.Fmt} (ok : fl_ok f) (s t : Bool) (c d x y : Nat) :
    Jvm.FP.Core.encode f (Jvm.FP.Core.round f (Jvm.FP.Core.exactSum (.fin s c (f.qmin + (x : Int))) (.fin t d (f.qmin + (y : Int))))) =
      fl_sg f (Jvm.FP.Core.sumSign s t (Jvm.FP.Core.signed s (c * 2 ^ x) + Jvm.FP.Core.signed t (d * 2 ^ y))) + min (fl_inf f) (flR f.p (Jvm.FP.Core.signed s (c * 2 ^ x) + Jvm.FP.Core.signed t (d * 2 ^ y)).natAbs 1) := by
  have hmin : min (f.qmin + (x : Int)) (f.qmin + (y : Int)) = f.qmin + ((min x y : Nat) : Int) := by omega
  unfold Jvm.FP.Core.exactSum
  simp only
  rw [hmin, fl_encR ok]
  have hu := fl_sumU (f := f) s t c d x y
  rw [← hu, fl_sumS _ _ _ (Nat.two_pow_pos _), Int.natAbs_mul, Int.natAbs_natCast]
theorem fl_add {f : Jvm.FP.Core.Fmt} (ok : fl_ok f) {a b : Nat} (ha : fl_fin f a) (hb : fl_fin f b) :
    Jvm.FP.Core.add f a b = fl_sg f (Jvm.FP.Core.sumSign (Jvm.FP.Core.fieldS f a) (Jvm.FP.Core.fieldS f b) (fl_v f a + fl_v f b)) + min (fl_inf f) (flR f.p (fl_v f a + fl_v f b).natAbs 1) := by
  unfold Jvm.FP.Core.add fl_v
  rw [fl_dec ha, fl_dec hb, fl_exSum ok, flU_eq, flU_eq]
theorem fl_sub {f : Jvm.FP.Core.Fmt} (ok : fl_ok f) {a b : Nat} (ha : fl_fin f a) (hb : fl_fin f b) :
    Jvm.FP.Core.sub f a b = fl_sg f (Jvm.FP.Core.sumSign (Jvm.FP.Core.fieldS f a) (!Jvm.FP.Core.fieldS f b) (fl_v f a - fl_v f b)) + min (fl_inf f) (flR f.p (fl_v f a - fl_v f b).natAbs 1) := by
  unfold Jvm.FP.Core.sub fl_v
  rw [fl_dec ha, fl_dec hb]
  unfold Jvm.FP.Core.negate
  simp only
  rw [fl_exSum ok, flU_eq, flU_eq]
  have : ∀ (t : Bool) (u : Nat), Jvm.FP.Core.signed (!t) u = - Jvm.FP.Core.signed t u := by intro t u; cases t <;> simp [Jvm.FP.Core.signed]
  rw [this, ← Int.sub_eq_add_neg]
theorem fl_mul {f : Jvm.FP.Core.Fmt} (ok : fl_ok f) {a b : Nat} (ha : fl_fin f a) (hb : fl_fin f b) :
    Jvm.FP.Core.mul f a b = fl_sg f (Jvm.FP.Core.fieldS f a != Jvm.FP.Core.fieldS f b) + min (fl_inf f) (flR f.p (flU f a * flU f b) (2 ^ fl_z f)) := by
  unfold Jvm.FP.Core.mul
  rw [fl_dec ha, fl_dec hb]
  unfold Jvm.FP.Core.exactProduct Jvm.FP.Core.round
  simp only
  rw [fl_rr ok _ (by omega) (a := fl_x f a + fl_x f b) (b := fl_z f) (by have := fl_qm ok; omega), Nat.one_mul, flU_eq, flU_eq]
  rw [show fl_c f a * 2 ^ fl_x f a * (fl_c f b * 2 ^ fl_x f b) = fl_c f a * fl_c f b * 2 ^ (fl_x f a + fl_x f b) by rw [Nat.pow_add, Nat.mul_mul_mul_comm]]
theorem flU_pos {f : Jvm.FP.Core.Fmt} {a : Nat} : flU f a ≠ 0 ↔ fl_c f a ≠ 0 := by
  rw [flU_eq]; have := Nat.two_pow_pos (fl_x f a)
  constructor
  · intro h z; rw [z] at h; simp at h
  · intro h z; rcases Nat.mul_eq_zero.mp z with c | c <;> omega
theorem fl_div {f : Jvm.FP.Core.Fmt} (ok : fl_ok f) {a b : Nat} (ha : fl_fin f a) (hb : fl_fin f b) (h0 : flU f b ≠ 0) :
    Jvm.FP.Core.div f a b = fl_sg f (Jvm.FP.Core.fieldS f a != Jvm.FP.Core.fieldS f b) + min (fl_inf f) (flR f.p (flU f a * 2 ^ fl_z f) (flU f b)) := by
  have hc := flU_pos.mp h0
  unfold Jvm.FP.Core.div
  rw [fl_dec ha, fl_dec hb]
  unfold Jvm.FP.Core.quotient
  simp only
  rw [if_neg hc, fl_rr ok _ hc (a := fl_x f a + fl_z f) (b := fl_x f b) (by have := fl_qm ok; omega), flU_eq, flU_eq, Nat.pow_add, ← Nat.mul_assoc]
theorem fl_ofInt {f : Jvm.FP.Core.Fmt} (ok : fl_ok f) (i : Int) :
    Jvm.FP.Core.fromInt f i = fl_sg f (decide (i < 0)) + min (fl_inf f) (flR f.p (i.natAbs * 2 ^ fl_z f) 1) := by
  unfold Jvm.FP.Core.fromInt Jvm.FP.Core.ofInt Jvm.FP.Core.round
  simp only
  rw [fl_rr ok _ (by omega) (a := fl_z f) (b := 0) (by have := fl_qm ok; omega), Nat.pow_zero, Nat.mul_one]
theorem fl_rem {f : Jvm.FP.Core.Fmt} (ok : fl_ok f) {a b : Nat} (ha : fl_fin f a) (hb : fl_fin f b) (h0 : flU f b ≠ 0) :
    Jvm.FP.Core.rem f a b = fl_sg f (Jvm.FP.Core.fieldS f a) + min (fl_inf f) (flR f.p (flU f a % flU f b) 1) := by
  have hc := flU_pos.mp h0
  unfold Jvm.FP.Core.rem
  rw [fl_dec ha, fl_dec hb]
  unfold Jvm.FP.Core.exactRemainder
  simp only
  rw [if_neg hc]
  have hmin : min (f.qmin + (fl_x f a : Int)) (f.qmin + (fl_x f b : Int)) = f.qmin + ((min (fl_x f a) (fl_x f b) : Nat) : Int) := by omega
  rw [hmin, fl_encR ok, ← Nat.mul_mod_mul_right, fl_inU (x := fl_x f a) (by omega) (Nat.min_le_left _ _), fl_inU (x := fl_x f b) (by omega) (Nat.min_le_right _ _), ← flU_eq, ← flU_eq]
theorem fl_cv {f g : Jvm.FP.Core.Fmt} (okf : fl_ok f) (okg : fl_ok g) {n a b : Nat} (h : fl_fin f n) (hab : (a : Int) - b = f.qmin - g.qmin) :
    Jvm.FP.Core.convert f g n = fl_sg g (Jvm.FP.Core.fieldS f n) + min (fl_inf g) (flR g.p (flU f n * 2 ^ a) (2 ^ b)) := by
  unfold Jvm.FP.Core.convert
  rw [fl_dec h]
  unfold Jvm.FP.Core.round
  simp only
  rw [fl_rr okg _ (by omega) (a := fl_x f n + a) (b := b) (by omega), Nat.one_mul, flU_eq, Nat.pow_add, ← Nat.mul_assoc]
theorem fl_trunc {f : Jvm.FP.Core.Fmt} (ok : fl_ok f) (s : Bool) (c x : Nat) : Jvm.FP.Core.truncate s c (f.qmin + (x : Int)) = Jvm.FP.Core.signed s (c * 2 ^ x / 2 ^ fl_z f) := by
  have hq := fl_qm ok
  unfold Jvm.FP.Core.truncate
  congr 1
  rcases Nat.le_total (fl_z f) x with h | h
  · obtain ⟨w, rfl⟩ := Nat.exists_eq_add_of_le h
    rw [show (f.qmin + ((fl_z f + w : Nat) : Int)).toNat = w by omega, show (-(f.qmin + ((fl_z f + w : Nat) : Int))).toNat = 0 by omega, Nat.pow_zero, Nat.div_one, Nat.pow_add, Nat.mul_comm (2 ^ fl_z f), ← Nat.mul_assoc, Nat.mul_div_cancel _ (Nat.two_pow_pos _)]
  · obtain ⟨w, hw⟩ := Nat.exists_eq_add_of_le h
    rw [show (f.qmin + (x : Int)).toNat = 0 by omega, show (-(f.qmin + (x : Int))).toNat = w by omega, hw, Nat.pow_zero, Nat.mul_one, Nat.pow_add, Nat.mul_comm (2 ^ x), Nat.mul_div_mul_right _ _ (Nat.two_pow_pos _)]
theorem fl_ord {f : Jvm.FP.Core.Fmt} {a b : Nat} (ha : fl_fin f a) (hb : fl_fin f b) : Jvm.FP.Core.cmp f a b = some (compare (fl_v f a) (fl_v f b)) := by
  unfold Jvm.FP.Core.cmp fl_v
  rw [fl_dec ha, fl_dec hb]
  unfold Jvm.FP.Core.order
  simp only
  have hmin : min (f.qmin + (fl_x f a : Int)) (f.qmin + (fl_x f b : Int)) = f.qmin + ((min (fl_x f a) (fl_x f b) : Nat) : Int) := by omega
  rw [hmin, flU_eq, flU_eq, ← fl_inU (x := fl_x f a) (m := min (fl_x f a) (fl_x f b)) (q := f.qmin + (fl_x f a : Int)) (e := f.qmin + ((min (fl_x f a) (fl_x f b) : Nat) : Int)) (by omega) (Nat.min_le_left _ _), ← fl_inU (x := fl_x f b) (m := min (fl_x f a) (fl_x f b)) (q := f.qmin + (fl_x f b : Int)) (e := f.qmin + ((min (fl_x f a) (fl_x f b) : Nat) : Int)) (by omega) (Nat.min_le_right _ _), fl_sgn_mul, fl_sgn_mul]
  have key : ∀ (x y : Int) (m : Nat), 0 < m → compare (x * (m : Int)) (y * (m : Int)) = compare x y := by
    intro x y m hm
    have hm' : (0 : Int) < (m : Int) := by omega
    have e1 : (x * (m : Int) < y * (m : Int)) = (x < y) := propext (Int.mul_lt_mul_right hm')
    have e2 : (x * (m : Int) = y * (m : Int)) = (x = y) := propext ⟨fun h => Int.eq_of_mul_eq_mul_right (by omega) h, fun h => by rw [h]⟩
    simp only [compare, compareOfLessAndEq, e1, e2]
  rw [key _ _ _ (Nat.two_pow_pos _)]
