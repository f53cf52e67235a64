/-! PHASE B floats 9: whole numbers, the order, cutting -/
set_option maxRecDepth 100000
theorem bd_rok {β : Type} (r : Rs β) : bd r (fun x1 h2 => rok x1 h2) = r := by
  cases r with
  | none => rfl
  | some v => cases v <;> rfl
theorem w_madeI {V : Nat} {m : Nat} {e : Int} (s more : Bool) (k : Nat) (he : e = (k : Int)) (hk : k ≤ 2) (hm : m = V / 2 ^ k) (hr : more = true ↔ V % 2 ^ k ≠ 0) (h0 : 0 < m) (h62 : m < 2 ^ 62) (hmp : more = true → 2 ^ 53 ≤ m) (h : HP) :
    f_X46_made (zB s) (lN m) (Int32.ofInt e) (zB more) h = rok (lN (fl_sg F64 s + min (fl_inf F64) (flR 53 (V * 2 ^ fl_z F64) 1))) h := by
  obtain ⟨z, hz, hz'⟩ := fl_z_e
  rw [← hz]
  have hp := Nat.two_pow_pos z
  have hpk := Nat.two_pow_pos k
  have e1 : 1 * 2 ^ (z + k) = 2 ^ k * 2 ^ z := by rw [Nat.one_mul, Nat.pow_add, Nat.mul_comm]
  refine w_madeR (A := z + k) (B := 0) _ _ (by omega) (by omega) ?_ ?_ h0 h62 hmp (by omega) (by omega) h
  · rw [Nat.pow_zero, Nat.mul_one, e1, Nat.mul_div_mul_right _ _ hp, hm]
  · rw [hr, Nat.pow_zero, Nat.mul_one, e1, Nat.mul_mod_mul_right]
    constructor
    · intro w y; rcases Nat.mul_eq_zero.mp y with c | c
      · exact w c
      · omega
    · intro w y; rw [y, Nat.zero_mul] at w; exact w rfl
theorem lN_toI {n : Nat} (hn : n < 2 ^ 64) : (lN n).toInt = if n < 2 ^ 63 then (n : Int) else (n : Int) - 2 ^ 64 := by
  show (lN n).toBitVec.toInt = _
  rw [BitVec.toInt_eq_toNat_cond, wb_tn hn]
  split <;> split <;> omega
theorem lN_neg {n : Nat} (h0 : 0 < n) (hn : n < 2 ^ 64) : -(lN n) = lN (2 ^ 64 - n) := by
  apply wb_inj
  rw [Int64.toBitVec_neg, wb_tb, wb_tb]
  apply BitVec.eq_of_toNat_eq
  rw [BitVec.toNat_neg, BitVec.toNat_ofNat, BitVec.toNat_ofNat]
  omega
theorem w_of34 {V : Nat} (s : Bool) (h0 : 0 < V) (hV : V ≤ 2 ^ 63) (h : HP) :
    f_X46_of_b34 (zB s) (lN V) h = rok (lN (fl_sg F64 s + min (fl_inf F64) (flR 53 (V * 2 ^ fl_z F64) 1))) h := by
  have big : 2 ^ 62 ≤ V → f_X46_of_b61 (zB s) (lN V) h = rok (lN (fl_sg F64 s + min (fl_inf F64) (flR 53 (V * 2 ^ fl_z F64) 1))) h := by
    intro c
    unfold f_X46_of_b61
    rw [show lN V &&& (3 : Int64) = lN (V % 2 ^ 2) from wb_mask (k := 2) (by omega) (by decide), lsr (x := 2) (m := V) (k := 2) (by omega) (by decide) rfl, bd_rok, bd_rok]
    have ec : (lg_cmp (lN (V % 2 ^ 2)) (0 : Int64) = 0) ↔ V % 2 ^ 2 = 0 := lc_eq rfl (by omega) (by omega)
    by_cases d : V % 2 ^ 2 = 0
    · rw [if_pos (ec.mpr d)]
      exact w_madeI s false 2 rfl (by omega) rfl ⟨fun z => Bool.noConfusion z, fun z => absurd d z⟩ (by omega) (by omega) (fun z => Bool.noConfusion z) h
    · rw [if_neg (fun z => d (ec.mp z))]
      exact w_madeI s true 2 rfl (by omega) rfl ⟨fun _ => d, fun _ => rfl⟩ (by omega) (by omega) (fun _ => by omega) h
  unfold f_X46_of_b34
  by_cases c : V < 2 ^ 62
  · have e1 : (lg_cmp (lN V) (0 : Int64) ≤ 0) ↔ V ≤ 0 := lc_le rfl (by omega) (by omega)
    have e2 : (0 ≤ lg_cmp (lN V) (4611686018427387904 : Int64)) ↔ 4611686018427387904 ≤ V := lc_ge rfl (by omega) (by omega)
    rw [if_neg (fun z => absurd (e1.mp z) (by omega)), if_neg (fun z => absurd (e2.mp z) (by omega)), bd_rok]
    exact w_madeI s false 0 rfl (by omega) (by simp) ⟨fun z => Bool.noConfusion z, fun z => absurd (Nat.mod_one V) z⟩ (by omega) (by omega) (fun z => Bool.noConfusion z) h
  · by_cases d : V = 2 ^ 63
    · rw [if_pos (by rw [d]; decide)]; exact big (by omega)
    · have e1 : (lg_cmp (lN V) (0 : Int64) ≤ 0) ↔ V ≤ 0 := lc_le rfl (by omega) (by omega)
      have e2 : (0 ≤ lg_cmp (lN V) (4611686018427387904 : Int64)) ↔ 4611686018427387904 ≤ V := lc_ge rfl (by omega) (by omega)
      rw [if_neg (fun z => absurd (e1.mp z) (by omega)), if_pos (e2.mpr (by omega))]; exact big (by omega)
theorem w_of (x : Int64) (h : HP) : f_X46_of x 0 h = rok (lN (Jvm.FP.Core.fromInt F64 x.toInt)) h := by
  obtain ⟨n, hn, rfl⟩ := wb_of x
  rw [fl_ofInt fl_ok64, lN_toI hn, show F64.p = 53 from rfl]
  unfold f_X46_of
  have e0 : (lg_cmp (lN n) (0 : Int64) = 0) ↔ n = 0 := by
    rw [lg_cmp_eq, show (0 : Int64) = lN 0 from rfl]
    constructor
    · intro z; have := congrArg (fun y => y.toBitVec.toNat) z; simp only [wb_tn hn] at this; rw [this]; rfl
    · intro z; rw [z]
  by_cases c0 : n = 0
  · rw [if_pos (e0.mpr c0), c0, if_pos (by omega)]
    simp [flR_zero, fl_sg]; rfl
  rw [if_neg (fun z => c0 (e0.mp z))]
  by_cases c : n < 2 ^ 63
  · rw [if_pos ((lc_sg hn).mpr c), if_pos c]
    simp only [f_X46_of_b22, f_X46_of_b23, if_true]
    rw [show (0 : Int32) = zB false from rfl, w_of34 false (by omega) (by omega) h, show decide ((n : Int) < 0) = false by simp]
    simp
  · rw [if_neg (fun z => c ((lc_sg hn).mp z)), if_neg c]
    simp only [f_X46_of_b23, if_true]
    rw [if_neg (show ¬ (1 : Int32) = 0 by decide), lN_neg (by omega) hn, show (1 : Int32) = zB true from rfl, w_of34 true (by omega) (by omega) h, show decide ((n : Int) - 2 ^ 64 < 0) = true by simp; omega]
    have e : Int.natAbs ((n : Int) - 2 ^ 64) = 2 ^ 64 - n := by omega
    rw [e]
/-- magnitudes are in the order of their bits -/
theorem f64_mono {a b : Nat} (ha : a % 2 ^ 63 < INF64) (hb : b % 2 ^ 63 < INF64) (h : a % 2 ^ 63 < b % 2 ^ 63) : flU F64 a < flU F64 b := by
  unfold flU
  rw [f64_E, f64_E, f64_T, f64_T, show F64.tails = 2 ^ 52 from rfl]
  obtain ⟨E, hE⟩ : ∃ E, E = a / 2 ^ 52 % 2 ^ 11 := ⟨_, rfl⟩
  obtain ⟨T, hT⟩ : ∃ T, T = a % 2 ^ 52 := ⟨_, rfl⟩
  obtain ⟨G, hG⟩ : ∃ G, G = b / 2 ^ 52 % 2 ^ 11 := ⟨_, rfl⟩
  obtain ⟨R, hR⟩ : ∃ R, R = b % 2 ^ 52 := ⟨_, rfl⟩
  rw [← hE, ← hT, ← hG, ← hR]
  have l1 : a % 2 ^ 63 = E * 2 ^ 52 + T := by omega
  have l2 : b % 2 ^ 63 = G * 2 ^ 52 + R := by omega
  have hT2 : T < 2 ^ 52 := by omega
  have hR2 : R < 2 ^ 52 := by omega
  clear hE hT hG hR
  rw [l1, l2] at h
  by_cases g0 : G = 0
  · have : E = 0 := by omega
    rw [if_pos this, if_pos g0]; omega
  · rw [if_neg g0]
    by_cases e0 : E = 0
    · rw [if_pos e0]
      have : 2 ^ 52 * 1 ≤ (2 ^ 52 + R) * 2 ^ (G - 1) := Nat.mul_le_mul (by omega) (Nat.two_pow_pos _)
      omega
    · rw [if_neg e0]
      by_cases eg : E = G
      · rw [eg]; exact Nat.mul_lt_mul_of_pos_right (by omega) (Nat.two_pow_pos _)
      · have hlt : E < G := by omega
        have h1 : (2 ^ 52 + T) * 2 ^ (E - 1) < 2 ^ 53 * 2 ^ (E - 1) := Nat.mul_lt_mul_of_pos_right (by omega) (Nat.two_pow_pos _)
        have h2 : 2 ^ 53 * 2 ^ (E - 1) = 2 ^ 52 * 2 ^ E := by rw [← Nat.pow_add, ← Nat.pow_add]; congr 1; omega
        have h3 : 2 ^ 52 * 2 ^ E ≤ 2 ^ 52 * 2 ^ (G - 1) := Nat.mul_le_mul_left _ (Nat.pow_le_pow_right (by omega) (by omega))
        have h4 : 2 ^ 52 * 2 ^ (G - 1) ≤ (2 ^ 52 + R) * 2 ^ (G - 1) := Nat.mul_le_mul_right _ (by omega)
        omega
theorem f64_le {a b : Nat} (ha : a % 2 ^ 63 < INF64) (hb : b % 2 ^ 63 < INF64) : flU F64 a < flU F64 b ↔ a % 2 ^ 63 < b % 2 ^ 63 := by
  constructor
  · intro h
    refine Nat.lt_of_not_le fun c => ?_
    rcases Nat.lt_or_eq_of_le c with d | d
    · have := f64_mono hb ha d; omega
    · have e1 := @f64_exact a
      have e2 := @f64_exact b
      have : flU F64 a = flU F64 b := by
        refine Nat.le_antisymm (Nat.le_of_lt h) (Nat.le_of_not_lt fun w => ?_)
        unfold flU at w
        rw [f64_E, f64_E, f64_T, f64_T] at w
        have q1 : a % 2 ^ 52 = b % 2 ^ 52 := by omega
        have q2 : a / 2 ^ 52 % 2 ^ 11 = b / 2 ^ 52 % 2 ^ 11 := by omega
        rw [q1, q2] at w; omega
      omega
  · exact f64_mono ha hb
/-- the whole number by which bits are ordered -/
def fl_key (n : Nat) : Int := if n < 2 ^ 63 then ((n % 2 ^ 63 : Nat) : Int) else -((n % 2 ^ 63 : Nat) : Int)
theorem tri_cg {α : Type} {x y u v : Int} {a b c : α} (h1 : x < y ↔ u < v) (h2 : x = y ↔ u = v) : (if x < y then a else if x = y then b else c) = (if u < v then a else if u = v then b else c) := by
  by_cases k : x < y
  · rw [if_pos k, if_pos (h1.mp k)]
  · rw [if_neg k, if_neg (fun z => k (h1.mpr z))]
    by_cases l : x = y
    · rw [if_pos l, if_pos (h2.mp l)]
    · rw [if_neg l, if_neg (fun z => l (h2.mpr z))]
theorem f64_cmp {a b : Nat} (ha : a < 2 ^ 64) (hb : b < 2 ^ 64) (na : a % 2 ^ 63 ≤ INF64) (nb : b % 2 ^ 63 ≤ INF64) : Jvm.FP.Core.cmp F64 a b = some (compare (fl_key a) (fl_key b)) := by
  have cmpI : ∀ x y : Int, compare x y = if x < y then .lt else if x = y then .eq else .gt := fun _ _ => rfl
  have sd : ∀ (n U : Nat), n < 2 ^ 64 → Jvm.FP.Core.signed (Jvm.FP.Core.fieldS F64 n) U = if n < 2 ^ 63 then (U : Int) else -(U : Int) := by
    intro n U hn
    rw [f64_S' hn]
    unfold Jvm.FP.Core.signed
    by_cases c : n < 2 ^ 63
    · rw [if_pos c, if_neg (by simp; omega)]
    · rw [if_neg c, if_pos (by simp; omega)]
  by_cases ca : a % 2 ^ 63 = INF64
  · by_cases cb : b % 2 ^ 63 = INF64
    · unfold Jvm.FP.Core.cmp
      rw [f64_bad ca, f64_bad cb]
      unfold Jvm.FP.Core.order
      simp only
      rw [sd a 1 ha, sd b 1 hb, cmpI, cmpI]
      unfold fl_key
      rw [ca, cb]
      congr 1
      have hi : (0 : Int) < ((INF64 : Nat) : Int) := by decide
      generalize ((INF64 : Nat) : Int) = I at hi
      by_cases k1 : a < 2 ^ 63 <;> by_cases k2 : b < 2 ^ 63 <;> simp only [k1, k2, if_true, if_false] <;> first | exact tri_cg (by omega) (by omega) | simp
    · unfold Jvm.FP.Core.cmp
      rw [f64_bad ca, fl_dec (f64_fin.mpr (by omega))]
      unfold Jvm.FP.Core.order
      simp only
      rw [sd a 1 ha, cmpI, cmpI]
      unfold fl_key
      rw [ca]
      have : b % 2 ^ 63 < INF64 := by omega
      generalize b % 2 ^ 63 = mb at *
      unfold INF64 at *
      congr 1
      by_cases k1 : a < 2 ^ 63 <;> by_cases k2 : b < 2 ^ 63 <;> simp only [k1, k2, if_true, if_false] <;> exact tri_cg (by omega) (by omega)
  · by_cases cb : b % 2 ^ 63 = INF64
    · unfold Jvm.FP.Core.cmp
      rw [f64_bad cb, fl_dec (f64_fin.mpr (by omega))]
      unfold Jvm.FP.Core.order
      simp only
      rw [sd b 1 hb, cmpI, cmpI]
      unfold fl_key
      rw [cb]
      have : a % 2 ^ 63 < INF64 := by omega
      generalize a % 2 ^ 63 = ma at *
      unfold INF64 at *
      congr 1
      by_cases k1 : a < 2 ^ 63 <;> by_cases k2 : b < 2 ^ 63 <;> simp only [k1, k2, if_true, if_false] <;> exact tri_cg (by omega) (by omega)
    · have fa : a % 2 ^ 63 < INF64 := by omega
      have fb : b % 2 ^ 63 < INF64 := by omega
      rw [fl_ord (f64_fin.mpr fa) (f64_fin.mpr fb)]
      unfold fl_v
      rw [sd a _ ha, sd b _ hb, cmpI, cmpI]
      unfold fl_key
      have m1 := f64_le fa fb
      have m2 := f64_le fb fa
      have z1 := @f64_U0 a
      have z2 := @f64_U0 b
      generalize a % 2 ^ 63 = ma at *
      generalize b % 2 ^ 63 = mb at *
      generalize flU F64 a = ua at *
      generalize flU F64 b = ub at *
      congr 1
      by_cases k1 : a < 2 ^ 63 <;> by_cases k2 : b < 2 ^ 63 <;> simp only [k1, k2, if_true, if_false] <;> exact tri_cg (by omega) (by omega)
theorem lN_xtop {n : Nat} (hn : n < 2 ^ 64) (h : 2 ^ 63 ≤ n) : (lN n ^^^ (9223372036854775807 : Int64)).toInt = -((n % 2 ^ 63 : Nat) : Int) - 1 := by
  have hx : lN n ^^^ (9223372036854775807 : Int64) = lN (2 ^ 63 + (2 ^ 63 - 1 - n % 2 ^ 63)) := by
    apply wb_inj
    rw [Int64.toBitVec_xor]
    apply BitVec.eq_of_toNat_eq
    rw [BitVec.toNat_xor, wb_tn hn, wb_tn (by omega), show (9223372036854775807 : Int64).toBitVec.toNat = 2 ^ 63 - 1 from rfl]
    have e1 : n = 2 ^ 63 * 1 + n % 2 ^ 63 := by omega
    have hm : n % 2 ^ 63 < 2 ^ 63 := Nat.mod_lt _ (by omega)
    refine Nat.eq_of_testBit_eq fun i => ?_
    rw [Nat.testBit_xor]
    have hb : n.testBit i = if i < 63 then (n % 2 ^ 63).testBit i else decide (i = 63) := by
      by_cases c : i < 63
      · rw [if_pos c, Nat.testBit_mod_two_pow]; simp [c]
      · rw [if_neg c]
        by_cases d : i = 63
        · subst d; rw [Nat.testBit_eq_decide_div_mod_eq]; simp; omega
        · rw [Nat.testBit_lt_two_pow (Nat.lt_of_lt_of_le hn (Nat.pow_le_pow_right (by omega) (by omega)))]; simp [d]
    have hr : (2 ^ 63 + (2 ^ 63 - 1 - n % 2 ^ 63)).testBit i = if i < 63 then (2 ^ 63 - 1 - n % 2 ^ 63).testBit i else decide (i = 63) := by
      have hlt : 2 ^ 63 - 1 - n % 2 ^ 63 < 2 ^ 63 := by omega
      by_cases c : i < 63
      · rw [if_pos c, Nat.testBit_two_pow_add_gt c]
      · rw [if_neg c]
        by_cases d : i = 63
        · subst d; rw [Nat.testBit_eq_decide_div_mod_eq]; simp; omega
        · rw [Nat.testBit_lt_two_pow (Nat.lt_of_lt_of_le (show _ < 2 ^ 64 by omega) (Nat.pow_le_pow_right (by omega) (by omega)))]; simp [d]
    rw [hb, hr, Nat.testBit_two_pow_sub_one]
    by_cases c : i < 63
    · have := Nat.testBit_two_pow_sub_succ (x := n % 2 ^ 63) hm i
      rw [show 2 ^ 63 - (n % 2 ^ 63 + 1) = 2 ^ 63 - 1 - n % 2 ^ 63 by omega] at this
      rw [this]; simp [c]
    · simp [c]
  rw [hx, lN_toI (by omega), if_neg (by omega)]; omega
theorem cmpInt_i (nan : Int32) (x y : Int) : Jvm.FP.Core.cmpInt nan (some (compare x y)) = if x < y then -1 else if x = y then 0 else 1 := by
  show Jvm.FP.Core.cmpInt nan (some (if x < y then .lt else if x = y then .eq else .gt)) = _
  by_cases k : x < y
  · rw [if_pos k, if_pos k]; rfl
  · rw [if_neg k, if_neg k]
    by_cases l : x = y
    · rw [if_pos l, if_pos l]; rfl
    · rw [if_neg l, if_neg l]; rfl
theorem w_compare {a b : Nat} (ha : a < 2 ^ 64) (hb : b < 2 ^ 64) (na : a % 2 ^ 63 ≤ INF64) (nb : b % 2 ^ 63 ≤ INF64) (nan : Int32) (h : HP) :
    f_X46_compare (lN a) (lN b) h = rok (Jvm.FP.Core.cmpInt nan (Jvm.FP.Core.cmp F64 a b)) h := by
  rw [f64_cmp ha hb na nb]
  -- the whole numbers that are compared
  obtain ⟨X, hX, hXi⟩ : ∃ X : Int64, (∀ g : Int64 → HP → Rs Int32, (if 0 ≤ lg_cmp (lN a) (0 : Int64) then g (lN a) h else g (lN a ^^^ (9223372036854775807 : Int64)) h) = g X h) ∧ X.toInt = if a < 2 ^ 63 then ((a % 2 ^ 63 : Nat) : Int) else -((a % 2 ^ 63 : Nat) : Int) - 1 := by
    by_cases c : a < 2 ^ 63
    · exact ⟨lN a, fun g => by rw [if_pos ((lc_sg ha).mpr c)], by rw [lN_toI ha, if_pos c, if_pos c]; omega⟩
    · exact ⟨_, fun g => by rw [if_neg (fun z => c ((lc_sg ha).mp z))], by rw [lN_xtop ha (by omega), if_neg c]⟩
  obtain ⟨Y, hY, hYi⟩ : ∃ Y : Int64, (∀ g : Int64 → HP → Rs Int32, (if 0 ≤ lg_cmp (lN b) (0 : Int64) then g (lN b) h else g (lN b ^^^ (9223372036854775807 : Int64)) h) = g Y h) ∧ Y.toInt = if b < 2 ^ 63 then ((b % 2 ^ 63 : Nat) : Int) else -((b % 2 ^ 63 : Nat) : Int) - 1 := by
    by_cases c : b < 2 ^ 63
    · exact ⟨lN b, fun g => by rw [if_pos ((lc_sg hb).mpr c)], by rw [lN_toI hb, if_pos c, if_pos c]; omega⟩
    · exact ⟨_, fun g => by rw [if_neg (fun z => c ((lc_sg hb).mp z))], by rw [lN_xtop hb (by omega), if_neg c]⟩
  have h16 : f_X46_compare_b16 (lN a) (lN b) h = rok (if X.toInt < Y.toInt then (-1 : Int32) else if X.toInt = Y.toInt then 0 else 1) h := by
    unfold f_X46_compare_b16
    rw [hX (fun v k => f_X46_compare_b31 (lN b) v k)]
    unfold f_X46_compare_b31
    rw [hY (fun v k => f_X46_compare_b48 X v k)]
    unfold f_X46_compare_b48
    have e1 := (lg_cmp_ge X Y).trans Int64.le_iff_toInt_le
    have e2 := (lg_cmp_le X Y).trans Int64.le_iff_toInt_le
    by_cases c1 : Y.toInt ≤ X.toInt
    · rw [if_pos (e1.mpr c1)]
      by_cases c2 : X.toInt ≤ Y.toInt
      · rw [if_pos (e2.mpr c2), if_neg (by omega), if_pos (by omega)]
      · rw [if_neg (fun z => c2 (e2.mp z)), if_neg (by omega), if_neg (by omega)]
    · rw [if_neg (fun z => c1 (e1.mp z)), if_pos (by omega)]
  unfold f_X46_compare
  rw [w_zero ha, bd_ok, w_zero hb, bd_ok, h16, cmpInt_i]
  unfold fl_key
  by_cases za : a % 2 ^ 63 = 0
  · rw [if_neg (fun z => zB_d.mp z za)]
    by_cases zb : b % 2 ^ 63 = 0
    · rw [if_neg (fun z => zB_d.mp z zb), za, zb]; simp
    · rw [if_pos (zB_d.mpr zb), hXi, hYi, za]
      congr 1
      generalize b % 2 ^ 63 = mb at *
      by_cases k1 : a < 2 ^ 63 <;> by_cases k2 : b < 2 ^ 63 <;> simp only [k1, k2, if_true, if_false] <;> exact tri_cg (by omega) (by omega)
  · rw [if_pos (zB_d.mpr za), hXi, hYi]
    congr 1
    generalize a % 2 ^ 63 = ma at *
    generalize b % 2 ^ 63 = mb at *
    by_cases k1 : a < 2 ^ 63 <;> by_cases k2 : b < 2 ^ 63 <;> simp only [k1, k2, if_true, if_false] <;> exact tri_cg (by omega) (by omega)
