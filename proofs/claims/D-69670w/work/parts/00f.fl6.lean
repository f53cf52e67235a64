/-! PHASE B floats 6: the twin's sum -/
set_option maxRecDepth 100000
theorem fl_near_exact {q D : Nat} (hD : 0 < D) : Jvm.FP.Core.nearest (q * D) D = q := by
  unfold Jvm.FP.Core.nearest
  rw [Nat.mul_mod_left, if_pos (by omega), Nat.mul_div_cancel _ hD]
theorem fl_exact {f : Jvm.FP.Core.Fmt} (hp : 1 ≤ f.p) (n : Nat) : flR f.p (flU f n) 1 = Jvm.FP.Core.fieldE f n * f.tails + Jvm.FP.Core.fieldT f n := by
  have ht : f.tails = 2 ^ (f.p - 1) := rfl
  have hT : Jvm.FP.Core.fieldT f n < f.tails := Nat.mod_lt _ (Nat.two_pow_pos _)
  by_cases hE : Jvm.FP.Core.fieldE f n = 0
  · have hU : flU f n = Jvm.FP.Core.fieldT f n := by unfold flU; rw [if_pos hE]
    have hk : fl_k f.p (flU f n) 1 = 0 := by
      unfold fl_k
      rw [Nat.div_one, hU]
      by_cases z : Jvm.FP.Core.fieldT f n = 0
      · rw [z, Nat.log2_zero]; omega
      · have : (Jvm.FP.Core.fieldT f n).log2 < f.p - 1 := (Nat.log2_lt z).mpr (by rw [← ht]; exact hT)
        omega
    unfold flR
    rw [hk, hE, Nat.zero_mul, Nat.zero_mul, Nat.zero_add, Nat.zero_add, hU, Nat.pow_zero, Nat.mul_one]
    have := fl_near_exact (q := Jvm.FP.Core.fieldT f n) (D := 1) (by omega)
    rwa [Nat.mul_one] at this
  · have hU : flU f n = (f.tails + Jvm.FP.Core.fieldT f n) * 2 ^ (Jvm.FP.Core.fieldE f n - 1) := by unfold flU; rw [if_neg hE]
    generalize Jvm.FP.Core.fieldE f n = E at *
    generalize Jvm.FP.Core.fieldT f n = T at *
    have hl : ((f.tails + T) * 2 ^ (E - 1)).log2 = f.p - 1 + (E - 1) := by
      refine fl_log2_of ?_ ?_
      · rw [Nat.pow_add]; exact Nat.mul_le_mul_right _ (by omega)
      · rw [show f.p - 1 + (E - 1) + 1 = f.p - 1 + 1 + (E - 1) by omega, Nat.pow_add]
        refine Nat.mul_lt_mul_of_pos_right ?_ (Nat.two_pow_pos _)
        rw [Nat.pow_succ]; omega
    have hk : fl_k f.p (flU f n) 1 = E - 1 := by
      unfold fl_k
      rw [Nat.div_one, hU, hl]; omega
    unfold flR
    rw [hk, hU, Nat.one_mul, fl_near_exact (Nat.two_pow_pos _), ← ht]
    obtain ⟨e, rfl⟩ : ∃ e, E = e + 1 := ⟨E - 1, by omega⟩
    rw [Nat.add_sub_cancel, Nat.add_mul]; omega
theorem f64_exact {n : Nat} : flR 53 (flU F64 n) 1 = n % 2 ^ 63 := by
  have := fl_exact (f := F64) (by decide) n
  rw [show F64.p = 53 from rfl] at this
  rw [this, f64_E, f64_T, show F64.tails = 4503599627370496 from rfl]; omega
theorem f64_min {n : Nat} (h : n % 2 ^ 63 < INF64) : min (fl_inf F64) (flR 53 (flU F64 n) 1) = n % 2 ^ 63 := by
  rw [f64_exact, f64_inf]; omega
theorem lc_sg {n : Nat} (hn : n < 2 ^ 64) : (0 ≤ lg_cmp (lN n) (0 : Int64)) ↔ n < 2 ^ 63 := by
  rw [lg_cmp_ge, Int64.le_iff_toInt_le]
  have : (lN n).toInt = if 2 * n < 2 ^ 64 then (n : Int) else (n : Int) - 2 ^ 64 := by
    show (lN n).toBitVec.toInt = _
    rw [BitVec.toInt_eq_toNat_cond, wb_tn hn]; rfl
  rw [this, show (0 : Int64).toInt = 0 from rfl]
  split <;> omega
theorem f64_sv {n : Nat} (hn : n < 2 ^ 64) : fl_sg F64 (Jvm.FP.Core.fieldS F64 n) + n % 2 ^ 63 = n := by
  rw [f64_sg, f64_S' hn]
  by_cases h : 2 ^ 63 ≤ n <;> simp [h] <;> omega
theorem w_add176 {x y m low b : Nat} {e : Int32} (hlow : low < 2 ^ 61) (h0 : low ≠ 0) (hb : b < 2147483648) (h : HP) :
    f_X46_add_b176 (lN x) (lN y) e (nI b) (lN m) (lN low) (lN (if b ≤ 62 then low / 2 ^ b else 0)) h = f_X46_add_b201 (lN x) (lN y) e (lN m) (lN (low / 2 ^ b)) (zB (decide (low % 2 ^ b ≠ 0))) h := by
  unfold f_X46_add_b176
  have e62 : ((62 : Int32) < nI b) ↔ 62 < b := nI_ltI (a := 62) (by omega) hb
  by_cases c : 62 < b
  · have hlt : low < 2 ^ b := Nat.lt_of_lt_of_le hlow (Nat.pow_le_pow_right (by omega) (by omega))
    rw [if_pos (e62.mpr c), if_neg (show ¬ b ≤ 62 by omega), Nat.div_eq_of_lt hlt, Nat.mod_eq_of_lt hlt]
    simp [h0, zB, f_X46_add_b196]
  · rw [if_neg (fun z => c (e62.mp z)), if_pos (show b ≤ 62 by omega), lsh _ b (by omega) rfl]
    have hd := Nat.div_add_mod low (2 ^ b)
    rw [Nat.mul_comm] at hd
    have ec := lc_eq (m := low / 2 ^ b * 2 ^ b) (c := low) (C := lN low) rfl (by omega) (by omega)
    by_cases d : low % 2 ^ b = 0
    · rw [if_pos (ec.mpr (by omega))]; simp [d, zB]
    · rw [if_neg (fun z => d (by have := ec.mp z; omega))]; simp [d, zB, f_X46_add_b196]
theorem w_add201 {x y m n b : Nat} {e : Int} {more : Bool} (hx : x < 2 ^ 64) (hy : y < 2 ^ 64) (h : HP) (hmn : n + more.toNat ≤ m) (hm : m < 2 ^ 61) :
    f_X46_add_b201 (lN x) (lN y) (Int32.ofInt e) (lN m) (lN n) (zB more) h =
      if Jvm.FP.Core.fieldS F64 x = Jvm.FP.Core.fieldS F64 y then f_X46_made (zB (Jvm.FP.Core.fieldS F64 x)) (lN (m + n)) (Int32.ofInt e) (zB more) h
      else if m - n - more.toNat = 0 ∧ more = false then rok (0 : Int64) h
      else f_X46_made (zB (Jvm.FP.Core.fieldS F64 x)) (lN (m - n - more.toNat)) (Int32.ofInt e) (zB more) h := by
  have bdr : ∀ r : Rs Int64, bd r (fun x1 h2 => rok x1 h2) = r := by
    intro r; cases r with
    | none => rfl
    | some v => cases v <;> rfl
  have sub : ∀ (d : Nat), d = m - n - more.toNat → f_X46_add_b270 (lN x) (Int32.ofInt e) (zB more) (lN m - lN n) (zB more) h = if d = 0 ∧ more = false then rok (0 : Int64) h
      else f_X46_made (zB (Jvm.FP.Core.fieldS F64 x)) (lN d) (Int32.ofInt e) (zB more) h := by
    intro d hd
    have h290 : f_X46_add_b290 (lN x) (Int32.ofInt e) (zB more) (lN d) h = f_X46_made (zB (Jvm.FP.Core.fieldS F64 x)) (lN d) (Int32.ofInt e) (zB more) h := by
      unfold f_X46_add_b290
      rw [f64_S' hx, bdr, bdr]
      by_cases c : x < 2 ^ 63
      · rw [if_pos ((lc_sg hx).mpr c), show decide (2 ^ 63 ≤ x) = false by simp; omega]; rfl
      · rw [if_neg (fun z => c ((lc_sg hx).mp z)), show decide (2 ^ 63 ≤ x) = true by simp; omega]; rfl
    simp only [f_X46_add_b270, lt3]
    have ed : lN m - lN n - Int32.toInt64 (zB more) = lN d := by
      cases more with
      | false =>
        rw [show Int32.toInt64 (zB false) = lN 0 from rfl, lN_sub (by omega), lN_sub (by omega), hd]; rfl
      | true =>
        rw [show Int32.toInt64 (zB true) = lN 1 from rfl, lN_sub (by simp at hmn; omega), lN_sub (by simp at hmn; omega), hd]; rfl
    rw [ed, h290]
    have ec := lc_eq (m := d) (c := 0) (C := (0 : Int64)) rfl (by omega) (by omega)
    by_cases c : d = 0
    · rw [if_pos (ec.mpr c)]
      cases more with
      | false => rw [if_pos (show zB false = 0 from rfl), if_pos ⟨c, rfl⟩]
      | true => rw [if_neg (show ¬ zB true = 0 by decide), if_neg (fun z => Bool.noConfusion z.2)]
    · rw [if_neg (fun z => c (ec.mp z)), if_neg (fun z => c z.1)]
  have s227 : ∀ (s t : Bool), f_X46_add_b227 (lN x) (Int32.ofInt e) (lN m) (lN n) (zB more) (zB s) (zB t) h =
      if s = t then f_X46_made (zB (Jvm.FP.Core.fieldS F64 x)) (lN (m + n)) (Int32.ofInt e) (zB more) h
      else if m - n - more.toNat = 0 ∧ more = false then rok (0 : Int64) h
      else f_X46_made (zB (Jvm.FP.Core.fieldS F64 x)) (lN (m - n - more.toNat)) (Int32.ofInt e) (zB more) h := by
    intro s t
    have e1 : (zB s = zB t) ↔ s = t := by cases s <;> cases t <;> decide
    unfold f_X46_add_b227
    by_cases c : s = t
    · rw [if_pos (e1.mpr c), if_pos c]
      simp only [f_X46_add_b242, bdr, lN_add]
      rw [f64_S' hx]
      by_cases c : x < 2 ^ 63
      · rw [if_pos ((lc_sg hx).mpr c), show decide (2 ^ 63 ≤ x) = false by simp; omega]; rfl
      · rw [if_neg (fun z => c ((lc_sg hx).mp z)), show decide (2 ^ 63 ≤ x) = true by simp; omega]; rfl
    · rw [if_neg (fun z => c (e1.mp z)), if_neg c, ← sub _ rfl]
      cases more with
      | false => rw [if_pos (show zB false = 0 from rfl)]; rfl
      | true => rw [if_neg (show ¬ zB true = 0 by decide)]; rfl
  have s215 : ∀ (s : Bool), f_X46_add_b215 (lN x) (lN y) (Int32.ofInt e) (lN m) (lN n) (zB more) (zB s) h = f_X46_add_b227 (lN x) (Int32.ofInt e) (lN m) (lN n) (zB more) (zB s) (zB (Jvm.FP.Core.fieldS F64 y)) h := by
    intro s
    unfold f_X46_add_b215
    rw [f64_S' hy]
    by_cases c : y < 2 ^ 63
    · rw [if_pos ((lc_sg hy).mpr c), show decide (2 ^ 63 ≤ y) = false by simp; omega]; rfl
    · rw [if_neg (fun z => c ((lc_sg hy).mp z)), show decide (2 ^ 63 ≤ y) = true by simp; omega]; rfl
  rw [← s227, ← s215]
  unfold f_X46_add_b201
  rw [f64_S' hx]
  by_cases c : x < 2 ^ 63
  · rw [if_pos ((lc_sg hx).mpr c), show decide (2 ^ 63 ≤ x) = false by simp; omega]; rfl
  · rw [if_neg (fun z => c ((lc_sg hx).mp z)), show decide (2 ^ 63 ≤ x) = true by simp; omega]; rfl
theorem w_add115 {x y Sx Ax Bx Sy Ay By : Nat} (hx : x < 2 ^ 64) (hy : y < 2 ^ 64)
    (ex : ∀ h, f_X46_exponent (lN x) h = rok (Int32.ofInt ((Ax : Int) - Bx - 1074)) h) (sx : ∀ h, f_X46_significand (lN x) h = rok (lN Sx) h) (x1 : 2 ^ 52 ≤ Sx) (x2 : Sx < 2 ^ 53) (x3 : Ax ≤ 2045) (x4 : Bx ≤ 52) (x5 : flU F64 x * 2 ^ Bx = Sx * 2 ^ Ax)
    (ey : ∀ h, f_X46_exponent (lN y) h = rok (Int32.ofInt ((Ay : Int) - By - 1074)) h) (sy : ∀ h, f_X46_significand (lN y) h = rok (lN Sy) h) (y1 : 2 ^ 52 ≤ Sy) (y2 : Sy < 2 ^ 53) (y3 : Ay ≤ 2045) (y4 : By ≤ 52) (y5 : flU F64 y * 2 ^ By = Sy * 2 ^ Ay)
    (ho : (Ay : Int) - By < Ax - Bx ∨ ((Ay : Int) - By = Ax - Bx ∧ Sy ≤ Sx)) (h : HP) :
    f_X46_add_b115 (lN x) (lN y) h = rok (lN (if Jvm.FP.Core.fieldS F64 x = Jvm.FP.Core.fieldS F64 y then fl_sg F64 (Jvm.FP.Core.fieldS F64 x) + min (fl_inf F64) (flR 53 (flU F64 x + flU F64 y) 1)
      else if flU F64 x = flU F64 y then 0 else fl_sg F64 (Jvm.FP.Core.fieldS F64 x) + min (fl_inf F64) (flR 53 (flU F64 x - flU F64 y) 1))) h ∧ flU F64 y ≤ flU F64 x := by
  obtain ⟨b, hb⟩ : ∃ b : Nat, (b : Int) = (Ax : Int) - Bx - (Ay - By) := ⟨((Ax : Int) - Bx - (Ay - By)).toNat, by omega⟩
  simp only [f_X46_add_b115, ex, ey, sx, sy, bd_ok, lt3]
  have e8 : Int32.ofInt ((Ax : Int) - Bx - 1074) - (8 : Int32) = Int32.ofInt ((Ax : Int) - Bx - 1082) := by
    rw [show (8 : Int32) = Int32.ofInt 8 from rfl, ← Int32.ofInt_sub]; congr 1; omega
  have eb : Int32.ofInt ((Ax : Int) - Bx - 1074) - Int32.ofInt ((Ay : Int) - By - 1074) = nI b := by
    rw [← Int32.ofInt_sub, io_n]; congr 1; omega
  rw [e8, eb, lsh (x := 8) Sx 8 (by omega) rfl, lsh (x := 8) Sy 8 (by omega) rfl]
  have hlow : Sy * 2 ^ 8 < 2 ^ 61 := by omega
  have e62 : (nI b ≤ (62 : Int32)) ↔ b ≤ 62 := nI_leI (b := 62) (by omega) (by omega)
  have hsel : (if nI b ≤ (62 : Int32) then f_X46_add_b176 (lN x) (lN y) (Int32.ofInt ((Ax : Int) - Bx - 1082)) (nI b) (lN (Sx * 2 ^ 8)) (lN (Sy * 2 ^ 8)) (UInt64.toInt64 (Int64.toUInt64 (lN (Sy * 2 ^ 8)) >>> (Int64.toUInt64 (Int32.toInt64 (nI b)) &&& Int64.toUInt64 63))) h
      else f_X46_add_b176 (lN x) (lN y) (Int32.ofInt ((Ax : Int) - Bx - 1082)) (nI b) (lN (Sx * 2 ^ 8)) (lN (Sy * 2 ^ 8)) (0 : Int64) h) =
      f_X46_add_b201 (lN x) (lN y) (Int32.ofInt ((Ax : Int) - Bx - 1082)) (lN (Sx * 2 ^ 8)) (lN (Sy * 2 ^ 8 / 2 ^ b)) (zB (decide (Sy * 2 ^ 8 % 2 ^ b ≠ 0))) h := by
    rw [← w_add176 hlow (by omega) (by omega)]
    by_cases c : b ≤ 62
    · rw [if_pos (e62.mpr c), if_pos c, lsr (by omega) (by omega) rfl]
    · rw [if_neg (fun z => c (e62.mp z)), if_neg c]; rfl
  rw [hsel]
  -- the values in units of 2 ^ (Ax - Bx - 8)
  obtain ⟨P, hP⟩ : ∃ P, P = 1 * 2 ^ Ax := ⟨_, rfl⟩
  have hx8 : flU F64 x * 2 ^ (Bx + 8) = Sx * 2 ^ 8 * P := by rw [hP, Nat.pow_add, ← Nat.mul_assoc, x5, Nat.one_mul]; exact Nat.mul_right_comm _ _ _
  have hy8 : flU F64 y * 2 ^ (Bx + 8) * 2 ^ b = Sy * 2 ^ 8 * P := by
    rw [hP, Nat.one_mul, Nat.mul_assoc, Nat.mul_assoc, ← Nat.pow_add, ← Nat.pow_add]
    exact fl_pp y5 (by omega)
  have hA : 0 < P := by rw [hP, Nat.one_mul]; exact Nat.two_pow_pos _
  obtain ⟨q1, q2⟩ := fl_ratio hA (Nat.two_pow_pos b) hy8
  have hq0 : (flU F64 y * 2 ^ (Bx + 8) % P = 0) ↔ (Sy * 2 ^ 8 % 2 ^ b = 0) := by
    have := Nat.two_pow_pos b
    constructor
    · intro z; rw [z, Nat.zero_mul] at q2; rcases Nat.mul_eq_zero.mp q2.symm with c | c; exact c; omega
    · intro z; rw [z, Nat.zero_mul] at q2; rcases Nat.mul_eq_zero.mp q2 with c | c; exact c; omega
  obtain ⟨n, hn⟩ : ∃ n, n = Sy * 2 ^ 8 / 2 ^ b := ⟨_, rfl⟩
  obtain ⟨r, hr⟩ : ∃ r, r = flU F64 y * 2 ^ (Bx + 8) % P := ⟨_, rfl⟩
  have hyd : flU F64 y * 2 ^ (Bx + 8) = n * P + r := by rw [hn, ← q1, hr, Nat.mul_comm (_ / _)]; exact (Nat.div_add_mod _ _).symm
  have hrl : r < P := by rw [hr]; exact Nat.mod_lt _ hA
  have hnle : n ≤ Sy * 2 ^ 8 := by rw [hn]; exact Nat.div_le_self _ _
  obtain ⟨more, hmo⟩ : ∃ more, more = decide (Sy * 2 ^ 8 % 2 ^ b ≠ 0) := ⟨_, rfl⟩
  have hmr : more = true ↔ r ≠ 0 := by rw [hmo, decide_eq_true_iff, hr]; exact not_congr hq0.symm
  -- what is cut off needs nine places
  have hmn : more = true → n < 2 ^ 52 := by
    intro z
    rw [hmo] at z
    have z := of_decide_eq_true z
    have b9 : 9 ≤ b := by
      refine Nat.le_of_not_lt fun w => z ?_
      rw [show (8 : Nat) = b + (8 - b) by omega, Nat.pow_add, ← Nat.mul_assoc, Nat.mul_right_comm, Nat.mul_mod_left]
    rw [hn]
    refine (Nat.div_lt_iff_lt_mul (Nat.two_pow_pos b)).mpr ?_
    have : 2 ^ 9 ≤ 2 ^ b := Nat.pow_le_pow_right (by omega) b9
    have : 2 ^ 52 * 2 ^ 9 ≤ 2 ^ 52 * 2 ^ b := Nat.mul_le_mul_left _ this
    omega
  have hle : n + more.toNat ≤ Sx * 2 ^ 8 := by
    cases hm : more with
    | true => have := hmn hm; simp; omega
    | false =>
      simp
      rcases ho with c | c
      · have b1 : 1 ≤ b := by omega
        rw [hn]
        have : 2 ^ 1 ≤ 2 ^ b := Nat.pow_le_pow_right (by omega) b1
        have : Sy * 2 ^ 8 / 2 ^ b ≤ Sy * 2 ^ 8 / 2 ^ 1 := Nat.div_le_div_left this (by omega)
        omega
      · have b0 : b = 0 := by omega
        rw [hn, b0, Nat.pow_zero, Nat.div_one]; omega
  have hUle : flU F64 y ≤ flU F64 x := by
    refine Nat.le_of_mul_le_mul_right (c := 2 ^ (Bx + 8)) ?_ (Nat.two_pow_pos _)
    rw [hyd, hx8]
    cases hm : more with
    | true =>
      rw [hm] at hle; simp at hle
      have : (n + 1) * P ≤ Sx * 2 ^ 8 * P := Nat.mul_le_mul_right _ hle
      rw [Nat.add_mul, Nat.one_mul] at this; omega
    | false =>
      have : r = 0 := Classical.byContradiction fun z => by rw [hmr.mpr z] at hm; exact Bool.noConfusion hm
      rw [this, Nat.add_zero]; rw [hm] at hle; simp at hle
      exact Nat.mul_le_mul_right _ hle
  refine ⟨?_, hUle⟩
  rw [← hmo, ← hn, w_add201 (b := b) hx hy h hle (by omega)]
  by_cases cs : Jvm.FP.Core.fieldS F64 x = Jvm.FP.Core.fieldS F64 y
  · rw [if_pos cs, if_pos cs]
    refine w_madeR (A := Ax) (B := Bx + 8) _ _ (by omega) (by omega) ?_ ?_ (by omega) (by omega) (fun _ => by omega) (by omega) (by omega) h
    · rw [← hP, Nat.add_mul, hx8, hyd, ← Nat.add_assoc, ← Nat.add_mul, Nat.mul_comm _ P, Nat.mul_add_div hA, Nat.div_eq_of_lt hrl, Nat.add_zero]
    · rw [hmr, ← hP, Nat.add_mul, hx8, hyd, ← Nat.add_assoc, ← Nat.add_mul, Nat.mul_comm _ P, Nat.mul_add_mod, Nat.mod_eq_of_lt hrl]
  · rw [if_neg cs, if_neg cs]
    have hdiff : (flU F64 x - flU F64 y) * 2 ^ (Bx + 8) = Sx * 2 ^ 8 * P - (n * P + r) := by rw [Nat.sub_mul, hx8, hyd]
    have hz : (Sx * 2 ^ 8 - n - more.toNat = 0 ∧ more = false) ↔ flU F64 x = flU F64 y := by
      constructor
      · rintro ⟨a, c⟩
        have r0 : r = 0 := Classical.byContradiction fun z => by rw [hmr.mpr z] at c; exact Bool.noConfusion c
        rw [c] at a; simp at a
        have : n = Sx * 2 ^ 8 := by rw [c] at hle; simp at hle; omega
        refine Nat.eq_of_mul_eq_mul_right (Nat.two_pow_pos (Bx + 8)) ?_
        rw [hx8, hyd, this, r0, Nat.add_zero]
      · intro a
        rw [a, hyd] at hx8
        have hcmp : n * P + r = Sx * 2 ^ 8 * P := hx8
        have r0 : r = 0 := by
          have h1 : (n * P + r) % P = r := by rw [Nat.mul_comm, Nat.mul_add_mod, Nat.mod_eq_of_lt hrl]
          rw [hcmp, Nat.mul_mod_left] at h1; exact h1.symm
        have hf : more = false := by
          cases hm : more with
          | false => rfl
          | true => exact absurd r0 (hmr.mp hm)
        rw [r0, Nat.add_zero] at hcmp
        have := Nat.eq_of_mul_eq_mul_right hA hcmp
        exact ⟨by rw [hf]; simp; omega, hf⟩
    by_cases cz : flU F64 x = flU F64 y
    · rw [if_pos (hz.mpr cz), if_pos cz]; rfl
    · rw [if_neg (fun z => cz (hz.mp z)), if_neg cz]
      have hmore : more = true → r ≠ 0 := hmr.mp
      have hnm : more = false → r = 0 := fun z => Classical.byContradiction fun w => by rw [hmr.mpr w] at z; exact Bool.noConfusion z
      have hform : (flU F64 x - flU F64 y) * 2 ^ (Bx + 8) = P * (Sx * 2 ^ 8 - n - more.toNat) + (if more then P - r else 0) := by
        rw [hdiff]
        cases hm : more with
        | true =>
          rw [hm] at hle; simp at hle
          obtain ⟨w, hw⟩ := Nat.exists_eq_add_of_le hle
          simp
          rw [hw, show n + 1 + w - n - 1 = w by omega, Nat.mul_comm P w, Nat.add_mul, Nat.add_mul, Nat.one_mul]; omega
        | false =>
          rw [hm] at hle; simp at hle
          obtain ⟨w, hw⟩ := Nat.exists_eq_add_of_le hle
          simp
          rw [hnm hm, hw, show n + w - n = w by omega, Nat.mul_comm P w, Nat.add_mul]; omega
      have hfr : (if more then P - r else 0) < P := by cases hm : more with
        | true => have := hmore hm; simp; omega
        | false => simp; exact hA
      refine w_madeR (A := Ax) (B := Bx + 8) _ _ (by omega) (by omega) ?_ ?_ ?_ (by omega) ?_ (by omega) (by omega) h
      · rw [← hP, hform, Nat.mul_add_div hA, Nat.div_eq_of_lt hfr, Nat.add_zero]
      · rw [← hP, hform, Nat.mul_add_mod, Nat.mod_eq_of_lt hfr]
        cases hm : more with
        | true => simp; omega
        | false => simp
      · refine Nat.pos_of_ne_zero fun z => ?_
        cases hm : more with
        | true => have := hmn hm; rw [hm] at z; simp at z; omega
        | false => exact cz (hz.mp ⟨z, hm⟩)
      · intro hm
        have := hmn hm; rw [hm]; simp; omega
