/-! PHASE B floats 3: the twin's rounding is that rounding -/
set_option maxRecDepth 100000
/-- what the twin's 'rounded' reckons -/
def fl_soft (p bias m : Nat) (e : Int) (more : Bool) : Nat :=
  if ((2 * bias + 1 : Nat) : Int) ≤ e + (m.log2 : Int) + bias then (2 * bias + 1) * 2 ^ (p - 1)
  else
    let drop : Nat := if 0 < e + (m.log2 : Int) + bias then 62 - p else (63 - (p : Int) - (e + (m.log2 : Int) + bias)).toNat
    if 62 < drop then 0
    else
      let x := m * 2 ^ (61 - m.log2)
      let q := x / 2 ^ drop
      let r := x % 2 ^ drop
      let q2 := if 2 ^ (drop - 1) < r ∨ (r = 2 ^ (drop - 1) ∧ (more = true ∨ q % 2 = 1)) then q + 1 else q
      if 0 < e + (m.log2 : Int) + bias then (e + (m.log2 : Int) + bias - 1).toNat * 2 ^ (p - 1) + q2 else q2
theorem if_cg {α : Type} {b c : Prop} [Decidable b] [Decidable c] {x y : α} (h : b ↔ c) : (if b then x else y) = (if c then x else y) := ite_congr (propext h) (fun _ => rfl) (fun _ => rfl)
theorem fl_log2_of {m T : Nat} (h1 : 2 ^ T ≤ m) (h2 : m < 2 ^ (T + 1)) : m.log2 = T := by
  have hm : m ≠ 0 := by have := Nat.two_pow_pos T; omega
  exact (Nat.log2_eq_iff hm).mpr ⟨h1, h2⟩
/-- nearest, told by a floor m of the value, what is left (more), and g digits that go -/
theorem fl_near_floor {m D r g : Nat} (hD : 0 < D) (hr : r < D) (hg : r ≠ 0 → 1 ≤ g) :
    Jvm.FP.Core.nearest (m * D + r) (D * 2 ^ g) = (if 2 ^ g < 2 * (m % 2 ^ g) ∨ (2 * (m % 2 ^ g) = 2 ^ g ∧ (r ≠ 0 ∨ m / 2 ^ g % 2 = 1)) then m / 2 ^ g + 1 else m / 2 ^ g) := by
  have hP : 0 < 2 ^ g := Nat.two_pow_pos g
  have hm : m = 2 ^ g * (m / 2 ^ g) + m % 2 ^ g := (Nat.div_add_mod m (2 ^ g)).symm
  have hR : m % 2 ^ g < 2 ^ g := Nat.mod_lt _ hP
  have hev : g ≠ 0 → 2 ^ g = 2 * 2 ^ (g - 1) := fun h => by rw [← Nat.pow_succ']; congr 1; omega
  generalize m / 2 ^ g = Q at hm
  generalize m % 2 ^ g = R at hm hR
  have hN : m * D + r = D * 2 ^ g * Q + (R * D + r) := by rw [hm, Nat.add_mul]; rw [show D * 2 ^ g * Q = 2 ^ g * Q * D by rw [Nat.mul_comm D, Nat.mul_assoc, Nat.mul_comm D, ← Nat.mul_assoc]]; omega
  have hlt : R * D + r < D * 2 ^ g := by
    have : (R + 1) * D ≤ 2 ^ g * D := Nat.mul_le_mul_right _ hR
    rw [Nat.add_mul, Nat.one_mul] at this; rw [Nat.mul_comm D]; omega
  have hq : (m * D + r) / (D * 2 ^ g) = Q := by
    rw [hN, Nat.mul_add_div (Nat.mul_pos hD hP), Nat.div_eq_of_lt hlt, Nat.add_zero]
  have hmod : (m * D + r) % (D * 2 ^ g) = R * D + r := by
    rw [hN, Nat.mul_add_mod, Nat.mod_eq_of_lt hlt]
  unfold Jvm.FP.Core.nearest
  rw [hq, hmod]
  -- R against the half
  by_cases g0 : g = 0
  · have r0 : r = 0 := by rcases Nat.eq_zero_or_pos r with c | c; exact c; have := hg (by omega); omega
    subst g0
    have R0 : R = 0 := by simp at hR; omega
    subst R0; subst r0
    simp [hD]
  · have he := hev g0
    rcases Nat.lt_trichotomy R (2 ^ (g - 1)) with c | c | c
    · have : (R + 1) * D ≤ 2 ^ (g - 1) * D := Nat.mul_le_mul_right _ c
      rw [Nat.add_mul, Nat.one_mul] at this
      have h1 : 2 * (R * D + r) < D * 2 ^ g := by rw [he, show D * (2 * 2 ^ (g - 1)) = 2 * (2 ^ (g - 1) * D) by rw [Nat.mul_comm D, Nat.mul_assoc]]; omega
      rw [if_pos h1, if_neg (by omega)]
    · have h1 : ¬ 2 * (R * D + r) < D * 2 ^ g := by rw [he, c, show D * (2 * 2 ^ (g - 1)) = 2 * (2 ^ (g - 1) * D) by rw [Nat.mul_comm D, Nat.mul_assoc]]; omega
      rw [if_neg h1]
      have h2 : (D * 2 ^ g < 2 * (R * D + r)) ↔ r ≠ 0 := by rw [he, c, show D * (2 * 2 ^ (g - 1)) = 2 * (2 ^ (g - 1) * D) by rw [Nat.mul_comm D, Nat.mul_assoc]]; omega
      by_cases r0 : r = 0
      · rw [if_neg (by rw [h2]; exact fun z => z r0)]
        by_cases o : Q % 2 = 1
        · rw [if_pos (by right; exact ⟨by omega, .inr o⟩), o]
        · rw [if_neg (by omega)]; omega
      · rw [if_pos (h2.mpr r0), if_pos (by right; exact ⟨by omega, .inl r0⟩)]
    · have : (2 ^ (g - 1) + 1) * D ≤ R * D := Nat.mul_le_mul_right _ c
      rw [Nat.add_mul, Nat.one_mul] at this
      have hh : D * 2 ^ g = 2 * (2 ^ (g - 1) * D) := by rw [he, Nat.mul_comm D, Nat.mul_assoc]
      rw [if_neg (by rw [hh]; omega), if_pos (by rw [hh]; omega), if_pos (by left; omega)]
theorem fl_half {m s d : Nat} (hd : 1 ≤ d) (b : Bool) (Q : Nat) :
    (2 ^ (s + d - 1) < m * 2 ^ s ∨ (m * 2 ^ s = 2 ^ (s + d - 1) ∧ (b = true ∨ Q % 2 = 1))) ↔ (2 ^ d < 2 * m ∨ (2 * m = 2 ^ d ∧ (b = true ∨ Q % 2 = 1))) := by
  have e : 2 ^ (s + d - 1) = 2 ^ (d - 1) * 2 ^ s := by rw [← Nat.pow_add]; congr 1; omega
  have e2 : 2 ^ d = 2 * 2 ^ (d - 1) := by rw [← Nat.pow_succ']; congr 1; omega
  have h1 : (2 ^ (d - 1) * 2 ^ s < m * 2 ^ s) ↔ 2 ^ (d - 1) < m := Nat.mul_lt_mul_right (Nat.two_pow_pos s)
  have h2 : (m * 2 ^ s = 2 ^ (d - 1) * 2 ^ s) ↔ m = 2 ^ (d - 1) := ⟨fun h => Nat.eq_of_mul_eq_mul_right (Nat.two_pow_pos s) h, fun h => by rw [h]⟩
  have e3 : (2 * 2 ^ (d - 1) < 2 * m) ↔ 2 ^ (d - 1) < m := by omega
  have e4 : (2 * m = 2 * 2 ^ (d - 1)) ↔ m = 2 ^ (d - 1) := by omega
  rw [e, h1, h2, e2, e3, e4]
/-- the twin's rounding: m is the floor of N / D in units of 2 ^ e, more whether anything is left -/
theorem fl_soft_R {p bias N D A B m : Nat} {e : Int} {more : Bool} (hp : 2 ≤ p) (hp2 : p ≤ 53) (hb : 1 ≤ bias) (hD : 0 < D) (he : e = (A : Int) - B + 2 - bias - p)
    (hm : m = N * 2 ^ B / (D * 2 ^ A)) (hr : more = true ↔ N * 2 ^ B % (D * 2 ^ A) ≠ 0) (h0 : 0 < m) (h62 : m < 2 ^ 62) (hmp : more = true → 2 ^ p ≤ m) :
    fl_soft p bias m e more = min ((2 * bias + 1) * 2 ^ (p - 1)) (flR p N D) := by
  have hm0 : m ≠ 0 := by omega
  obtain ⟨T, hT⟩ : ∃ T, T = m.log2 := ⟨_, rfl⟩
  have t1 : 2 ^ T ≤ m := by rw [hT]; exact Nat.log2_self_le hm0
  have t2 : m < 2 ^ (T + 1) := by rw [hT]; exact (Nat.log2_lt hm0).mp (Nat.lt_succ_self _)
  have tT : T ≤ 61 := by
    refine Nat.le_of_not_lt fun q => ?_
    have : 2 ^ 62 ≤ 2 ^ T := Nat.pow_le_pow_right (by omega) q
    omega
  have hDA : 0 < D * 2 ^ A := Nat.mul_pos hD (Nat.two_pow_pos _)
  have hN' : N * 2 ^ B = m * (D * 2 ^ A) + N * 2 ^ B % (D * 2 ^ A) := by rw [hm, Nat.mul_comm (N * 2 ^ B / (D * 2 ^ A))]; exact (Nat.div_add_mod _ _).symm
  have hrD : N * 2 ^ B % (D * 2 ^ A) < D * 2 ^ A := Nat.mod_lt _ hDA
  have hmore : more = true → p ≤ T := by
    intro h
    refine Nat.le_of_not_lt fun q => ?_
    have : 2 ^ (T + 1) ≤ 2 ^ p := Nat.pow_le_pow_right (by omega) q
    have := hmp h; omega
  -- how many digits go
  have g1 : fl_ge N D ((T : Int) + A - B) := by
    rw [fl_ge_iff (A := A + T) (B := B) (by omega), Nat.pow_add, ← Nat.mul_assoc]
    have : 2 ^ T * (D * 2 ^ A) ≤ m * (D * 2 ^ A) := Nat.mul_le_mul_right _ t1
    rw [Nat.mul_comm]; omega
  have g2 : ¬ fl_ge N D ((T : Int) + A - B + 1) := by
    rw [fl_ge_iff (A := A + (T + 1)) (B := B) (by omega), Nat.pow_add, ← Nat.mul_assoc]
    refine Nat.not_le.mpr ?_
    have : (m + 1) * (D * 2 ^ A) ≤ 2 ^ (T + 1) * (D * 2 ^ A) := Nat.mul_le_mul_right _ t2
    rw [Nat.add_mul, Nat.one_mul] at this
    rw [Nat.mul_comm (D * 2 ^ A)]; omega
  have hk : (fl_k p N D : Int) = max 0 ((T : Int) + A - B - (p - 1)) := by
    unfold fl_k
    by_cases z : N / D = 0
    · have hlt : N < D := by rcases Nat.div_eq_zero_iff.mp z with c | c <;> omega
      have hng : ¬ fl_ge N D 0 := by rw [fl_ge_iff (L := 0) (A := 0) (B := 0) rfl]; simp; exact hlt
      have : (T : Int) + A - B < 0 := Int.not_le.mp fun q => hng (fl_ge_mono q g1)
      rw [z, Nat.log2_zero]; omega
    · obtain ⟨l1, l2⟩ := fl_log hD z
      have a1 : fl_ge N D ((N / D).log2 : Int) := by rw [fl_ge_iff (A := (N / D).log2) (B := 0) (by omega)]; simpa using l1
      have a2 : ¬ fl_ge N D (((N / D).log2 : Int) + 1) := by rw [fl_ge_iff (A := (N / D).log2 + 1) (B := 0) (by omega)]; simpa using l2
      have : ((N / D).log2 : Int) = (T : Int) + A - B := by
        rcases Int.lt_trichotomy ((N / D).log2 : Int) ((T : Int) + A - B) with c | c | c
        · exact absurd (fl_ge_mono (by omega) g1) a2
        · exact c
        · exact absurd (fl_ge_mono (by omega) a1) g2
      omega
  have hup := @fl_c_le p N D (by omega) hD
  have hlow := @fl_c_ge p N D hD
  have h2p : 2 ^ p = 2 * 2 ^ (p - 1) := by rw [← Nat.pow_succ']; congr 1; omega
  obtain ⟨F, hF⟩ : ∃ F : Int, F = e + (T : Int) + bias := ⟨_, rfl⟩
  have hkF : (fl_k p N D : Int) = max 0 (F - 1) := by rw [hk]; omega
  have htl : 0 < 2 ^ (p - 1) := Nat.two_pow_pos _
  unfold fl_soft
  rw [← hT, ← hF]
  split
  · rename_i hl
    rw [Nat.min_eq_left]
    unfold flR
    have := hlow (by omega)
    have : (2 * bias) * 2 ^ (p - 1) ≤ fl_k p N D * 2 ^ (p - 1) := Nat.mul_le_mul_right _ (by omega)
    rw [Nat.add_mul]; omega
  · rename_i hl
    -- the end is not met
    have hmin : flR p N D ≤ (2 * bias + 1) * 2 ^ (p - 1) := by
      unfold flR
      have : (fl_k p N D + 2) * 2 ^ (p - 1) ≤ (2 * bias + 1) * 2 ^ (p - 1) := Nat.mul_le_mul_right _ (by omega)
      rw [Nat.add_mul] at this; omega
    rw [Nat.min_eq_right hmin]
    simp only
    obtain ⟨d, hd⟩ : ∃ d : Nat, d = if 0 < F then 62 - p else (63 - (p : Int) - F).toNat := ⟨_, rfl⟩
    rw [← hd]
    obtain ⟨k, hkk⟩ : ∃ k, k = fl_k p N D := ⟨_, rfl⟩
    have hflR : flR p N D = k * 2 ^ (p - 1) + Jvm.FP.Core.nearest N (D * 2 ^ k) := by rw [hkk]; rfl
    rw [← hkk] at hkF
    have hdI : (d : Int) = 61 - T + k + B - A := by rw [hd]; split <;> omega
    have hd9 : 62 - p ≤ d := by rw [hd]; split <;> omega
    have hd62 : 62 < d → k = 0 := by intro z; rw [hd] at z; split at z <;> omega
    have hkF2 : (if 0 < F then (F - 1).toNat * 2 ^ (p - 1) + 0 else 0) = k * 2 ^ (p - 1) := by
      split
      · rw [show (F - 1).toNat = k by omega, Nat.add_zero]
      · rw [show k = 0 by omega, Nat.zero_mul]
    have hfin : ∀ q : Nat, (if 0 < F then (F - 1).toNat * 2 ^ (p - 1) + q else q) = k * 2 ^ (p - 1) + q := by
      intro q
      split
      · rw [show (F - 1).toNat = k by omega]
      · rw [show k = 0 by omega, Nat.zero_mul, Nat.zero_add]
    rw [hfin, hflR]
    obtain ⟨r, hrr⟩ : ∃ r, r = N * 2 ^ B % (D * 2 ^ A) := ⟨_, rfl⟩
    rw [← hrr] at hN' hrD hr
    rcases Int.lt_or_le ((k : Int) + B - A) 0 with hg | hg
    · -- digits are put behind
      obtain ⟨w, hw⟩ : ∃ w : Nat, (w : Int) = A - k - B := ⟨(A - k - B : Int).toNat, by omega⟩
      have hmf : more = false := by
        cases hmm : more with
        | false => rfl
        | true => have := hmore hmm; omega
      have hr0 : r = 0 := by
        refine Classical.byContradiction fun z => ?_
        have := hr.mpr z; rw [hmf] at this; exact Bool.noConfusion this
      rw [if_neg (by omega)]
      have hx : m * 2 ^ (61 - T) = m * 2 ^ w * 2 ^ d := by rw [Nat.mul_assoc, ← Nat.pow_add]; congr 2; omega
      rw [hx, Nat.mul_div_cancel _ (Nat.two_pow_pos d), Nat.mul_mod_left]
      have hpd := Nat.two_pow_pos (d - 1)
      rw [if_neg (by intro z; rcases z with z | z <;> omega)]
      congr 1
      have e1 := fl_near_pow (n := N) (d := D) (x := 0) (y := k) (x2 := B) (y2 := B + k) (by omega)
      rw [Nat.pow_zero, Nat.mul_one] at e1
      rw [e1, hN', hr0, Nat.add_zero]
      have e2 : m * (D * 2 ^ A) = m * 2 ^ w * (D * 2 ^ (B + k)) := by
        rw [Nat.mul_mul_mul_comm, Nat.mul_comm m D, Nat.mul_assoc D, Nat.mul_left_comm D, show A = w + (B + k) by omega, Nat.pow_add]
      have hD2 : 0 < D * 2 ^ (B + k) := Nat.mul_pos hD (Nat.two_pow_pos _)
      rw [e2]
      unfold Jvm.FP.Core.nearest
      rw [Nat.mul_mod_left, if_pos (by omega), Nat.mul_div_cancel _ hD2]
    · obtain ⟨g, hgg⟩ : ∃ g : Nat, (g : Int) = k + B - A := ⟨(k + B - A : Int).toNat, by omega⟩
      have e1 := fl_near_pow (n := N) (d := D) (x := 0) (y := k) (x2 := B) (y2 := A + g) (by omega)
      rw [Nat.pow_zero, Nat.mul_one] at e1
      have hrg : r ≠ 0 → 1 ≤ g := by intro z; have := hmore (hr.mpr z); omega
      rw [e1, hN', show D * 2 ^ (A + g) = D * 2 ^ A * 2 ^ g by rw [Nat.pow_add, Nat.mul_assoc], fl_near_floor hDA hrD hrg]
      have hs : d = (61 - T) + g := by omega
      by_cases hb62 : 62 < d
      · rw [if_pos hb62, hd62 hb62, Nat.zero_mul, Nat.zero_add]
        have hgT : T + 2 ≤ g := by omega
        have hlt : 2 * m < 2 ^ g := by
          have : 2 ^ (T + 1 + 1) ≤ 2 ^ g := Nat.pow_le_pow_right (by omega) (by omega)
          rw [Nat.pow_succ] at this; omega
        rw [Nat.mod_eq_of_lt (by omega), if_neg (by rintro (z | z) <;> omega), Nat.div_eq_of_lt (by omega)]
      · rw [if_neg hb62]
        congr 1
        have hx1 : m * 2 ^ (61 - T) / 2 ^ d = m / 2 ^ g := by
          rw [hs, Nat.pow_add, Nat.mul_comm (2 ^ (61 - T)), Nat.mul_div_mul_right _ _ (Nat.two_pow_pos _)]
        have hx2 : m * 2 ^ (61 - T) % 2 ^ d = m % 2 ^ g * 2 ^ (61 - T) := by
          rw [hs, Nat.pow_add, Nat.mul_comm (2 ^ (61 - T)), Nat.mul_mod_mul_right]
        rw [hx1, hx2]
        by_cases g0 : g = 0
        · subst g0
          have hpd := Nat.two_pow_pos (d - 1)
          rw [Nat.pow_zero, Nat.mod_one, Nat.zero_mul, if_neg (by intro z; rcases z with z | z <;> omega), if_neg (by rintro (z | z) <;> omega)]
        · have hh := fl_half (m := m % 2 ^ g) (s := 61 - T) (d := g) (by omega) more (m / 2 ^ g)
          refine if_cg ?_
          rw [hs, ← hr]
          exact hh
