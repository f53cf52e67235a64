/-! PHASE B floats 1: rounding in the model's own words (Jvm.FP.Core), told by whole numbers: N / D units of the least number -/
set_option maxRecDepth 100000
theorem fl_near_mul {N D c : Nat} (hc : 0 < c) : Jvm.FP.Core.nearest (N * c) (D * c) = Jvm.FP.Core.nearest N D := by
  unfold Jvm.FP.Core.nearest
  rw [Nat.mul_mod_mul_right, Nat.mul_div_mul_right _ _ hc]
  have e1 : (2 * (N % D * c) < D * c) = (2 * (N % D) < D) := propext (by rw [← Nat.mul_assoc]; exact Nat.mul_lt_mul_right hc)
  have e2 : (D * c < 2 * (N % D * c)) = (D < 2 * (N % D)) := propext (by rw [← Nat.mul_assoc]; exact Nat.mul_lt_mul_right hc)
  simp only [e1, e2]
theorem fl_near_pow {n d x y x2 y2 : Nat} (h : x + y2 = x2 + y) : Jvm.FP.Core.nearest (n * 2 ^ x) (d * 2 ^ y) = Jvm.FP.Core.nearest (n * 2 ^ x2) (d * 2 ^ y2) := by
  rcases Nat.le_total x x2 with c | c
  · obtain ⟨z, rfl⟩ := Nat.exists_eq_add_of_le c
    have hy : y2 = y + z := by omega
    rw [hy, Nat.pow_add, Nat.pow_add, ← Nat.mul_assoc, ← Nat.mul_assoc, fl_near_mul (Nat.two_pow_pos z)]
  · obtain ⟨z, rfl⟩ := Nat.exists_eq_add_of_le c
    have hy : y = y2 + z := by omega
    rw [hy, Nat.pow_add, Nat.pow_add, ← Nat.mul_assoc, ← Nat.mul_assoc, fl_near_mul (Nat.two_pow_pos z)]
theorem fl_near_le {N D B : Nat} (hD : 0 < D) (h : N < D * B) : Jvm.FP.Core.nearest N D ≤ B := by
  have h1 : N / D < B := (Nat.div_lt_iff_lt_mul hD).mpr (by rw [Nat.mul_comm]; exact h)
  unfold Jvm.FP.Core.nearest
  split
  · omega
  · split
    · omega
    · have := Nat.mod_lt (N / D) (show 0 < 2 by omega); omega
theorem fl_near_ge {N D B : Nat} (hD : 0 < D) (h : D * B ≤ N) : B ≤ Jvm.FP.Core.nearest N D := by
  have h1 : B ≤ N / D := (Nat.le_div_iff_mul_le hD).mpr (by rw [Nat.mul_comm]; exact h)
  unfold Jvm.FP.Core.nearest
  split
  · omega
  · split <;> omega
/-- num / den is at least 2 to the L -/
def fl_ge (n d : Nat) (L : Int) : Prop := d * 2 ^ L.toNat ≤ n * 2 ^ (-L).toNat
theorem fl_ge_iff {n d A B : Nat} {L : Int} (h : (A : Int) - B = L) : fl_ge n d L ↔ d * 2 ^ A ≤ n * 2 ^ B := by
  unfold fl_ge
  rcases Nat.le_total B A with c | c
  · obtain ⟨z, rfl⟩ := Nat.exists_eq_add_of_le c
    have h1 : L.toNat = z := by omega
    have h2 : (-L).toNat = 0 := by omega
    rw [h1, h2, Nat.add_comm B z, Nat.pow_add, ← Nat.mul_assoc, Nat.pow_zero, Nat.mul_one]
    exact (Nat.mul_le_mul_right_iff (Nat.two_pow_pos B)).symm
  · obtain ⟨z, rfl⟩ := Nat.exists_eq_add_of_le c
    have h1 : L.toNat = 0 := by omega
    have h2 : (-L).toNat = z := by omega
    rw [h1, h2, Nat.add_comm A z, Nat.pow_add, ← Nat.mul_assoc, Nat.pow_zero, Nat.mul_one]
    exact (Nat.mul_le_mul_right_iff (Nat.two_pow_pos A)).symm
theorem fl_ge_mono {n d : Nat} {L M : Int} (h : M ≤ L) (g : fl_ge n d L) : fl_ge n d M := by
  obtain ⟨A, B, hA, hB⟩ : ∃ A B : Nat, (A : Int) - B = L ∧ True := ⟨L.toNat, (-L).toNat, by omega, trivial⟩
  obtain ⟨z, hz⟩ : ∃ z : Nat, (z : Int) = L - M := ⟨(L - M).toNat, by omega⟩
  have g1 := (fl_ge_iff (n := n) (d := d) hA).mp g
  refine (fl_ge_iff (n := n) (d := d) (A := A) (B := B + z) (by omega)).mpr ?_
  rw [Nat.pow_add, ← Nat.mul_assoc]
  exact Nat.le_trans g1 (Nat.le_mul_of_pos_right _ (Nat.two_pow_pos z))
theorem fl_lead {n d : Nat} (hn : n ≠ 0) (hd : d ≠ 0) : fl_ge n d (Jvm.FP.Core.leading n d) ∧ ¬ fl_ge n d (Jvm.FP.Core.leading n d + 1) := by
  have n1 := Nat.log2_self_le hn
  have n2 : n < 2 ^ (n.log2 + 1) := (Nat.log2_lt hn).mp (Nat.lt_succ_self _)
  have d1 := Nat.log2_self_le hd
  have d2 : d < 2 ^ (d.log2 + 1) := (Nat.log2_lt hd).mp (Nat.lt_succ_self _)
  have up : ¬ fl_ge n d ((n.log2 : Int) - d.log2 + 1) := by
    rw [fl_ge_iff (A := n.log2 + 1) (B := d.log2) (by omega)]
    refine Nat.not_le.mpr ?_
    calc n * 2 ^ d.log2 < 2 ^ (n.log2 + 1) * 2 ^ d.log2 := Nat.mul_lt_mul_of_pos_right n2 (Nat.two_pow_pos _)
      _ = 2 ^ d.log2 * 2 ^ (n.log2 + 1) := Nat.mul_comm _ _
      _ ≤ d * 2 ^ (n.log2 + 1) := Nat.mul_le_mul_right _ d1
  have lo : fl_ge n d ((n.log2 : Int) - d.log2 - 1) := by
    rw [fl_ge_iff (A := n.log2) (B := d.log2 + 1) (by omega)]
    calc d * 2 ^ n.log2 ≤ 2 ^ (d.log2 + 1) * 2 ^ n.log2 := Nat.mul_le_mul_right _ (Nat.le_of_lt d2)
      _ = 2 ^ n.log2 * 2 ^ (d.log2 + 1) := Nat.mul_comm _ _
      _ ≤ n * 2 ^ (d.log2 + 1) := Nat.mul_le_mul_right _ n1
  unfold Jvm.FP.Core.leading
  simp only
  split
  · rename_i c
    exact ⟨c, up⟩
  · rename_i c
    refine ⟨lo, ?_⟩
    rw [show (n.log2 : Int) - d.log2 - 1 + 1 = (n.log2 : Int) - d.log2 by omega]
    exact c
theorem fl_lead_eq {n d : Nat} {L : Int} (hn : n ≠ 0) (hd : d ≠ 0) (g : fl_ge n d L) (g2 : ¬ fl_ge n d (L + 1)) : Jvm.FP.Core.leading n d = L := by
  obtain ⟨l1, l2⟩ := fl_lead hn hd
  rcases Int.lt_trichotomy (Jvm.FP.Core.leading n d) L with c | c | c
  · exact absurd (fl_ge_mono (by omega) g) l2
  · exact c
  · exact absurd (fl_ge_mono (by omega) l1) g2
/-- how many digits the result drops -/
def fl_k (p N D : Nat) : Nat := (N / D).log2 - (p - 1)
/-- the bits of N / D rounded to p digits, without an end -/
def flR (p N D : Nat) : Nat := fl_k p N D * 2 ^ (p - 1) + Jvm.FP.Core.nearest N (D * 2 ^ fl_k p N D)
theorem fl_k_mul {p N D c : Nat} (hc : 0 < c) : fl_k p (N * c) (D * c) = fl_k p N D := by unfold fl_k; rw [Nat.mul_div_mul_right _ _ hc]
theorem flR_mul {p N D c : Nat} (hc : 0 < c) : flR p (N * c) (D * c) = flR p N D := by
  unfold flR
  rw [fl_k_mul hc, show D * c * 2 ^ fl_k p N D = D * 2 ^ fl_k p N D * c by rw [Nat.mul_assoc, Nat.mul_comm c, ← Nat.mul_assoc], fl_near_mul hc]
theorem fl_log {N D : Nat} (hD : 0 < D) (h : N / D ≠ 0) : D * 2 ^ (N / D).log2 ≤ N ∧ N < D * 2 ^ ((N / D).log2 + 1) := by
  have a := Nat.log2_self_le h
  have b : N / D < 2 ^ ((N / D).log2 + 1) := (Nat.log2_lt h).mp (Nat.lt_succ_self _)
  refine ⟨?_, ?_⟩
  · rw [Nat.mul_comm]; exact (Nat.le_div_iff_mul_le hD).mp a
  · rw [Nat.mul_comm]; exact (Nat.div_lt_iff_lt_mul hD).mp b
theorem fl_c_le {p N D : Nat} (hp : 1 ≤ p) (hD : 0 < D) : Jvm.FP.Core.nearest N (D * 2 ^ fl_k p N D) ≤ 2 ^ p := by
  refine fl_near_le (Nat.mul_pos hD (Nat.two_pow_pos _)) ?_
  by_cases h : N / D = 0
  · have : N < D := by rcases Nat.div_eq_zero_iff.mp h with c | c <;> omega
    exact Nat.lt_of_lt_of_le this (by rw [Nat.mul_assoc]; exact Nat.le_mul_of_pos_right _ (Nat.mul_pos (Nat.two_pow_pos _) (Nat.two_pow_pos _)))
  · have := (fl_log hD h).2
    refine Nat.lt_of_lt_of_le this ?_
    rw [Nat.mul_assoc, ← Nat.pow_add]
    exact Nat.mul_le_mul_left _ (Nat.pow_le_pow_right (by omega) (by unfold fl_k; omega))
theorem fl_c_ge {p N D : Nat} (hD : 0 < D) (hk : 0 < fl_k p N D) : 2 ^ (p - 1) ≤ Jvm.FP.Core.nearest N (D * 2 ^ fl_k p N D) := by
  have h : N / D ≠ 0 := by intro z; unfold fl_k at hk; rw [z] at hk; simp [Nat.log2_zero] at hk
  refine fl_near_ge (Nat.mul_pos hD (Nat.two_pow_pos _)) ?_
  have := (fl_log hD h).1
  rw [Nat.mul_assoc, ← Nat.pow_add, show fl_k p N D + (p - 1) = (N / D).log2 by unfold fl_k at hk ⊢; omega]
  exact this
theorem fl_quantum {f : Jvm.FP.Core.Fmt} {n d a b : Nat} {e : Int} (hn : n ≠ 0) (hd : d ≠ 0) (hp : 1 ≤ f.p) (hab : (a : Int) - b = e - f.qmin) :
    Jvm.FP.Core.quantum f n d e = f.qmin + (fl_k f.p (n * 2 ^ a) (d * 2 ^ b) : Int) := by
  have hD : 0 < d * 2 ^ b := Nat.mul_pos (Nat.pos_of_ne_zero hd) (Nat.two_pow_pos _)
  unfold Jvm.FP.Core.quantum
  obtain ⟨l1, l2⟩ := fl_lead hn hd
  by_cases h : n * 2 ^ a / (d * 2 ^ b) = 0
  · have hlt : n * 2 ^ a < d * 2 ^ b := by rcases Nat.div_eq_zero_iff.mp h with c | c <;> omega
    have hng : ¬ fl_ge n d ((b : Int) - a) := by rw [fl_ge_iff (A := b) (B := a) rfl]; omega
    have hk : fl_k f.p (n * 2 ^ a) (d * 2 ^ b) = 0 := by unfold fl_k; rw [h]; simp [Nat.log2_zero]
    have : Jvm.FP.Core.leading n d < (b : Int) - a := Int.not_le.mp fun q => hng (fl_ge_mono q l1)
    rw [hk]; omega
  · have g := fl_log hD h
    have hL : Jvm.FP.Core.leading n d = ((n * 2 ^ a / (d * 2 ^ b)).log2 : Int) + b - a := by
      refine fl_lead_eq hn hd ?_ ?_
      · rw [fl_ge_iff (A := b + (n * 2 ^ a / (d * 2 ^ b)).log2) (B := a) (by omega), Nat.pow_add, ← Nat.mul_assoc]; exact g.1
      · rw [fl_ge_iff (A := b + ((n * 2 ^ a / (d * 2 ^ b)).log2 + 1)) (B := a) (by omega), Nat.pow_add, ← Nat.mul_assoc]; exact Nat.not_le.mpr g.2
    have hk : fl_k f.p (n * 2 ^ a) (d * 2 ^ b) = (n * 2 ^ a / (d * 2 ^ b)).log2 - (f.p - 1) := rfl
    rw [hL, hk]; omega
/-- the bits of a sign -/
def fl_sg (f : Jvm.FP.Core.Fmt) (s : Bool) : Nat := s.toNat * f.exps * f.tails
def fl_inf (f : Jvm.FP.Core.Fmt) : Nat := (f.exps - 1) * f.tails
theorem fl_asm (f : Jvm.FP.Core.Fmt) (s : Bool) (e t : Nat) : Jvm.FP.Core.assemble f s e t = fl_sg f s + (e * f.tails + t) := by
  unfold Jvm.FP.Core.assemble fl_sg; rw [Nat.add_mul]; omega
theorem fl_round {f : Jvm.FP.Core.Fmt} {n d a b : Nat} {e : Int} (s : Bool) (hp : 1 ≤ f.p) (he : 1 ≤ f.emax) (hw : f.exps = 2 * f.emax + 2) (hn : n ≠ 0) (hd : d ≠ 0) (hab : (a : Int) - b = e - f.qmin) :
    Jvm.FP.Core.encode f (Jvm.FP.Core.roundRatio f s n d e) = fl_sg f s + min (fl_inf f) (flR f.p (n * 2 ^ a) (d * 2 ^ b)) := by
  have hD : 0 < d * 2 ^ b := Nat.mul_pos (Nat.pos_of_ne_zero hd) (Nat.two_pow_pos _)
  have hq := fl_quantum hn hd hp hab
  have hlow := @fl_c_ge f.p (n * 2 ^ a) (d * 2 ^ b) hD
  have hup := @fl_c_le f.p (n * 2 ^ a) (d * 2 ^ b) hp hD
  have hdef : flR f.p (n * 2 ^ a) (d * 2 ^ b) = fl_k f.p (n * 2 ^ a) (d * 2 ^ b) * 2 ^ (f.p - 1) + Jvm.FP.Core.nearest (n * 2 ^ a) (d * 2 ^ b * 2 ^ fl_k f.p (n * 2 ^ a) (d * 2 ^ b)) := rfl
  generalize fl_k f.p (n * 2 ^ a) (d * 2 ^ b) = k at hq hlow hup hdef
  have hc : Jvm.FP.Core.nearest (Jvm.FP.Core.unitsNum n e (f.qmin + k)) (Jvm.FP.Core.unitsDen d e (f.qmin + k)) = Jvm.FP.Core.nearest (n * 2 ^ a) (d * 2 ^ b * 2 ^ k) := by
    unfold Jvm.FP.Core.unitsNum Jvm.FP.Core.unitsDen
    rw [Nat.mul_assoc, ← Nat.pow_add]
    exact fl_near_pow (by omega)
  generalize hC : Jvm.FP.Core.nearest (n * 2 ^ a) (d * 2 ^ b * 2 ^ k) = c at hlow hup hc hdef
  rw [hdef]
  unfold Jvm.FP.Core.roundRatio
  rw [if_neg hn, hq]
  unfold Jvm.FP.Core.roundAt
  rw [hc]
  have ht : f.tails = 2 ^ (f.p - 1) := rfl
  have h2 : 2 ^ f.p = 2 * f.tails := by rw [ht, ← Nat.pow_succ']; congr 1; omega
  rw [h2] at hup
  rw [← ht] at hlow ⊢
  have hqq : f.qmax - f.qmin = 2 * (f.emax : Int) - 1 := by unfold Jvm.FP.Core.Fmt.qmax Jvm.FP.Core.Fmt.qmin; omega
  have hi : fl_inf f = (2 * f.emax + 1) * f.tails := by unfold fl_inf; rw [hw]; congr 1
  have htp : 0 < f.tails := Nat.two_pow_pos _
  unfold Jvm.FP.Core.settle
  split
  · rename_i hlt
    unfold Jvm.FP.Core.bound
    split
    · rename_i hle
      unfold Jvm.FP.Core.encode
      simp only
      have hk : k < 2 * f.emax := by omega
      have hb : k * f.tails + c < fl_inf f := by
        rw [hi, h2] at *
        have : (k + 2) * f.tails ≤ (2 * f.emax + 1) * f.tails := Nat.mul_le_mul_right _ (by omega)
        rw [Nat.add_mul] at this; omega
      rw [Nat.min_eq_right (Nat.le_of_lt hb)]
      split
      · rename_i hct
        have hk0 : k = 0 := Nat.eq_zero_of_not_pos fun z => absurd (hlow z) (Nat.not_le.mpr hct)
        rw [fl_asm, hk0]
      · rename_i hct
        rw [fl_asm, show (f.qmin + (k : Int) - f.qmin).toNat = k by omega, Nat.add_mul]
        omega
    · rename_i hle
      unfold Jvm.FP.Core.encode
      simp only
      have hk : 2 * f.emax ≤ k := by omega
      have hb : fl_inf f ≤ k * f.tails + c := by
        rw [hi]
        have := hlow (by omega)
        have : (2 * f.emax) * f.tails ≤ k * f.tails := Nat.mul_le_mul_right _ hk
        rw [Nat.add_mul]; omega
      rw [Nat.min_eq_left hb, fl_asm]; rfl
  · rename_i hlt
    have hc2 : c = 2 * f.tails := by omega
    unfold Jvm.FP.Core.bound
    split
    · rename_i hle
      unfold Jvm.FP.Core.encode
      simp only
      rw [if_neg (Nat.lt_irrefl _), fl_asm, show (f.qmin + (k : Int) + 1 - f.qmin).toNat = k + 1 by omega, hc2]
      have hb : k * f.tails + 2 * f.tails < fl_inf f := by
        rw [hi, ← Nat.add_mul]
        exact Nat.mul_lt_mul_of_pos_right (by omega) htp
      rw [Nat.min_eq_right (Nat.le_of_lt hb), Nat.add_mul, Nat.add_mul]; omega
    · rename_i hle
      unfold Jvm.FP.Core.encode
      simp only
      have hb : fl_inf f ≤ k * f.tails + c := by
        rw [hi, hc2, ← Nat.add_mul]
        exact Nat.mul_le_mul_right _ (by omega)
      rw [Nat.min_eq_left hb, fl_asm]; rfl
