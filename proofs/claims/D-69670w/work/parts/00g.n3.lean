/-! PHASE B numbers 3: the component's arithmetic -/
set_option maxRecDepth 100000
/-- an operation in a format: 1 + 2 - 3 * 4 / 5 % -/
def nu_op (f : Jvm.FP.Core.Fmt) (w x y : Nat) : Nat :=
  if w = 1 then Jvm.FP.Core.add f x y else if w = 2 then Jvm.FP.Core.sub f x y else if w = 3 then Jvm.FP.Core.mul f x y else if w = 4 then Jvm.FP.Core.div f x y else Jvm.FP.Core.rem f x y
abbrev isI (x : Nat) : Prop := x % 2 ^ 63 = INF64
abbrev isZ (x : Nat) : Prop := x % 2 ^ 63 = 0
/-- whether there is no result; of doubles' bits -/
def nu_none (w x y : Nat) : Prop :=
  if w = 1 then isI x ∧ isI y ∧ x ≠ y else if w = 2 then isI x ∧ isI y ∧ x = y else if w = 3 then (isI x ∧ isZ y) ∨ (isZ x ∧ isI y)
  else if w = 4 then (isI x ∧ isI y) ∨ (isZ x ∧ isZ y) else isI x ∨ isZ y
noncomputable def nu_whole (w k : Nat) (a b : Int64) : Int64 :=
  if w = 1 then nu_cut k (a + b) else if w = 2 then nu_cut k (a - b) else if w = 3 then nu_cut k (a * b)
  else if w = 4 then (if b = -1 then nu_cut k (-a) else a / b) else (if b = -1 then 0 else a - a / b * b)
/-- arithmetic in a kind from int on; none is a fault -/
noncomputable def nu_arith (w k : Nat) (a b : Int64) : Option Int64 :=
  if k < 6 then (if 4 ≤ w ∧ b = 0 then none else some (nu_whole w k a b))
  else @ite _ (nu_none w (nu_real k a) (nu_real k b)) (Classical.propDecidable _) none (some (if k = 6 then lN (nu_op F32 w (uv a) (uv b)) else lN (nu_op F64 w (uv a) (uv b))))
theorem enc_ok64 {d : Jvm.FP.Core.Datum} (h : d ≠ .nan) : Jvm.FP.Core.encode F64 (Jvm.FP.Core.round F64 d) < 2 ^ 64 ∧ Jvm.FP.Core.encode F64 (Jvm.FP.Core.round F64 d) % 2 ^ 63 ≤ INF64 := by
  cases d with
  | nan => exact absurd rfl h
  | inf s => cases s <;> decide
  | fin s c q =>
    have e := fl_rr fl_ok64 s (n := c) (d := 1) (e := q) (a := (q - F64.qmin).toNat) (b := (F64.qmin - q).toNat) (by omega) (by omega)
    show Jvm.FP.Core.encode F64 (Jvm.FP.Core.roundRatio F64 s c 1 q) < 2 ^ 64 ∧ Jvm.FP.Core.encode F64 (Jvm.FP.Core.roundRatio F64 s c 1 q) % 2 ^ 63 ≤ INF64
    rw [e]; exact fl_res64 _ _
theorem enc_ok32 {d : Jvm.FP.Core.Datum} (h : d ≠ .nan) : Jvm.FP.Core.encode F32 (Jvm.FP.Core.round F32 d) < 2 ^ 32 ∧ Jvm.FP.Core.encode F32 (Jvm.FP.Core.round F32 d) % 2 ^ 31 ≤ INF32 := by
  cases d with
  | nan => exact absurd rfl h
  | inf s => cases s <;> decide
  | fin s c q =>
    have e := fl_rr fl_ok32 s (n := c) (d := 1) (e := q) (a := (q - F32.qmin).toNat) (b := (F32.qmin - q).toNat) (by omega) (by omega)
    show Jvm.FP.Core.encode F32 (Jvm.FP.Core.roundRatio F32 s c 1 q) < 2 ^ 32 ∧ Jvm.FP.Core.encode F32 (Jvm.FP.Core.roundRatio F32 s c 1 q) % 2 ^ 31 ≤ INF32
    rw [e]; exact fl_res32 _ _
/-- the datum that an operation hands to rounding, by the data -/
def nu_dat (w : Nat) (d e : Jvm.FP.Core.Datum) : Jvm.FP.Core.Datum :=
  if w = 1 then Jvm.FP.Core.exactSum d e else if w = 2 then Jvm.FP.Core.exactSum d (Jvm.FP.Core.negate e) else if w = 3 then Jvm.FP.Core.exactProduct d e else Jvm.FP.Core.exactRemainder d e
theorem nu_op_d (f : Jvm.FP.Core.Fmt) {w : Nat} (hw : w ≠ 4) (x y : Nat) : nu_op f w x y = Jvm.FP.Core.encode f (Jvm.FP.Core.round f (nu_dat w (Jvm.FP.Core.decode f x) (Jvm.FP.Core.decode f y))) := by
  unfold nu_op nu_dat
  by_cases h1 : w = 1
  · simp only [h1, if_true]; rfl
  by_cases h2 : w = 2
  · simp only [h2, if_true]; rfl
  by_cases h3 : w = 3
  · simp only [h3, if_true]; rfl
  simp only [h1, h2, h3, hw, if_false]; rfl
/-- what is known of a datum of bits that are a number -/
theorem dat64 {n : Nat} (hn : n < 2 ^ 64) (h : n % 2 ^ 63 ≤ INF64) : (isI n ∧ Jvm.FP.Core.decode F64 n = .inf (Jvm.FP.Core.fieldS F64 n)) ∨ (¬ isI n ∧ ∃ c q, Jvm.FP.Core.decode F64 n = .fin (Jvm.FP.Core.fieldS F64 n) c q ∧ (c = 0 ↔ isZ n)) := by
  by_cases i : isI n
  · exact .inl ⟨i, f64_bad i⟩
  · exact .inr ⟨i, _, _, fl_dec (f64_fin.mpr (by have : n % 2 ^ 63 ≠ INF64 := i; omega)), f64_c0⟩
theorem dat32 {n : Nat} (hn : n < 2 ^ 32) (h : n % 2 ^ 31 ≤ INF32) : (isI (fW n) ∧ Jvm.FP.Core.decode F32 n = .inf (Jvm.FP.Core.fieldS F32 n) ∧ Jvm.FP.Core.fieldS F64 (fW n) = Jvm.FP.Core.fieldS F32 n) ∨ (¬ isI (fW n) ∧ n % 2 ^ 31 < INF32 ∧ (isZ (fW n) ↔ n % 2 ^ 31 = 0) ∧ ∃ c q, Jvm.FP.Core.decode F32 n = .fin (Jvm.FP.Core.fieldS F32 n) c q ∧ (c = 0 ↔ isZ (fW n))) := by
  by_cases i : n % 2 ^ 31 = INF32
  · left
    have e : fW n = (Jvm.FP.Core.fieldS F32 n).toNat * 2 ^ 63 + INF64 := fl_wideI hn i
    obtain ⟨p1, p2, _, _⟩ := @f64_parts (Jvm.FP.Core.fieldS F32 n) INF64 (by decide)
    exact ⟨by show fW n % 2 ^ 63 = INF64; rw [e]; exact p1, f32_bad i, by rw [e]; exact p2⟩
  · right
    obtain ⟨z, hz⟩ := fl_z925
    obtain ⟨w1, w2, w3, w4⟩ := fl_wW hz hn (by omega : n % 2 ^ 31 < INF32)
    have hzero : isZ (fW n) ↔ n % 2 ^ 31 = 0 := by
      show fW n % 2 ^ 63 = 0 ↔ _
      rw [← f64_U0, w4, ← f32_U0]
      have := Nat.two_pow_pos z
      constructor
      · intro k; rcases Nat.mul_eq_zero.mp k with k | k
        · exact k
        · omega
      · intro k; rw [k, Nat.zero_mul]
    refine ⟨by show fW n % 2 ^ 63 ≠ INF64; omega, by omega, hzero, _, _, fl_dec (f32_fin.mpr (by omega)), ?_⟩
    rw [hzero]; exact f32_c0
theorem nu_dat_ok {w : Nat} {d e : Jvm.FP.Core.Datum} {x y : Nat} (hw1 : 1 ≤ w) (hw5 : w ≤ 5) (hw : w ≠ 4) (hx : x < 2 ^ 64) (hy : y < 2 ^ 64)
    (hd : (isI x ∧ d = .inf (Jvm.FP.Core.fieldS F64 x)) ∨ (¬ isI x ∧ ∃ c q s, d = .fin s c q ∧ (c = 0 ↔ isZ x)))
    (he : (isI y ∧ e = .inf (Jvm.FP.Core.fieldS F64 y)) ∨ (¬ isI y ∧ ∃ c q s, e = .fin s c q ∧ (c = 0 ↔ isZ y))) (hn : ¬ nu_none w x y) : nu_dat w d e ≠ .nan := by
  have hw' : w = 1 ∨ w = 2 ∨ w = 3 ∨ w = 5 := by clear hd he hn; omega
  have hs : isI x → isI y → (Jvm.FP.Core.fieldS F64 x = Jvm.FP.Core.fieldS F64 y ↔ x = y) := by
    intro i j
    have h1 := f64_sv hx
    have h2 := f64_sv hy
    rw [i] at h1; rw [j] at h2
    constructor
    · intro k; rw [k] at h1; omega
    · intro k; rw [k]
  unfold nu_none at hn
  unfold nu_dat
  rcases hw' with rfl | rfl | rfl | rfl <;> simp only [if_true, show ((2 : Nat) = 1) = False from eq_false (by decide), show ((3 : Nat) = 1) = False from eq_false (by decide), show ((3 : Nat) = 2) = False from eq_false (by decide), show ((5 : Nat) = 1) = False from eq_false (by decide), show ((5 : Nat) = 2) = False from eq_false (by decide), show ((5 : Nat) = 3) = False from eq_false (by decide), show ((5 : Nat) = 4) = False from eq_false (by decide), if_false] at hn ⊢ <;> rcases hd with ⟨i, rfl⟩ | ⟨i, c, q, s, rfl, c0⟩ <;> rcases he with ⟨j, rfl⟩ | ⟨j, c', q', s', rfl, c0'⟩
  · have : Jvm.FP.Core.fieldS F64 x = Jvm.FP.Core.fieldS F64 y := (hs i j).mpr (Classical.byContradiction fun k => hn ⟨i, j, k⟩)
    simp [Jvm.FP.Core.exactSum, this]
  · simp [Jvm.FP.Core.exactSum]
  · simp [Jvm.FP.Core.exactSum]
  · simp [Jvm.FP.Core.exactSum]
  · have : Jvm.FP.Core.fieldS F64 x ≠ Jvm.FP.Core.fieldS F64 y := fun k => hn ⟨i, j, (hs i j).mp k⟩
    have : Jvm.FP.Core.fieldS F64 x = !Jvm.FP.Core.fieldS F64 y := by cases hh : Jvm.FP.Core.fieldS F64 x <;> cases hg : Jvm.FP.Core.fieldS F64 y <;> simp_all
    simp [Jvm.FP.Core.exactSum, Jvm.FP.Core.negate, this]
  · simp [Jvm.FP.Core.exactSum, Jvm.FP.Core.negate]
  · simp [Jvm.FP.Core.exactSum, Jvm.FP.Core.negate]
  · simp [Jvm.FP.Core.exactSum, Jvm.FP.Core.negate]
  · simp [Jvm.FP.Core.exactProduct]
  · have : c' ≠ 0 := fun k => hn (.inl ⟨i, c0'.mp k⟩)
    simp [Jvm.FP.Core.exactProduct, this]
  · have : c ≠ 0 := fun k => hn (.inr ⟨c0.mp k, j⟩)
    simp [Jvm.FP.Core.exactProduct, this]
  · simp [Jvm.FP.Core.exactProduct]
  · exact absurd (.inl i) hn
  · exact absurd (.inl i) hn
  · simp [Jvm.FP.Core.exactRemainder]
  · have : c' ≠ 0 := fun k => hn (.inr (c0'.mp k))
    simp [Jvm.FP.Core.exactRemainder, this]
theorem quo_ok64 {d e : Jvm.FP.Core.Datum} (h : Jvm.FP.Core.quotient F64 d e ≠ .nan) : Jvm.FP.Core.encode F64 (Jvm.FP.Core.quotient F64 d e) < 2 ^ 64 ∧ Jvm.FP.Core.encode F64 (Jvm.FP.Core.quotient F64 d e) % 2 ^ 63 ≤ INF64 := by
  have hi : ∀ s, Jvm.FP.Core.encode F64 (.inf s) < 2 ^ 64 ∧ Jvm.FP.Core.encode F64 (.inf s) % 2 ^ 63 ≤ INF64 := by intro s; cases s <;> decide
  have hz : ∀ s, Jvm.FP.Core.encode F64 (.fin s 0 F64.qmin) < 2 ^ 64 ∧ Jvm.FP.Core.encode F64 (.fin s 0 F64.qmin) % 2 ^ 63 ≤ INF64 := by intro s; cases s <;> decide
  cases d with
  | nan => exact absurd rfl h
  | inf s =>
    cases e with
    | nan => exact absurd rfl h
    | inf t => exact absurd rfl h
    | fin t d r => exact hi _
  | fin s c q =>
    cases e with
    | nan => exact absurd rfl h
    | inf t => exact hz _
    | fin t d r =>
      unfold Jvm.FP.Core.quotient at h ⊢
      simp only at h ⊢
      by_cases d0 : d = 0
      · rw [if_pos d0] at h ⊢
        by_cases c0 : c = 0
        · rw [if_pos c0] at h; exact absurd rfl h
        · rw [if_neg c0]; exact hi _
      · rw [if_neg d0, fl_rr fl_ok64 _ d0 (a := (q - r - F64.qmin).toNat) (b := (F64.qmin - (q - r)).toNat) (by omega)]
        exact fl_res64 _ _
theorem quo_ok32 {d e : Jvm.FP.Core.Datum} (h : Jvm.FP.Core.quotient F32 d e ≠ .nan) : Jvm.FP.Core.encode F32 (Jvm.FP.Core.quotient F32 d e) < 2 ^ 32 ∧ Jvm.FP.Core.encode F32 (Jvm.FP.Core.quotient F32 d e) % 2 ^ 31 ≤ INF32 := by
  have hi : ∀ s, Jvm.FP.Core.encode F32 (.inf s) < 2 ^ 32 ∧ Jvm.FP.Core.encode F32 (.inf s) % 2 ^ 31 ≤ INF32 := by intro s; cases s <;> decide
  have hz : ∀ s, Jvm.FP.Core.encode F32 (.fin s 0 F32.qmin) < 2 ^ 32 ∧ Jvm.FP.Core.encode F32 (.fin s 0 F32.qmin) % 2 ^ 31 ≤ INF32 := by intro s; cases s <;> decide
  cases d with
  | nan => exact absurd rfl h
  | inf s =>
    cases e with
    | nan => exact absurd rfl h
    | inf t => exact absurd rfl h
    | fin t d r => exact hi _
  | fin s c q =>
    cases e with
    | nan => exact absurd rfl h
    | inf t => exact hz _
    | fin t d r =>
      unfold Jvm.FP.Core.quotient at h ⊢
      simp only at h ⊢
      by_cases d0 : d = 0
      · rw [if_pos d0] at h ⊢
        by_cases c0 : c = 0
        · rw [if_pos c0] at h; exact absurd rfl h
        · rw [if_neg c0]; exact hi _
      · rw [if_neg d0, fl_rr fl_ok32 _ d0 (a := (q - r - F32.qmin).toNat) (b := (F32.qmin - (q - r)).toNat) (by omega)]
        exact fl_res32 _ _
theorem quo_nan (f : Jvm.FP.Core.Fmt) {d e : Jvm.FP.Core.Datum} {x y : Nat}
    (hd : (isI x ∧ ∃ s, d = .inf s) ∨ (¬ isI x ∧ ∃ c q s, d = .fin s c q ∧ (c = 0 ↔ isZ x))) (he : (isI y ∧ ∃ s, e = .inf s) ∨ (¬ isI y ∧ ∃ c q s, e = .fin s c q ∧ (c = 0 ↔ isZ y)))
    (hn : ¬ nu_none 4 x y) : Jvm.FP.Core.quotient f d e ≠ .nan := by
  have hn' : ¬ ((isI x ∧ isI y) ∨ (isZ x ∧ isZ y)) := hn
  rcases hd with ⟨i, s, rfl⟩ | ⟨i, c, q, s, rfl, c0⟩ <;> rcases he with ⟨j, s', rfl⟩ | ⟨j, c', q', s', rfl, c0'⟩
  · exact absurd (.inl ⟨i, j⟩) hn'
  · simp [Jvm.FP.Core.quotient]
  · simp [Jvm.FP.Core.quotient]
  · simp only [Jvm.FP.Core.quotient]
    by_cases d0 : c' = 0
    · rw [if_pos d0, if_neg (fun k => hn' (.inr ⟨c0.mp k, c0'.mp d0⟩))]; intro z; exact Jvm.FP.Core.Datum.noConfusion z
    · rw [if_neg d0]
      unfold Jvm.FP.Core.roundRatio Jvm.FP.Core.roundAt Jvm.FP.Core.settle Jvm.FP.Core.bound
      repeat' split
      all_goals (intro z; exact Jvm.FP.Core.Datum.noConfusion z)
theorem nu_op_ok64 {w x y : Nat} (hw1 : 1 ≤ w) (hw5 : w ≤ 5) (hx : x < 2 ^ 64) (hy : y < 2 ^ 64) (nx : x % 2 ^ 63 ≤ INF64) (ny : y % 2 ^ 63 ≤ INF64) (hn : ¬ nu_none w x y) : nu_op F64 w x y < 2 ^ 64 ∧ nu_op F64 w x y % 2 ^ 63 ≤ INF64 := by
  have d1 := dat64 hx nx
  have d2 := dat64 hy ny
  by_cases hw : w = 4
  · subst hw
    show Jvm.FP.Core.encode F64 (Jvm.FP.Core.quotient F64 _ _) < 2 ^ 64 ∧ Jvm.FP.Core.encode F64 (Jvm.FP.Core.quotient F64 _ _) % 2 ^ 63 ≤ INF64
    refine quo_ok64 (quo_nan F64 ?_ ?_ hn)
    · rcases d1 with ⟨i, e⟩ | ⟨i, c, q, e, c0⟩
      · exact .inl ⟨i, _, e⟩
      · exact .inr ⟨i, c, q, _, e, c0⟩
    · rcases d2 with ⟨i, e⟩ | ⟨i, c, q, e, c0⟩
      · exact .inl ⟨i, _, e⟩
      · exact .inr ⟨i, c, q, _, e, c0⟩
  · rw [nu_op_d F64 hw]
    refine enc_ok64 (nu_dat_ok hw1 hw5 hw hx hy ?_ ?_ hn)
    · rcases d1 with ⟨i, e⟩ | ⟨i, c, q, e, c0⟩
      · exact .inl ⟨i, e⟩
      · exact .inr ⟨i, c, q, _, e, c0⟩
    · rcases d2 with ⟨i, e⟩ | ⟨i, c, q, e, c0⟩
      · exact .inl ⟨i, e⟩
      · exact .inr ⟨i, c, q, _, e, c0⟩
theorem nu_op_ok32 {w x y : Nat} (hw1 : 1 ≤ w) (hw5 : w ≤ 5) (hx : x < 2 ^ 32) (hy : y < 2 ^ 32) (nx : x % 2 ^ 31 ≤ INF32) (ny : y % 2 ^ 31 ≤ INF32) (hn : ¬ nu_none w (fW x) (fW y)) : nu_op F32 w x y < 2 ^ 32 ∧ nu_op F32 w x y % 2 ^ 31 ≤ INF32 := by
  have d1 := dat32 hx nx
  have d2 := dat32 hy ny
  by_cases hw : w = 4
  · subst hw
    show Jvm.FP.Core.encode F32 (Jvm.FP.Core.quotient F32 _ _) < 2 ^ 32 ∧ Jvm.FP.Core.encode F32 (Jvm.FP.Core.quotient F32 _ _) % 2 ^ 31 ≤ INF32
    refine quo_ok32 (quo_nan F32 ?_ ?_ hn)
    · rcases d1 with ⟨i, e, _⟩ | ⟨i, _, _, c, q, e, c0⟩
      · exact .inl ⟨i, _, e⟩
      · exact .inr ⟨i, c, q, _, e, c0⟩
    · rcases d2 with ⟨i, e, _⟩ | ⟨i, _, _, c, q, e, c0⟩
      · exact .inl ⟨i, _, e⟩
      · exact .inr ⟨i, c, q, _, e, c0⟩
  · rw [nu_op_d F32 hw]
    refine enc_ok32 (nu_dat_ok hw1 hw5 hw (fW_ok hx nx).1 (fW_ok hy ny).1 ?_ ?_ hn)
    · rcases d1 with ⟨i, e, s⟩ | ⟨i, _, _, c, q, e, c0⟩
      · exact .inl ⟨i, by rw [s]; exact e⟩
      · exact .inr ⟨i, c, q, _, e, c0⟩
    · rcases d2 with ⟨i, e, s⟩ | ⟨i, _, _, c, q, e, c0⟩
      · exact .inl ⟨i, by rw [s]; exact e⟩
      · exact .inr ⟨i, c, q, _, e, c0⟩
