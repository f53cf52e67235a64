/-! PHASE B numbers 5: the twin's arithmetic, walked -/
set_option maxRecDepth 100000
theorem cst_k {h : HP} (w : WG h) {p : Nat} (h1 : 1 ≤ p) (h2 : p ≤ nStr) : kc h p = 71 := by
  rw [(w.2.2 p (by unfold nStr at h2; omega)).1]; unfold kc0; rw [if_pos ⟨h1, h2⟩]
theorem cst_t {h : HP} (w : WG h) {p : Nat} (h1 : 1 ≤ p) (h2 : p ≤ nStr) : tx h p = codes (cStr.getD (p - 1) "") := by
  rw [(w.2.2 p (by unfold nStr at h2; omega)).2.1]; unfold tx0; rw [if_pos ⟨h1, h2⟩]
/-- the bytes of a sign -/
def sgnT (w : Nat) : List Nat := if w = 1 then [43] else if w = 2 then [45] else if w = 3 then [42] else if w = 4 then [47] else [37]
theorem txEq_c {β : Type} {h : HP} (w : WG h) {a p : Nat} {l m : List Nat} (ha : kc h a = 71) (hl : tx h a = l) (h1 : 1 ≤ p) (h2 : p ≤ nStr) (hm : codes (cStr.getD (p - 1) "") = m) (K : Int32 → Rs β) :
    txEq a p h K = K (if l = m then 1 else 0) := by
  unfold txEq
  rw [if_pos ⟨ha, cst_k w h1 h2⟩, hl, cst_t w h1 h2, hm]
noncomputable def mF {β : Type} (a : Nat) (c : Int32) (h : HP) : Rs β := if kc h a = 5 then bd (f_X4_fails a c h) (fun x1 h2 => if kc h2 x1 = 69 then rex h2 else none) else none
theorem mF_bd {α β : Type} (a : Nat) (c : Int32) (h : HP) (K : α → HP → Rs β) : bd (mF (β := α) a c h) K = mF a c h := by
  unfold mF
  by_cases k : kc h a = 5
  · rw [if_pos k, if_pos k]
    cases f_X4_fails a c h with
    | none => rfl
    | some v =>
      cases v with
      | inl _ => rfl
      | inr y =>
        show bd (if kc y.2 y.1 = 69 then rex y.2 else none) K = (if kc y.2 y.1 = 69 then rex y.2 else none)
        by_cases q : kc y.2 y.1 = 69
        · rw [if_pos q, if_pos q]; rfl
        · rw [if_neg q, if_neg q]; rfl
  · rw [if_neg k, if_neg k]; rfl
/-- the sign turned -/
def fl_flip (y : Nat) : Nat := if y < 2 ^ 63 then y + 2 ^ 63 else y - 2 ^ 63
theorem flip_lt {y : Nat} (hy : y < 2 ^ 64) : fl_flip y < 2 ^ 64 ∧ fl_flip y % 2 ^ 63 = y % 2 ^ 63 := by unfold fl_flip; split <;> omega
theorem flip_x {y : Nat} (hy : y < 2 ^ 64) : lN y ^^^ (-9223372036854775808 : Int64) = lN (fl_flip y) := by
  apply wb_inj
  rw [Int64.toBitVec_xor]
  apply BitVec.eq_of_toNat_eq
  rw [BitVec.toNat_xor, wb_tn hy, wb_tn (flip_lt hy).1, show (-9223372036854775808 : Int64).toBitVec.toNat = 2 ^ 63 from rfl]
  unfold fl_flip
  refine Nat.eq_of_testBit_eq fun i => ?_
  rw [Nat.testBit_xor, Nat.testBit_two_pow]
  by_cases c : y < 2 ^ 63
  · rw [if_pos c, Nat.add_comm]
    by_cases d : i < 63
    · have d2 : ¬ (63 = i) := by omega
      rw [Nat.testBit_two_pow_add_gt d]; simp [d2]
    · by_cases e : i = 63
      · subst e
        rw [Nat.testBit_lt_two_pow c, Nat.testBit_eq_decide_div_mod_eq]; simp; omega
      · rw [Nat.testBit_lt_two_pow (Nat.lt_of_lt_of_le hy (Nat.pow_le_pow_right (by omega) (by omega))), Nat.testBit_lt_two_pow (Nat.lt_of_lt_of_le (show _ < 2 ^ 64 by omega) (Nat.pow_le_pow_right (by omega) (by omega)))]; simp; omega
  · rw [if_neg c]
    obtain ⟨u, hu⟩ : ∃ u, y = 2 ^ 63 + u ∧ u < 2 ^ 63 := ⟨y - 2 ^ 63, by omega, by omega⟩
    obtain ⟨rfl, hu2⟩ := hu
    rw [Nat.add_sub_cancel_left]
    by_cases d : i < 63
    · have d2 : ¬ (63 = i) := by omega
      rw [Nat.testBit_two_pow_add_gt d]; simp [d2]
    · by_cases e : i = 63
      · subst e
        rw [Nat.testBit_lt_two_pow hu2, Nat.testBit_eq_decide_div_mod_eq]; simp; omega
      · rw [Nat.testBit_lt_two_pow (Nat.lt_of_lt_of_le hy (Nat.pow_le_pow_right (by omega) (by omega))), Nat.testBit_lt_two_pow (Nat.lt_of_lt_of_le (show _ < 2 ^ 64 by omega) (Nat.pow_le_pow_right (by omega) (by omega)))]; simp; omega
theorem flip_dec {y : Nat} (hy : y < 2 ^ 64) (ny : y % 2 ^ 63 ≤ INF64) : Jvm.FP.Core.decode F64 (fl_flip y) = Jvm.FP.Core.negate (Jvm.FP.Core.decode F64 y) := by
  obtain ⟨f1, f2⟩ := flip_lt hy
  have hs : Jvm.FP.Core.fieldS F64 (fl_flip y) = !Jvm.FP.Core.fieldS F64 y := by
    rw [f64_S' f1, f64_S' hy]; unfold fl_flip
    by_cases c : y < 2 ^ 63
    · rw [if_pos c, show decide (2 ^ 63 ≤ y) = false by simp; omega]; simp
    · rw [if_neg c, show decide (2 ^ 63 ≤ y) = true by simp; omega]; simp; omega
  by_cases i : y % 2 ^ 63 = INF64
  · rw [f64_bad i, f64_bad (f2.trans i), hs]; rfl
  · have a := fl_dec (f64_fin.mpr (by omega : y % 2 ^ 63 < INF64))
    have b := fl_dec (f64_fin.mpr (by omega : fl_flip y % 2 ^ 63 < INF64))
    rw [a, b, hs]
    have e1 : fl_flip y / 2 ^ 52 % 2 ^ 11 = y / 2 ^ 52 % 2 ^ 11 := by omega
    have e2 : fl_flip y % 2 ^ 52 = y % 2 ^ 52 := by omega
    unfold Jvm.FP.Core.negate fl_c fl_x
    rw [f64_E, f64_T, f64_E, f64_T, e1, e2]
theorem flip_sub {x y : Nat} (hy : y < 2 ^ 64) (ny : y % 2 ^ 63 ≤ INF64) : Jvm.FP.Core.add F64 x (fl_flip y) = Jvm.FP.Core.sub F64 x y := by
  unfold Jvm.FP.Core.add Jvm.FP.Core.sub; rw [flip_dec hy ny]
theorem m_fl164 {a0 x z : Nat} (hx : x < 2 ^ 64) (hz : z < 2 ^ 64) (nx : x % 2 ^ 63 ≤ INF64) (nz : z % 2 ^ 63 ≤ INF64) (h : HP) :
    f_X4_floating_b164 a0 (lN x) (lN z) h = @ite _ (isI x ∧ isI z ∧ x ≠ z) (Classical.propDecidable _) (mF a0 8 h) (rok (lN (Jvm.FP.Core.add F64 x z)) h) := by
  unfold f_X4_floating_b164
  rw [w_inf hx, bd_ok, w_inf hz, bd_ok, bd_rok]
  have ec : (lg_cmp (lN x) (lN z) = 0) ↔ x = z := by
    rw [lg_cmp_eq]
    constructor
    · intro k; have := congrArg uv k; rwa [lN_uv hx, lN_uv hz] at this
    · intro k; rw [k]
  by_cases i : isI x
  · rw [if_neg (fun k => zB_d.mp k i)]
    by_cases j : isI z
    · rw [if_neg (fun k => zB_d.mp k j)]
      by_cases e : x = z
      · rw [if_pos (ec.mpr e), if_neg (fun k => k.2.2 e), w_add hx hz nx nz (fun k => k.2.2 e)]
      · rw [if_neg (fun k => e (ec.mp k)), if_pos (show isI x ∧ isI z ∧ x ≠ z from ⟨i, j, e⟩)]; rfl
    · rw [if_pos (zB_d.mpr j), if_neg (fun k => j k.2.1), w_add hx hz nx nz (fun k => j k.2.1)]
  · rw [if_pos (zB_d.mpr i), if_neg (fun k => i k.1), w_add hx hz nx nz (fun k => i k.1)]
theorem m_fl113 {a0 a1 w x y : Nat} (hw1 : 1 ≤ w) (hw5 : w ≤ 5) (hx : x < 2 ^ 64) (hy : y < 2 ^ 64) (nx : x % 2 ^ 63 ≤ INF64) (ny : y % 2 ^ 63 ≤ INF64) {h : HP} (wg : WG h) (ka : kc h a1 = 71) (ta : tx h a1 = sgnT w) :
    f_X4_floating_b113 a0 a1 (lN x) (lN y) (if w = 5 then -1 else nI (w - 1)) h = @ite _ (nu_none w x y) (Classical.propDecidable _) (mF a0 8 h) (rok (lN (nu_op F64 w x y)) h) := by
  have hw' : w = 1 ∨ w = 2 ∨ w = 3 ∨ w = 4 ∨ w = 5 := by omega
  have b217 : ¬ (isI x ∧ isZ y) → f_X4_floating_b217 a0 (lN x) (lN y) h = @ite _ (isZ x ∧ isI y) (Classical.propDecidable _) (mF a0 8 h) (rok (lN (Jvm.FP.Core.mul F64 x y)) h) := by
    intro n1
    unfold f_X4_floating_b217
    rw [w_zero hx, bd_ok, w_inf hy, bd_ok, bd_rok]
    by_cases i : isZ x
    · rw [if_neg (fun k => zB_d.mp k i)]
      by_cases j : isI y
      · rw [if_neg (fun k => zB_d.mp k j), if_pos (show isZ x ∧ isI y from ⟨i, j⟩)]; rfl
      · rw [if_pos (zB_d.mpr j), if_neg (fun k => j k.2), w_multiply hx hy nx ny n1 (fun k => j k.1)]
    · rw [if_pos (zB_d.mpr i), if_neg (fun k => i k.1), w_multiply hx hy nx ny n1 (fun k => i k.2)]
  have b261 : ¬ (isI x ∧ isI y) → f_X4_floating_b261 a0 (lN x) (lN y) h = @ite _ (isZ x ∧ isZ y) (Classical.propDecidable _) (mF a0 8 h) (rok (lN (Jvm.FP.Core.div F64 x y)) h) := by
    intro n1
    unfold f_X4_floating_b261
    rw [w_zero hx, bd_ok, w_zero hy, bd_ok, bd_rok]
    by_cases i : isZ x
    · rw [if_neg (fun k => zB_d.mp k i)]
      by_cases j : isZ y
      · rw [if_neg (fun k => zB_d.mp k j), if_pos (show isZ x ∧ isZ y from ⟨i, j⟩)]; rfl
      · rw [if_pos (zB_d.mpr j), if_neg (fun k => j k.2), w_divide hx hy nx ny n1 (fun k => j k.2)]
    · rw [if_pos (zB_d.mpr i), if_neg (fun k => i k.1), w_divide hx hy nx ny n1 (fun k => i k.1)]
  have e14 : ∀ K : Int32 → Rs Int64, txEq a1 14 h K = K (if sgnT w = [45] then 1 else 0) := fun K => txEq_c wg ka ta (by decide) (by decide) (by decide) K
  unfold f_X4_floating_b113
  rcases hw' with rfl | rfl | rfl | rfl | rfl
  · rw [if_neg (show ¬ (1 : Nat) = 5 by decide), if_pos (show nI (1 - 1) = 0 from rfl)]
    unfold f_X4_floating_b144
    rw [e14, if_neg (show ¬ sgnT 1 = [45] by decide), if_pos rfl, m_fl164 hx hy nx ny]; rfl
  · obtain ⟨f1, f2⟩ := flip_lt hy
    rw [if_neg (show ¬ (2 : Nat) = 5 by decide), if_neg (show ¬ nI (2 - 1) = 0 by decide), if_pos (show nI (2 - 1) = 1 from rfl)]
    unfold f_X4_floating_b144
    rw [e14, if_pos (show sgnT 2 = [45] by decide), if_neg (show ¬ (1 : Int32) = 0 by decide)]
    unfold f_X46_negative
    rw [bd_ok, flip_x hy, m_fl164 hx f1 nx (by rw [f2]; exact ny), flip_sub hy ny]
    have hiff : (isI x ∧ isI (fl_flip y) ∧ x ≠ fl_flip y) ↔ nu_none 2 x y := by
      show _ ↔ (isI x ∧ isI y ∧ x = y)
      unfold isI
      rw [f2]
      unfold fl_flip
      constructor
      · rintro ⟨i, j, k⟩; refine ⟨i, j, ?_⟩; split at k <;> omega
      · rintro ⟨i, j, k⟩; refine ⟨i, j, ?_⟩; split <;> omega
    by_cases c : nu_none 2 x y
    · rw [if_pos (hiff.mpr c), if_pos c]
    · rw [if_neg (fun z => c (hiff.mp z)), if_neg c]; rfl
  · rw [if_neg (show ¬ (3 : Nat) = 5 by decide), if_neg (show ¬ nI (3 - 1) = 0 by decide), if_neg (show ¬ nI (3 - 1) = 1 by decide), if_pos (show nI (3 - 1) = 2 from rfl), w_inf hx, bd_ok, w_zero hy, bd_ok]
    have hd : nu_none 3 x y ↔ ((isI x ∧ isZ y) ∨ (isZ x ∧ isI y)) := Iff.rfl
    by_cases i : isI x
    · rw [if_neg (fun k => zB_d.mp k i)]
      by_cases j : isZ y
      · rw [if_neg (fun k => zB_d.mp k j), if_pos (hd.mpr (.inl ⟨i, j⟩))]; rfl
      · rw [if_pos (zB_d.mpr j), b217 (fun k => j k.2)]
        by_cases c : isZ x ∧ isI y
        · rw [if_pos c, if_pos (hd.mpr (.inr c))]
        · rw [if_neg c, if_neg (fun z => by rcases hd.mp z with z | z; exact j z.2; exact c z)]; rfl
    · rw [if_pos (zB_d.mpr i), b217 (fun k => i k.1)]
      by_cases c : isZ x ∧ isI y
      · rw [if_pos c, if_pos (hd.mpr (.inr c))]
      · rw [if_neg c, if_neg (fun z => by rcases hd.mp z with z | z; exact i z.1; exact c z)]; rfl
  · rw [if_neg (show ¬ (4 : Nat) = 5 by decide), if_neg (show ¬ nI (4 - 1) = 0 by decide), if_neg (show ¬ nI (4 - 1) = 1 by decide), if_neg (show ¬ nI (4 - 1) = 2 by decide), if_pos (show nI (4 - 1) = 3 from rfl), w_inf hx, bd_ok, w_inf hy, bd_ok]
    have hd : nu_none 4 x y ↔ ((isI x ∧ isI y) ∨ (isZ x ∧ isZ y)) := Iff.rfl
    by_cases i : isI x
    · rw [if_neg (fun k => zB_d.mp k i)]
      by_cases j : isI y
      · rw [if_neg (fun k => zB_d.mp k j), if_pos (hd.mpr (.inl ⟨i, j⟩))]; rfl
      · rw [if_pos (zB_d.mpr j), b261 (fun k => j k.2)]
        by_cases c : isZ x ∧ isZ y
        · rw [if_pos c, if_pos (hd.mpr (.inr c))]
        · rw [if_neg c, if_neg (fun z => by rcases hd.mp z with z | z; exact j z.2; exact c z)]; rfl
    · rw [if_pos (zB_d.mpr i), b261 (fun k => i k.1)]
      by_cases c : isZ x ∧ isZ y
      · rw [if_pos c, if_pos (hd.mpr (.inr c))]
      · rw [if_neg c, if_neg (fun z => by rcases hd.mp z with z | z; exact i z.1; exact c z)]; rfl
  · rw [if_pos (show (5 : Nat) = 5 from rfl), if_neg (show ¬ (-1 : Int32) = 0 by decide), if_neg (show ¬ (-1 : Int32) = 1 by decide), if_neg (show ¬ (-1 : Int32) = 2 by decide), if_neg (show ¬ (-1 : Int32) = 3 by decide), w_inf hx, bd_ok, w_zero hy, bd_ok, bd_rok]
    have hd : nu_none 5 x y ↔ (isI x ∨ isZ y) := Iff.rfl
    by_cases i : isI x
    · rw [if_neg (fun k => zB_d.mp k i), if_pos (hd.mpr (.inl i))]; rfl
    · rw [if_pos (zB_d.mpr i)]
      by_cases j : isZ y
      · rw [if_neg (fun k => zB_d.mp k j), if_pos (hd.mpr (.inr j))]; rfl
      · rw [if_pos (zB_d.mpr j), if_neg (fun z => by rcases hd.mp z with z | z; exact i z; exact j z), w_rest hx hy (by have : x % 2 ^ 63 ≠ INF64 := i; omega) ny j]; rfl
theorem sgn_hash {w : Nat} (hw1 : 1 ≤ w) (hw5 : w ≤ 5) : hashL (sgnT w) 0 = if w = 1 then 43 else if w = 2 then 45 else if w = 3 then 42 else if w = 4 then 47 else 37 := by
  have hw' : w = 1 ∨ w = 2 ∨ w = 3 ∨ w = 4 ∨ w = 5 := by omega
  rcases hw' with rfl | rfl | rfl | rfl | rfl <;> decide
theorem m_floating {a0 a1 w x y : Nat} (hw1 : 1 ≤ w) (hw5 : w ≤ 5) (hx : x < 2 ^ 64) (hy : y < 2 ^ 64) (nx : x % 2 ^ 63 ≤ INF64) (ny : y % 2 ^ 63 ≤ INF64) {h : HP} (wg : WG h) (ka : kc h a1 = 71) (ta : tx h a1 = sgnT w) :
    f_X4_floating a0 a1 (lN x) (lN y) h = @ite _ (nu_none w x y) (Classical.propDecidable _) (mF a0 8 h) (rok (lN (nu_op F64 w x y)) h) := by
  rw [← m_fl113 (a1 := a1) hw1 hw5 hx hy nx ny wg ka ta]
  have hh : ∀ K : Int32 → Rs Int64, txHash a1 h K = K (hashL (sgnT w) 0) := fun K => by unfold txHash; rw [if_pos ka, ta]
  have hw' : w = 1 ∨ w = 2 ∨ w = 3 ∨ w = 4 ∨ w = 5 := by omega
  have e11 : ∀ K : Int32 → Rs Int64, txEq a1 11 h K = K (if sgnT w = [42] then 1 else 0) := fun K => txEq_c wg ka ta (by decide) (by decide) (by decide) K
  have e12 : ∀ K : Int32 → Rs Int64, txEq a1 12 h K = K (if sgnT w = [43] then 1 else 0) := fun K => txEq_c wg ka ta (by decide) (by decide) (by decide) K
  have e14 : ∀ K : Int32 → Rs Int64, txEq a1 14 h K = K (if sgnT w = [45] then 1 else 0) := fun K => txEq_c wg ka ta (by decide) (by decide) (by decide) K
  have e16 : ∀ K : Int32 → Rs Int64, txEq a1 16 h K = K (if sgnT w = [47] then 1 else 0) := fun K => txEq_c wg ka ta (by decide) (by decide) (by decide) K
  unfold f_X4_floating
  rw [hh]
  rcases hw' with rfl | rfl | rfl | rfl | rfl
  · rw [show hashL (sgnT 1) 0 = 43 by decide, if_neg (show ¬ (43 : Int32) = 42 by decide), if_pos rfl, e12, if_pos (show sgnT 1 = [43] by decide), if_neg (show ¬ (1 : Int32) = 0 by decide)]; rfl
  · rw [show hashL (sgnT 2) 0 = 45 by decide, if_neg (show ¬ (45 : Int32) = 42 by decide), if_neg (show ¬ (45 : Int32) = 43 by decide), if_neg (show ¬ (45 : Int32) = 44 by decide), if_pos rfl, e14, if_pos (show sgnT 2 = [45] by decide), if_neg (show ¬ (1 : Int32) = 0 by decide)]; rfl
  · rw [show hashL (sgnT 3) 0 = 42 by decide, if_pos rfl, e11, if_pos (show sgnT 3 = [42] by decide), if_neg (show ¬ (1 : Int32) = 0 by decide)]; rfl
  · rw [show hashL (sgnT 4) 0 = 47 by decide, if_neg (show ¬ (47 : Int32) = 42 by decide), if_neg (show ¬ (47 : Int32) = 43 by decide), if_neg (show ¬ (47 : Int32) = 44 by decide), if_neg (show ¬ (47 : Int32) = 45 by decide), if_neg (show ¬ (47 : Int32) = 46 by decide), if_pos rfl, e16, if_pos (show sgnT 4 = [47] by decide), if_neg (show ¬ (1 : Int32) = 0 by decide)]; rfl
  · rw [show hashL (sgnT 5) 0 = 37 by decide, if_neg (show ¬ (37 : Int32) = 42 by decide), if_neg (show ¬ (37 : Int32) = 43 by decide), if_neg (show ¬ (37 : Int32) = 44 by decide), if_neg (show ¬ (37 : Int32) = 45 by decide), if_neg (show ¬ (37 : Int32) = 46 by decide), if_neg (show ¬ (37 : Int32) = 47 by decide)]; rfl
