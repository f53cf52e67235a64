/-! PHASE B numbers 6: the twin's arithmetic is the component's; widening -/
set_option maxRecDepth 100000
theorem i2 : ((2 : Nat) = 1) = False := eq_false (by decide)
theorem nar64 (s : Bool) : fN (Jvm.FP.Core.encode F64 (.inf s)) = Jvm.FP.Core.encode F32 (.inf s) := by rw [f64_enc_inf, f32_enc_inf]; exact fl_narI s
theorem nar0 (s : Bool) : fN (Jvm.FP.Core.encode F64 (.fin s 0 F64.qmin)) = Jvm.FP.Core.encode F32 (.fin s 0 F32.qmin) := by cases s <;> decide
theorem self64 {a : Nat} (ha : a < 2 ^ 64) (na : a % 2 ^ 63 ≤ INF64) : Jvm.FP.Core.encode F64 (Jvm.FP.Core.round F64 (Jvm.FP.Core.decode F64 a)) = a := by
  by_cases i : a % 2 ^ 63 = INF64
  · rw [f64_bad i]; exact f64_infv ha i
  · have fa : a % 2 ^ 63 < INF64 := by omega
    rw [fl_dec (f64_fin.mpr fa), fl_encR fl_ok64, ← flU_eq, show F64.p = 53 from rfl, f64_min fa, f64_sv ha]
theorem self32 {a : Nat} (ha : a < 2 ^ 32) (na : a % 2 ^ 31 ≤ INF32) : Jvm.FP.Core.encode F32 (Jvm.FP.Core.round F32 (Jvm.FP.Core.decode F32 a)) = a := by
  by_cases i : a % 2 ^ 31 = INF32
  · rw [f32_bad i]
    show Jvm.FP.Core.encode F32 (.inf _) = a
    have := f32_sv ha
    rw [f32_enc_inf, ← f32_sg]; omega
  · have fa : a % 2 ^ 31 < INF32 := by omega
    rw [fl_dec (f32_fin.mpr fa), fl_encR fl_ok32, ← flU_eq]
    have h2 := fl_exact (f := F32) (by decide) a
    rw [h2, f32_E, f32_T, show F32.tails = 8388608 from rfl, f32_inf]
    have := f32_sv ha
    rw [show a / 2 ^ 23 % 2 ^ 8 * 8388608 + a % 2 ^ 23 = a % 2 ^ 31 by omega, Nat.min_eq_right (by omega)]; exact this
/-- a float operation by doubles, where there is a result -/
theorem fw_op {w x y : Nat} (hw1 : 1 ≤ w) (hw5 : w ≤ 5) (hx : x < 2 ^ 32) (hy : y < 2 ^ 32) (nx : x % 2 ^ 31 ≤ INF32) (ny : y % 2 ^ 31 ≤ INF32) (hn : ¬ nu_none w (fW x) (fW y)) :
    fN (nu_op F64 w (fW x) (fW y)) = nu_op F32 w x y := by
  have wx := fW_ok hx nx
  have wy := fW_ok hy ny
  have hs : ∀ s : Bool, fN (Jvm.FP.Core.encode F64 (Jvm.FP.Core.round F64 (.inf s))) = Jvm.FP.Core.encode F32 (Jvm.FP.Core.round F32 (.inf s)) := nar64
  have hw' : w = 1 ∨ w = 2 ∨ w = 3 ∨ w = 4 ∨ w = 5 := by omega
  rcases dat64 wx.1 wx.2 with ⟨ix, dx⟩ | ⟨ix, cx, qx, dx, zx⟩ <;> rcases dat64 wy.1 wy.2 with ⟨iy, dy⟩ | ⟨iy, cy, qy, dy, zy⟩ <;> rcases dat32 hx nx with ⟨jx, ex, sx⟩ | ⟨jx, fx, kx, c1, q1, ex, ux⟩ <;> rcases dat32 hy ny with ⟨jy, ey, sy⟩ | ⟨jy, fy, ky, c2, q2, ey, uy⟩ <;> first | exact absurd ix jx | exact absurd jx ix | exact absurd iy jy | exact absurd jy iy | skip
  · -- both without end
    rcases hw' with rfl | rfl | rfl | rfl | rfl
    · rw [nu_op_d F64 (by decide), nu_op_d F32 (by decide), dx, dy, ex, ey, sx, sy]
      unfold nu_dat; simp only [if_true]; unfold Jvm.FP.Core.exactSum
      have : Jvm.FP.Core.fieldS F32 x = Jvm.FP.Core.fieldS F32 y := by
        have h1 := f64_sv wx.1
        have h2 := f64_sv wy.1
        have hxy : fW x = fW y := Classical.byContradiction fun k => hn ⟨ix, iy, k⟩
        rw [← sx, ← sy, hxy]
      simp only [this, if_true]; exact hs _
    · rw [nu_op_d F64 (by decide), nu_op_d F32 (by decide), dx, dy, ex, ey, sx, sy]
      unfold nu_dat; simp only [i2, if_true, if_false]; unfold Jvm.FP.Core.negate Jvm.FP.Core.exactSum
      have : Jvm.FP.Core.fieldS F32 x = !Jvm.FP.Core.fieldS F32 y := by
        have h1 := f64_sv wx.1
        have h2 := f64_sv wy.1
        have hxy : fW x ≠ fW y := fun k => hn ⟨ix, iy, k⟩
        rw [← sx, ← sy]
        rw [ix] at h1; rw [iy] at h2
        cases hh : Jvm.FP.Core.fieldS F64 (fW x) <;> cases hg : Jvm.FP.Core.fieldS F64 (fW y) <;> rw [hh] at h1 <;> rw [hg] at h2 <;> first | rfl | (exfalso; omega)
      simp only [this, if_true]; exact hs _
    · rw [nu_op_d F64 (by decide), nu_op_d F32 (by decide), dx, dy, ex, ey, sx, sy]; exact hs _
    · exact absurd (.inl ⟨ix, iy⟩) hn
    · exact absurd (.inl ix) hn
  · -- x without end
    rcases hw' with rfl | rfl | rfl | rfl | rfl
    · rw [nu_op_d F64 (by decide), nu_op_d F32 (by decide), dx, dy, ex, ey, sx]; exact hs _
    · rw [nu_op_d F64 (by decide), nu_op_d F32 (by decide), dx, dy, ex, ey, sx]; exact hs _
    · have cy0 : cy ≠ 0 := fun k => hn (.inl ⟨ix, zy.mp k⟩)
      have c20 : c2 ≠ 0 := fun k => hn (.inl ⟨ix, uy.mp k⟩)
      obtain ⟨z, hz⟩ := fl_z925
      have sy := (fl_wW hz hy fy).2.2.1
      rw [nu_op_d F64 (by decide), nu_op_d F32 (by decide), dx, dy, ex, ey, sx, sy]
      unfold nu_dat; simp only [show ((3 : Nat) = 1) = False from eq_false (by decide), show ((3 : Nat) = 2) = False from eq_false (by decide), if_true, if_false]; unfold Jvm.FP.Core.exactProduct
      simp only [cy0, c20, if_false]; exact hs _
    · obtain ⟨z, hz⟩ := fl_z925
      have sy := (fl_wW hz hy fy).2.2.1
      show fN (Jvm.FP.Core.encode F64 (Jvm.FP.Core.quotient F64 _ _)) = Jvm.FP.Core.encode F32 (Jvm.FP.Core.quotient F32 _ _)
      rw [dx, dy, ex, ey, sx, sy]; exact nar64 _
    · exact absurd (.inl ix) hn
  · -- y without end
    obtain ⟨z, hz⟩ := fl_z925
    have sx := (fl_wW hz hx fx).2.2.1
    rcases hw' with rfl | rfl | rfl | rfl | rfl
    · rw [nu_op_d F64 (by decide), nu_op_d F32 (by decide), dx, dy, ex, ey, sy]; exact hs _
    · rw [nu_op_d F64 (by decide), nu_op_d F32 (by decide), dx, dy, ex, ey, sy]; exact hs _
    · have cy0 : cx ≠ 0 := fun k => hn (.inr ⟨zx.mp k, iy⟩)
      have c20 : c1 ≠ 0 := fun k => hn (.inr ⟨ux.mp k, iy⟩)
      rw [nu_op_d F64 (by decide), nu_op_d F32 (by decide), dx, dy, ex, ey, sx, sy]
      unfold nu_dat; simp only [show ((3 : Nat) = 1) = False from eq_false (by decide), show ((3 : Nat) = 2) = False from eq_false (by decide), if_true, if_false]; unfold Jvm.FP.Core.exactProduct
      simp only [cy0, c20, if_false]; exact hs _
    · show fN (Jvm.FP.Core.encode F64 (Jvm.FP.Core.quotient F64 _ _)) = Jvm.FP.Core.encode F32 (Jvm.FP.Core.quotient F32 _ _)
      rw [dx, dy, ex, ey, sx, sy]; exact nar0 _
    · rw [nu_op_d F64 (by decide), nu_op_d F32 (by decide), dy, ey]
      have e1 : nu_dat 5 (Jvm.FP.Core.decode F64 (fW x)) (.inf (Jvm.FP.Core.fieldS F64 (fW y))) = Jvm.FP.Core.decode F64 (fW x) := by rw [dx]; rfl
      have e2 : nu_dat 5 (Jvm.FP.Core.decode F32 x) (.inf (Jvm.FP.Core.fieldS F32 y)) = Jvm.FP.Core.decode F32 x := by rw [ex]; rfl
      rw [e1, e2, self64 wx.1 wx.2, self32 hx nx, fN_W hx nx]
  · rcases hw' with rfl | rfl | rfl | rfl | rfl
    · exact (fw_sum hx hy fx fy).1
    · exact (fw_sum hx hy fx fy).2
    · exact fw_mul hx hy fx fy
    · by_cases y0 : y % 2 ^ 31 = 0
      · have zy' := ky.mpr y0
        have x0 : ¬ isZ (fW x) := fun k => hn (.inr ⟨k, zy'⟩)
        obtain ⟨z, hz⟩ := fl_z925
        have sx := (fl_wW hz hx fx).2.2.1
        have sy := (fl_wW hz hy fy).2.2.1
        show fN (Jvm.FP.Core.encode F64 (Jvm.FP.Core.quotient F64 _ _)) = Jvm.FP.Core.encode F32 (Jvm.FP.Core.quotient F32 _ _)
        rw [dx, dy, ex, ey, sx, sy]
        unfold Jvm.FP.Core.quotient
        simp only [zy.mpr zy', uy.mpr zy', if_true, show (cx = 0) = False from eq_false (fun k => x0 (zx.mp k)), show (c1 = 0) = False from eq_false (fun k => x0 (ux.mp k)), if_false]
        exact nar64 _
      · exact fw_div hx hy fx fy y0
    · exact fw_rem hx hy fx fy (fun k => hn (.inr (ky.mpr k)))
theorem tdiv_rng {a b : Int} (h1 : -2147483648 ≤ a) (h2 : a < 2147483648) (hb : b ≠ -1) (h0 : b ≠ 0) : -2147483648 ≤ a.tdiv b ∧ a.tdiv b < 2147483648 ∧ -2147483648 ≤ a - a.tdiv b * b ∧ a - a.tdiv b * b < 2147483648 := by
  have e := Int.tdiv_mul_add_tmod a b
  have hm : a - a.tdiv b * b = a.tmod b := by omega
  have hab : (a.tmod b).natAbs ≤ a.natAbs := by rw [Int.natAbs_tmod]; exact Nat.mod_le _ _
  have hd : (a.tdiv b).natAbs = a.natAbs / b.natAbs := Int.natAbs_tdiv a b
  have hb0 : 1 ≤ b.natAbs := by omega
  have hle : a.natAbs / b.natAbs ≤ a.natAbs := Nat.div_le_self _ _
  rw [hm]
  have hlast : a = -2147483648 → (a.tdiv b).natAbs ≤ 2147483647 ∨ b = 1 := by
    intro k
    by_cases b1 : b = 1
    · right; exact b1
    · left
      have hb2 : 2 ≤ b.natAbs := by omega
      have : a.natAbs / b.natAbs ≤ a.natAbs / 2 := Nat.div_le_div_left hb2 (by omega)
      omega
  have htm : b = 1 → a.tdiv b = a := by intro k; rw [k, Int.tdiv_one]
  refine ⟨?_, ?_, ?_, ?_⟩
  · omega
  · by_cases k : a = -2147483648
    · rcases hlast k with z | z
      · omega
      · rw [htm z]; omega
    · omega
  · omega
  · by_cases k : a = -2147483648
    · have : a.tmod b ≤ 0 := by
        have z1 := Int.tmod_nonneg b (by omega : 0 ≤ -a)
        rw [Int.neg_tmod] at z1; omega
      omega
    · omega
theorem cutI_id {v : Int64} (h1 : -2147483648 ≤ v.toInt) (h2 : v.toInt < 2147483648) : nu_cut 4 v = v := by
  unfold nu_cut
  rw [if_neg (by decide), if_neg (by decide), if_neg (by decide), if_pos rfl]
  apply Int64.toInt_inj.mp
  rw [cut32, (bm32 _).mpr ⟨h1, h2⟩]
theorem bm64 {x : Int} (h1 : -9223372036854775808 ≤ x) (h2 : x < 9223372036854775808) : x.bmod (2 ^ 64) = x := by rw [Int.bmod_def]; split <;> omega
theorem divI {a b : Int64} (ha : nu_ok 4 a) (hb1 : b ≠ -1) (hb0 : b ≠ 0) (hbr : nu_ok 4 b) : nu_cut 4 (a / b) = a / b ∧ nu_cut 4 (a - a / b * b) = a - a / b * b := by
  have ha' : -2147483648 ≤ a.toInt ∧ a.toInt < 2147483648 := ha
  have hb' : -2147483648 ≤ b.toInt ∧ b.toInt < 2147483648 := hbr
  have m1 : b.toInt ≠ -1 := fun k => hb1 (Int64.toInt_inj.mp (by rw [k]; rfl))
  have m0 : b.toInt ≠ 0 := fun k => hb0 (Int64.toInt_inj.mp (by rw [k]; rfl))
  obtain ⟨r1, r2, r3, r4⟩ := tdiv_rng ha'.1 ha'.2 m1 m0
  have hq : (a / b).toInt = a.toInt.tdiv b.toInt := Int64.toInt_div_of_ne_right a b hb1
  have hqb : (a / b * b).toInt = a.toInt.tdiv b.toInt * b.toInt := by
    rw [Int64.toInt_mul, hq, bm64 (by omega) (by omega)]
  have hr : (a - a / b * b).toInt = a.toInt - a.toInt.tdiv b.toInt * b.toInt := by
    rw [Int64.toInt_sub, hqb, bm64 (by omega) (by omega)]
  exact ⟨cutI_id (by rw [hq]; exact r1) (by rw [hq]; exact r2), cutI_id (by rw [hr]; exact r3) (by rw [hr]; exact r4)⟩
theorem m_arith {a0 a1 w k : Nat} {a b : Int64} (hw1 : 1 ≤ w) (hw5 : w ≤ 5) (hk4 : 4 ≤ k) (hk7 : k ≤ 7) (ha : nu_ok k a) (hb : nu_ok k b) {h : HP} (wg : WG h) (k0 : kc h a0 = 5) (ka : kc h a1 = 71) (ta : tx h a1 = sgnT w) :
    f_X4_arithmetic a0 a1 (nI k) a b h = match nu_arith w k a b with | some r => rok r h | none => mF a0 8 h := by
  have hw' : w = 1 ∨ w = 2 ∨ w = 3 ∨ w = 4 ∨ w = 5 := by omega
  have e4 := nk k (c := 4) (C := 4) rfl (by omega) (by omega)
  have e5 := nk k (c := 5) (C := 5) rfl (by omega) (by omega)
  have e6 := nk k (c := 6) (C := 6) rfl (by omega) (by omega)
  have t11 : ∀ K : Int32 → Rs Int64, txEq a1 11 h K = K (if sgnT w = [42] then 1 else 0) := fun K => txEq_c wg ka ta (by decide) (by decide) (by decide) K
  have t12 : ∀ K : Int32 → Rs Int64, txEq a1 12 h K = K (if sgnT w = [43] then 1 else 0) := fun K => txEq_c wg ka ta (by decide) (by decide) (by decide) K
  have t14 : ∀ K : Int32 → Rs Int64, txEq a1 14 h K = K (if sgnT w = [45] then 1 else 0) := fun K => txEq_c wg ka ta (by decide) (by decide) (by decide) K
  have t16 : ∀ K : Int32 → Rs Int64, txEq a1 16 h K = K (if sgnT w = [47] then 1 else 0) := fun K => txEq_c wg ka ta (by decide) (by decide) (by decide) K
  have t6 : ∀ K : Int32 → Rs Int64, txEq a1 6 h K = K (if sgnT w = [37] then 1 else 0) := fun K => txEq_c wg ka ta (by decide) (by decide) (by decide) K
  have hh : ∀ K : Int32 → Rs Int64, txHash a1 h K = K (hashL (sgnT w) 0) := fun K => by unfold txHash; rw [if_pos ka, ta]
  unfold nu_arith
  by_cases c6 : k < 6
  · rw [if_pos c6]
    have c257 : ∀ v : Int64, f_X4_arithmetic_b257 (nI k) v h = rok (nu_cut k v) h := by
      intro v
      unfold f_X4_arithmetic_b257
      have hk : k = 4 ∨ k = 5 := by omega
      rcases hk with rfl | rfl
      · rw [if_pos (show nI 4 = (4 : Int32) from rfl)]; rfl
      · rw [if_neg (show ¬ nI 5 = (4 : Int32) by decide)]; rfl
    have dv : b ≠ -1 → b ≠ 0 → nu_cut k (a / b) = a / b ∧ nu_cut k (a - a / b * b) = a - a / b * b := by
      intro h1 h2
      have hk : k = 4 ∨ k = 5 := by omega
      rcases hk with rfl | rfl
      · exact divI ha h1 h2 hb
      · exact ⟨rfl, rfl⟩
    have c0 : nu_cut k 0 = 0 := by
      have hk : k = 4 ∨ k = 5 := by omega
      rcases hk with rfl | rfl <;> rfl
    have m1 : (lg_cmp b (-1 : Int64) = 0) ↔ b = -1 := lcN
    have b157 : (b ≠ 0 ∨ w < 4) → f_X4_arithmetic_b157 (nI k) a b (if w = 5 then -1 else nI (w - 1)) h = rok (nu_whole w k a b) h := by
      intro hb0
      unfold f_X4_arithmetic_b157 nu_whole f_X4_arithmetic_b233 f_X4_arithmetic_b255
      simp only [lt3, dvJ, c257]
      rcases hw' with rfl | rfl | rfl | rfl | rfl
      · rfl
      · rfl
      · rfl
      · have b0 : b ≠ 0 := by rcases hb0 with z | z; exact z; omega
        rw [if_neg (show ¬ (4 : Nat) = 5 by decide), if_neg (show ¬ nI (4 - 1) = 0 by decide), if_neg (show ¬ nI (4 - 1) = 1 by decide), if_neg (show ¬ nI (4 - 1) = 2 by decide), if_pos (show nI (4 - 1) = 3 from rfl), if_neg (show ¬ (4 : Nat) = 1 by decide), if_neg (show ¬ (4 : Nat) = 2 by decide), if_neg (show ¬ (4 : Nat) = 3 by decide), if_pos (rfl : (4 : Nat) = 4)]
        by_cases d : b = -1
        · rw [if_pos (m1.mpr d), if_pos d]
        · rw [if_neg (fun z => d (m1.mp z)), if_neg d, if_neg b0, (dv d b0).1]
      · have b0 : b ≠ 0 := by rcases hb0 with z | z; exact z; omega
        rw [if_pos (rfl : (5 : Nat) = 5), if_neg (show ¬ (-1 : Int32) = 0 by decide), if_neg (show ¬ (-1 : Int32) = 1 by decide), if_neg (show ¬ (-1 : Int32) = 2 by decide), if_neg (show ¬ (-1 : Int32) = 3 by decide), if_neg (show ¬ (5 : Nat) = 1 by decide), if_neg (show ¬ (5 : Nat) = 2 by decide), if_neg (show ¬ (5 : Nat) = 3 by decide), if_neg (show ¬ (5 : Nat) = 4 by decide)]
        by_cases d : b = -1
        · rw [if_pos (m1.mpr d), if_pos d, c0]
        · rw [if_neg (fun z => d (m1.mp z)), if_neg d, if_neg b0, (dv d b0).2]
    have b44 : (b ≠ 0 ∨ w < 4) → f_X4_arithmetic_b44 a1 (nI k) a b h = rok (nu_whole w k a b) h := by
      intro hb0
      rw [← b157 hb0]
      unfold f_X4_arithmetic_b44
      rw [hh]
      rcases hw' with rfl | rfl | rfl | rfl | rfl
      · rw [show hashL (sgnT 1) 0 = 43 by decide, if_neg (show ¬ (43 : Int32) = 42 by decide), if_pos rfl, t12, if_pos (show sgnT 1 = [43] by decide), if_neg (show ¬ (1 : Int32) = 0 by decide)]; rfl
      · rw [show hashL (sgnT 2) 0 = 45 by decide, if_neg (show ¬ (45 : Int32) = 42 by decide), if_neg (show ¬ (45 : Int32) = 43 by decide), if_neg (show ¬ (45 : Int32) = 44 by decide), if_pos rfl, t14, if_pos (show sgnT 2 = [45] by decide), if_neg (show ¬ (1 : Int32) = 0 by decide)]; rfl
      · rw [show hashL (sgnT 3) 0 = 42 by decide, if_pos rfl, t11, if_pos (show sgnT 3 = [42] by decide), if_neg (show ¬ (1 : Int32) = 0 by decide)]; rfl
      · rw [show hashL (sgnT 4) 0 = 47 by decide, if_neg (show ¬ (47 : Int32) = 42 by decide), if_neg (show ¬ (47 : Int32) = 43 by decide), if_neg (show ¬ (47 : Int32) = 44 by decide), if_neg (show ¬ (47 : Int32) = 45 by decide), if_neg (show ¬ (47 : Int32) = 46 by decide), if_pos rfl, t16, if_pos (show sgnT 4 = [47] by decide), if_neg (show ¬ (1 : Int32) = 0 by decide)]; rfl
      · rw [show hashL (sgnT 5) 0 = 37 by decide, if_neg (show ¬ (37 : Int32) = 42 by decide), if_neg (show ¬ (37 : Int32) = 43 by decide), if_neg (show ¬ (37 : Int32) = 44 by decide), if_neg (show ¬ (37 : Int32) = 45 by decide), if_neg (show ¬ (37 : Int32) = 46 by decide), if_neg (show ¬ (37 : Int32) = 47 by decide)]; rfl
    have b30 : 4 ≤ w → f_X4_arithmetic_b30 a0 a1 (nI k) a b h = if b = 0 then mF a0 8 h else rok (nu_whole w k a b) h := by
      intro h4
      unfold f_X4_arithmetic_b30
      by_cases b0 : b = 0
      · rw [if_pos (lcN.mpr b0), if_pos b0]; rfl
      · rw [if_neg (fun z => b0 (lcN.mp z)), if_neg b0, b44 (.inl b0)]
    have b10 : f_X4_arithmetic_b10 a0 a1 (nI k) a b h = match (if 4 ≤ w ∧ b = 0 then none else some (nu_whole w k a b)) with | some r => rok r h | none => mF a0 8 h := by
      unfold f_X4_arithmetic_b10
      rw [t16]
      have fin4 : 4 ≤ w → f_X4_arithmetic_b30 a0 a1 (nI k) a b h = match (if 4 ≤ w ∧ b = 0 then none else some (nu_whole w k a b)) with | some r => rok r h | none => mF a0 8 h := by
        intro h4
        rw [b30 h4]
        by_cases b0 : b = 0
        · rw [if_pos b0, if_pos (show 4 ≤ w ∧ b = 0 from ⟨h4, b0⟩)]
        · rw [if_neg b0, if_neg (show ¬ (4 ≤ w ∧ b = 0) from fun z => b0 z.2)]
      have fin1 : w < 4 → f_X4_arithmetic_b44 a1 (nI k) a b h = match (if 4 ≤ w ∧ b = 0 then none else some (nu_whole w k a b)) with | some r => rok r h | none => mF a0 8 h := by
        intro h4
        rw [b44 (.inr h4), if_neg (show ¬ (4 ≤ w ∧ b = 0) from fun z => absurd z.1 (by omega))]
      rcases hw' with rfl | rfl | rfl | rfl | rfl
      · rw [if_neg (show ¬ sgnT 1 = [47] by decide), if_pos rfl, t6, if_neg (show ¬ sgnT 1 = [37] by decide), if_pos rfl]; exact fin1 (by omega)
      · rw [if_neg (show ¬ sgnT 2 = [47] by decide), if_pos rfl, t6, if_neg (show ¬ sgnT 2 = [37] by decide), if_pos rfl]; exact fin1 (by omega)
      · rw [if_neg (show ¬ sgnT 3 = [47] by decide), if_pos rfl, t6, if_neg (show ¬ sgnT 3 = [37] by decide), if_pos rfl]; exact fin1 (by omega)
      · rw [if_pos (show sgnT 4 = [47] by decide), if_neg (show ¬ (1 : Int32) = 0 by decide)]; exact fin4 (by omega)
      · rw [if_neg (show ¬ sgnT 5 = [47] by decide), if_pos rfl, t6, if_pos (show sgnT 5 = [37] by decide), if_neg (show ¬ (1 : Int32) = 0 by decide)]; exact fin4 (by omega)
    unfold f_X4_arithmetic
    have hk : k = 4 ∨ k = 5 := by omega
    rcases hk with hk | hk
    · rw [if_pos (e4.mpr hk), b10]
    · rw [if_neg (fun z => absurd (e4.mp z) (by omega)), if_pos (e5.mpr hk), b10]
  · rw [if_neg c6]
    unfold f_X4_arithmetic
    rw [if_neg (fun z => absurd (e4.mp z) (by omega)), if_neg (fun z => absurd (e5.mp z) (by omega))]
    by_cases k6 : k = 6
    · subst k6
      have wa := fW_ok ha.1 ha.2
      have wb := fW_ok hb.1 hb.2
      rw [if_pos (show nI 6 = (6 : Int32) from rfl), i32_uv ha.1, w_wide ha.1 ha.2, bd_ok]
      unfold f_X4_arithmetic_b287
      rw [if_pos (show nI 6 = (6 : Int32) from rfl), i32_uv hb.1, w_wide hb.1 hb.2, bd_ok]
      unfold f_X4_arithmetic_b306
      rw [if_pos k0]
      show bd (f_X4_floating a0 a1 (lN (fW (uv a))) (lN (fW (uv b))) h) _ = _
      rw [m_floating hw1 hw5 wa.1 wb.1 wa.2 wb.2 wg ka ta]
      by_cases hn : nu_none w (fW (uv a)) (fW (uv b))
      · have hn2 : nu_none w (nu_real 6 a) (nu_real 6 b) := hn
        rw [if_pos hn, if_pos hn2, mF_bd]
      · have hn2 : ¬ nu_none w (nu_real 6 a) (nu_real 6 b) := hn
        have o := nu_op_ok64 hw1 hw5 wa.1 wb.1 wa.2 wb.2 hn
        have o2 := nu_op_ok32 hw1 hw5 ha.1 hb.1 ha.2 hb.2 hn
        rw [if_neg hn, if_neg hn2, bd_ok, if_pos (show nI 6 = (6 : Int32) from rfl), w_narrow o.1 o.2, bd_ok]
        show rok ((Int32.toInt64 (nI (fN (nu_op F64 w (fW (uv a)) (fW (uv b)))))) &&& (4294967295 : Int64)) h = _
        rw [fw_op hw1 hw5 ha.1 hb.1 ha.2 hb.2 hn, mask32 o2.1]; rfl
    · have k7 : k = 7 := by omega
      subst k7
      rw [if_neg (show ¬ nI 7 = (6 : Int32) by decide)]
      unfold f_X4_arithmetic_b287
      rw [if_neg (show ¬ nI 7 = (6 : Int32) by decide)]
      unfold f_X4_arithmetic_b306
      rw [if_pos k0]
      have la := uv_lN a
      have lb := uv_lN b
      rw [← la, ← lb, m_floating hw1 hw5 (uv_lt a) (uv_lt b) ha hb wg ka ta, la, lb]
      by_cases hn : nu_none w (uv a) (uv b)
      · have hn2 : nu_none w (nu_real 7 a) (nu_real 7 b) := hn
        rw [if_pos hn, if_pos hn2, mF_bd]
      · have hn2 : ¬ nu_none w (nu_real 7 a) (nu_real 7 b) := hn
        rw [if_neg hn, if_neg hn2, bd_ok, if_neg (show ¬ nI 7 = (6 : Int32) by decide)]; rfl
