/-! PHASE B numbers 7: widening, casts, comparisons, shifts, bits -/
set_option maxRecDepth 100000
theorem ok_whole_cast {k j : Nat} {v : Int64} (hk1 : 1 ≤ k) (hk : k < j) (hj : j ≤ 5) (h : nu_ok k v) (hw : ¬ (j = 3 ∨ (k = 3 ∧ j < 4))) : nu_cut j v = v := by
  have hi : ∀ w : Int64, w.toInt = v.toInt → w = v := fun w z => Int64.toInt_inj.mp z
  unfold nu_ok at h
  unfold nu_cut
  split
  · omega
  · split
    · apply hi; rw [cut16, bm16]; repeat' split at h
      all_goals omega
    · split
      · omega
      · split
        · apply hi; rw [cut32, bm32]; repeat' split at h
          all_goals omega
        · rfl
/-- the twin's widening: a value of a plain kind where another one is wanted, that it fits -/
theorem m_widened {k j : Nat} {v : Int64} (hk1 : 1 ≤ k) (hk : k ≤ 7) (hj : j ≤ 7) (hkj : k = j ∨ (k < j ∧ ¬ (j = 3 ∨ (k = 3 ∧ j < 4)))) (h : nu_ok k v) (hp : HP) : f_X4_widened v (nI k) (nI j) hp = rok (nu_conv k j v) hp := by
  unfold f_X4_widened nu_conv
  by_cases e : k = j
  · rw [if_pos (by rw [e]), if_pos e]
  have hkj' : k < j ∧ ¬ (j = 3 ∨ (k = 3 ∧ j < 4)) := by rcases hkj with z | z; exact absurd z e; exact z
  have l1 : (nI k < (1 : Int32)) ↔ k < 1 := nI_ltI (b := 1) (by omega) (by omega)
  have l8 : ((8 : Int32) ≤ nI k) ↔ 8 ≤ k := nI_leI (a := 8) (by omega) (by omega)
  have j8 : (nI j < (8 : Int32)) ↔ j < 8 := nI_ltI (b := 8) (by omega) (by omega)
  have j7 := nk j (c := 7) (C := 7) rfl (by omega) (by omega)
  have j6 := nk j (c := 6) (C := 6) rfl (by omega) (by omega)
  have k6 := nk k (c := 6) (C := 6) rfl (by omega) (by omega)
  rw [if_neg (fun z => e ((nI_eq (by omega) (by omega)).mp z)), if_neg e, if_neg (fun z => absurd (l1.mp z) (by omega)), if_neg (fun z => absurd (l8.mp z) (by omega)), if_pos (j8.mpr (by omega))]
  by_cases c7 : j = 7
  · rw [if_pos (j7.mpr c7), if_neg (show ¬ j = 6 by omega), if_pos c7]
    by_cases d6 : k = 6
    · subst d6
      rw [if_pos (show nI 6 = (6 : Int32) from rfl), i32_uv h.1, w_wide h.1 h.2, bd_ok]; rfl
    · rw [if_neg (fun z => d6 (k6.mp z)), w_of, bd_ok]
      unfold nu_real
      rw [if_neg d6, if_neg (show ¬ k = 7 by omega)]
  · rw [if_neg (fun z => c7 (j7.mp z))]
    by_cases c6 : j = 6
    · have o := fI32_ok v.toInt
      have wo := fW_ok o.1 o.2
      rw [if_pos (j6.mpr c6), if_pos c6, if_pos (show k < 6 by omega), w_floatOf, bd_ok]
      show bd (f_X46_narrow (lN (fW (Jvm.FP.Core.fromInt F32 v.toInt))) hp) _ = _
      rw [w_narrow wo.1 wo.2, bd_ok]
      show rok ((Int32.toInt64 (nI (fN (fW (Jvm.FP.Core.fromInt F32 v.toInt))))) &&& (4294967295 : Int64)) hp = _
      rw [fN_W o.1 o.2, mask32 o.1]
    · rw [if_neg (fun z => c6 (j6.mp z)), if_neg c6, if_neg c7, if_pos (show k < 6 by omega), ok_whole_cast hk1 hkj'.1 (by omega) h hkj'.2]
theorem m_cut {k : Nat} {v : Int64} (hk : k = 6 ∨ k = 7) (h : nu_ok k v) (j : Nat) (hp : HP) :
    bd (f_X4_cut (lN (nu_real k v)) (if j = 5 then 1 else 0) hp) (fun x1 h2 => rok x1 h2) = rok (if j = 5 then Int64.ofInt (Jvm.FP.Core.toInt (-9223372036854775808) 9223372036854775807 (Jvm.FP.Core.decode F64 (nu_real k v))) else Int64.ofInt (Jvm.FP.Core.toInt (-2147483648) 2147483647 (Jvm.FP.Core.decode F64 (nu_real k v)))) hp := by
  have hr := nu_real_ok h
  unfold f_X4_cut
  rw [bd_rok]
  by_cases c : j = 5
  · rw [if_pos c, if_pos c, if_neg (show ¬ (1 : Int32) = 0 by decide), show (9223372036854775807 : Int64) = lN 9223372036854775807 from rfl, w_cut13 hr.1 hr.2 (by decide)]; rfl
  · rw [if_neg c, if_neg c, if_pos rfl, show (2147483647 : Int64) = lN 2147483647 from rfl, w_cut13 hr.1 hr.2 (by decide)]; rfl
theorem cC (v : Int64) : Int32.toInt64 (UInt32.toInt32 (Int32.toUInt32 (Int64.toInt32 v) % 65536)) = v &&& (65535 : Int64) := by
  rw [pk_char, cutC, nI_l (by omega)]
  congr 1
  have e : (Int64.toInt32 v).toBitVec.toNat = uv v % 2 ^ 32 := by
    have h1 : Int64.toInt32 v = nI (uv v) := by have := lN_i (uv v); rw [uv_lN] at this; exact this
    rw [h1]
    show (BitVec.ofNat 32 (uv v)).toNat = _
    rw [BitVec.toNat_ofNat]
  rw [e]; omega
theorem m_cast93 {j : Nat} (hj : j ≤ 7) (v : Int64) (hp : HP) : f_X4_cast_b93 (nI j) v hp = rok (nu_cut j v) hp := by
  unfold f_X4_cast_b93 nu_cut
  have e1 := nk j (c := 1) (C := 1) rfl (by omega) (by omega)
  have e2 := nk j (c := 2) (C := 2) rfl (by omega) (by omega)
  have e3 := nk j (c := 3) (C := 3) rfl (by omega) (by omega)
  have e4 := nk j (c := 4) (C := 4) rfl (by omega) (by omega)
  by_cases c1 : j = 1
  · rw [if_pos (e1.mpr c1), if_pos c1]
  rw [if_neg (fun z => c1 (e1.mp z)), if_neg c1]
  by_cases c2 : j = 2
  · rw [if_pos (e2.mpr c2), if_pos c2]
  rw [if_neg (fun z => c2 (e2.mp z)), if_neg c2]
  by_cases c3 : j = 3
  · rw [if_pos (e3.mpr c3), if_pos c3, cC]
  rw [if_neg (fun z => c3 (e3.mp z)), if_neg c3]
  by_cases c4 : j = 4
  · rw [if_pos (e4.mpr c4), if_pos c4]
  rw [if_neg (fun z => c4 (e4.mp z)), if_neg c4]
/-- the twin's cast between numbers -/
theorem m_cast {k j : Nat} {v : Int64} (hk1 : 1 ≤ k) (hk : k ≤ 7) (hj1 : 1 ≤ j) (hj : j ≤ 7) (h : nu_ok k v) (hp : HP) : f_X4_cast v (nI k) (nI j) hp = rok (nu_conv k j v) hp := by
  have hr := nu_real_ok h
  have j7 := nk j (c := 7) (C := 7) rfl (by omega) (by omega)
  have j6 := nk j (c := 6) (C := 6) rfl (by omega) (by omega)
  have j5 := nk j (c := 5) (C := 5) rfl (by omega) (by omega)
  have k6 := nk k (c := 6) (C := 6) rfl (by omega) (by omega)
  have k7 := nk k (c := 7) (C := 7) rfl (by omega) (by omega)
  have l6 : ((6 : Int32) ≤ nI k) ↔ 6 ≤ k := nI_leI (a := 6) (by omega) (by omega)
  unfold f_X4_cast
  by_cases e : k = j
  · rw [if_pos (by rw [e])]; unfold nu_conv; rw [if_pos e]
  rw [if_neg (fun z => e ((nI_eq (by omega) (by omega)).mp z))]
  by_cases c7 : j = 7
  · rw [if_pos (j7.mpr c7), bd_rok, m_widened hk1 hk hj (.inr ⟨by omega, by omega⟩) h]
  rw [if_neg (fun z => c7 (j7.mp z))]
  have b32 : (j ≠ 6 ∨ 6 ≤ k) → f_X4_cast_b32 v (nI k) (nI j) hp = rok (nu_conv k j v) hp := by
    intro hh
    unfold f_X4_cast_b32 nu_conv
    rw [if_neg e, if_neg c7]
    by_cases c6 : j = 6
    · have kk : k = 7 := by omega
      subst kk
      have o := fN_ok (uv_lt v) h
      have lv := uv_lN v
      rw [if_pos (j6.mpr c6), if_pos c6, if_neg (show ¬ 7 < 6 by decide)]
      rw [← lv, w_narrow (uv_lt v) h, bd_ok, lv]
      show rok ((Int32.toInt64 (nI (fN (uv v)))) &&& (4294967295 : Int64)) hp = _
      rw [mask32 o.1]; rfl
    · rw [if_neg (fun z => c6 (j6.mp z)), if_neg c6]
      have fl : (k = 6 ∨ k = 7) → f_X4_cast_b63 v (nI k) (nI j) hp = rok (if j = 5 then Int64.ofInt (Jvm.FP.Core.toInt (-9223372036854775808) 9223372036854775807 (Jvm.FP.Core.decode F64 (nu_real k v))) else nu_cut j (Int64.ofInt (Jvm.FP.Core.toInt (-2147483648) 2147483647 (Jvm.FP.Core.decode F64 (nu_real k v))))) hp := by
        intro hk67
        have b78 : f_X4_cast_b78 (nI j) (lN (nu_real k v)) hp = rok (if j = 5 then Int64.ofInt (Jvm.FP.Core.toInt (-9223372036854775808) 9223372036854775807 (Jvm.FP.Core.decode F64 (nu_real k v))) else nu_cut j (Int64.ofInt (Jvm.FP.Core.toInt (-2147483648) 2147483647 (Jvm.FP.Core.decode F64 (nu_real k v))))) hp := by
          have hc := m_cut hk67 h j hp
          rw [bd_rok] at hc
          unfold f_X4_cast_b78
          by_cases c5 : j = 5
          · rw [if_pos (j5.mpr c5), if_pos c5]
            rw [if_pos c5, if_pos c5] at hc
            unfold f_X4_cast_b88
            rw [hc, bd_ok, m_cast93 (by omega), c5]; rfl
          · rw [if_neg (fun z => c5 (j5.mp z)), if_neg c5]
            rw [if_neg c5, if_neg c5] at hc
            unfold f_X4_cast_b88
            rw [hc, bd_ok, m_cast93 (by omega)]
        unfold f_X4_cast_b63
        rcases hk67 with rfl | rfl
        · rw [if_pos (show nI 6 = (6 : Int32) from rfl), i32_uv h.1, w_wide h.1 h.2, bd_ok]; exact b78
        · rw [if_neg (show ¬ nI 7 = (6 : Int32) by decide)]
          have lv : lN (nu_real 7 v) = v := uv_lN v
          rw [lv] at b78; exact b78
      by_cases d6 : k = 6
      · rw [if_pos (k6.mpr d6), if_neg (show ¬ k < 6 by omega), fl (.inl d6)]
      · rw [if_neg (fun z => d6 (k6.mp z))]
        by_cases d7 : k = 7
        · rw [if_pos (k7.mpr d7), if_neg (show ¬ k < 6 by omega), fl (.inr d7)]
        · rw [if_neg (fun z => d7 (k7.mp z)), if_pos (show k < 6 by omega), m_cast93 hj]
  by_cases c6 : j = 6
  · rw [if_pos (j6.mpr c6)]
    by_cases k66 : 6 ≤ k
    · rw [if_pos (l6.mpr k66), b32 (.inr k66)]
    · rw [if_neg (fun z => k66 (l6.mp z)), bd_rok, m_widened hk1 hk hj (.inr ⟨by omega, by omega⟩) h]
  · rw [if_neg (fun z => c6 (j6.mp z)), b32 (.inl c6)]
/-- -1, 0, 1: two values of a kind -/
def nu_cmp (k : Nat) (a b : Int64) : Int32 :=
  if 6 ≤ k then (if fl_key (nu_real k a) < fl_key (nu_real k b) then -1 else if fl_key (nu_real k a) = fl_key (nu_real k b) then 0 else 1) else lg_cmp a b
theorem x_compare {k : Nat} {a b : Int64} (hk : k ≤ 7) (ha : nu_ok k a) (hb : nu_ok k b) (h : HP) : f_X34_compare (nI k) a b h = rok (nu_cmp k a b) h := by
  have ra := nu_real_ok ha
  have rb := nu_real_ok hb
  have l6 : ((6 : Int32) ≤ nI k) ↔ 6 ≤ k := nI_leI (a := 6) (by omega) (by omega)
  unfold f_X34_compare nu_cmp
  by_cases c : 6 ≤ k
  · rw [if_pos (l6.mpr c), if_pos c, x_real hk ha, bd_ok, x_real hk hb, bd_ok, cV ra.1 rb.1 ra.2 rb.2, cV ra.1 rb.1 ra.2 rb.2]
    generalize fl_key (nu_real k a) = p
    generalize fl_key (nu_real k b) = q
    by_cases c1 : q ≤ p
    · rw [if_pos ((triG _ _).mpr c1)]
      by_cases c2 : p ≤ q
      · rw [if_pos ((triL _ _).mpr c2), if_neg (by omega), if_pos (by omega)]
      · rw [if_neg (fun z => c2 ((triL _ _).mp z)), if_neg (by omega), if_neg (by omega)]
    · rw [if_neg (fun z => c1 ((triG _ _).mp z)), if_pos (by omega)]
  · rw [if_neg (fun z => c (l6.mp z)), if_neg c]
/-- what a comparison says: 9 < 10 > 11 <= 12 >= 13 == 14 != -/
def nu_holds (w : Nat) (c : Int32) : Int32 :=
  if w = 9 then (if 0 ≤ c then 0 else 1) else if w = 10 then (if c ≤ 0 then 0 else 1) else if w = 11 then (if 0 < c then 0 else 1) else if w = 12 then (if c < 0 then 0 else 1) else if w = 13 then (if c = 0 then 1 else 0) else (if c = 0 then 0 else 1)
theorem x_holds {w : Nat} (hw : 9 ≤ w) (hw2 : w ≤ 14) (c : Int32) (h : HP) : f_X34_holds (nI w) c h = rok (nu_holds w c) h := by
  have hw' : w = 9 ∨ w = 10 ∨ w = 11 ∨ w = 12 ∨ w = 13 ∨ w = 14 := by omega
  have sp : ∀ (P : Prop) [Decidable P] (x y : Int32), (if P then (rok x h : Rs Int32) else rok y h) = rok (if P then x else y) h := by
    intro P _ x y; by_cases p : P
    · rw [if_pos p, if_pos p]
    · rw [if_neg p, if_neg p]
  unfold f_X34_holds nu_holds
  simp only [sp]
  rcases hw' with rfl | rfl | rfl | rfl | rfl | rfl <;> rfl
def sgnC (w : Nat) : List Nat := if w = 9 then [60] else if w = 10 then [62] else if w = 11 then [60, 61] else if w = 12 then [62, 61] else if w = 13 then [61, 61] else [33, 61]
theorem m_holds {a0 w : Nat} (hw : 9 ≤ w) (hw2 : w ≤ 14) (c : Int32) {h : HP} (wg : WG h) (ka : kc h a0 = 71) (ta : tx h a0 = sgnC w) : f_X4_compared_b50 a0 c h = rok (nu_holds w c) h := by
  have hw' : w = 9 ∨ w = 10 ∨ w = 11 ∨ w = 12 ∨ w = 13 ∨ w = 14 := by omega
  have sp : ∀ (P : Prop) [Decidable P] (x y : Int32), (if P then (rok x h : Rs Int32) else rok y h) = rok (if P then x else y) h := by
    intro P _ x y; by_cases p : P
    · rw [if_pos p, if_pos p]
    · rw [if_neg p, if_neg p]
  have hh : ∀ K : Int32 → Rs Int32, txHash a0 h K = K (hashL (sgnC w) 0) := fun K => by unfold txHash; rw [if_pos ka, ta]
  have e19 : ∀ K : Int32 → Rs Int32, txEq a0 19 h K = K (if sgnC w = [60] then 1 else 0) := fun K => txEq_c wg ka ta (by decide) (by decide) (by decide) K
  have e24 : ∀ K : Int32 → Rs Int32, txEq a0 24 h K = K (if sgnC w = [62] then 1 else 0) := fun K => txEq_c wg ka ta (by decide) (by decide) (by decide) K
  have e5 : ∀ K : Int32 → Rs Int32, txEq a0 5 h K = K (if sgnC w = [33, 61] then 1 else 0) := fun K => txEq_c wg ka ta (by decide) (by decide) (by decide) K
  have e21 : ∀ K : Int32 → Rs Int32, txEq a0 21 h K = K (if sgnC w = [60, 61] then 1 else 0) := fun K => txEq_c wg ka ta (by decide) (by decide) (by decide) K
  have e23 : ∀ K : Int32 → Rs Int32, txEq a0 23 h K = K (if sgnC w = [61, 61] then 1 else 0) := fun K => txEq_c wg ka ta (by decide) (by decide) (by decide) K
  unfold f_X4_compared_b50 f_X4_compared_b194 nu_holds
  simp only [sp, hh, e19, e24, e5, e21, e23]
  rcases hw' with rfl | rfl | rfl | rfl | rfl | rfl <;> rfl
theorem m_compared {a0 w k : Nat} {a b : Int64} (hw : 9 ≤ w) (hw2 : w ≤ 14) (hk : k ≤ 7) (ha : nu_ok k a) (hb : nu_ok k b) {h : HP} (wg : WG h) (ka : kc h a0 = 71) (ta : tx h a0 = sgnC w) :
    f_X4_compared a0 (nI k) a b h = rok (nu_holds w (nu_cmp k a b)) h := by
  have ra := nu_real_ok ha
  have rb := nu_real_ok hb
  have k6 := nk k (c := 6) (C := 6) rfl (by omega) (by omega)
  have k7 := nk k (c := 7) (C := 7) rfl (by omega) (by omega)
  unfold f_X4_compared
  by_cases c6 : k = 6
  · subst c6
    rw [if_pos (show nI 6 = (6 : Int32) from rfl), i32_uv ha.1, i32_uv hb.1, w_wide ha.1 ha.2, bd_ok, w_wide hb.1 hb.2, bd_ok]
    show bd (f_X46_compare (lN (fW (uv a))) (lN (fW (uv b))) h) _ = _
    rw [w_compare (fW_ok ha.1 ha.2).1 (fW_ok hb.1 hb.2).1 (fW_ok ha.1 ha.2).2 (fW_ok hb.1 hb.2).2 0, bd_ok, f64_cmp (fW_ok ha.1 ha.2).1 (fW_ok hb.1 hb.2).1 (fW_ok ha.1 ha.2).2 (fW_ok hb.1 hb.2).2, cmpInt_i, m_holds hw hw2 _ wg ka ta]; rfl
  · rw [if_neg (fun z => c6 (k6.mp z))]
    by_cases c7 : k = 7
    · subst c7
      have la := uv_lN a
      have lb := uv_lN b
      rw [if_pos (show nI 7 = (7 : Int32) from rfl), ← la, ← lb, w_compare (uv_lt a) (uv_lt b) ha hb 0, bd_ok, f64_cmp (uv_lt a) (uv_lt b) ha hb, cmpInt_i, m_holds hw hw2 _ wg ka ta, la, lb]; rfl
    · rw [if_neg (fun z => c7 (k7.mp z))]
      simp only [lt3]
      rw [m_holds hw hw2 _ wg ka ta]
      unfold nu_cmp
      rw [if_neg (show ¬ 6 ≤ k by omega)]
