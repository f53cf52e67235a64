/-! PHASE B numbers 8: shifts, which bits a kind has, orders -/
set_option maxRecDepth 100000
theorem t32 (v : Int64) : (Int64.toInt32 v) = nI (uv v % 2 ^ 32) := by
  apply Int32.toBitVec_inj.mp
  apply BitVec.eq_of_toNat_eq
  have h1 : Int64.toInt32 v = nI (uv v) := by have := lN_i (uv v); rw [uv_lN] at this; exact this
  rw [h1]
  show (BitVec.ofNat 32 (uv v)).toNat = (BitVec.ofNat 32 (uv v % 2 ^ 32)).toNat
  rw [BitVec.toNat_ofNat, BitVec.toNat_ofNat, Nat.mod_mod]
theorem msk (n : Int32) (k : Nat) (hk : k ≤ 6) : ∃ s, s < 2 ^ k ∧ n &&& nI (2 ^ k - 1) = nI s := by
  refine ⟨n.toBitVec.toNat % 2 ^ k, Nat.mod_lt _ (Nat.two_pow_pos k), pk_and n k ?_⟩
  rw [pk_tn]
  have : 2 ^ k ≤ 2 ^ 6 := Nat.pow_le_pow_right (by omega) hk
  omega
/-- shifted: 6 << 7 >> 8 >>> -/
def nu_shift (w k : Nat) (a n : Int64) : Int64 :=
  if k = 5 then (if w = 6 then a <<< (Int32.toInt64 (Int64.toInt32 n) &&& 63) else if w = 7 then a >>> (Int32.toInt64 (Int64.toInt32 n) &&& 63) else UInt64.toInt64 (Int64.toUInt64 a >>> (Int64.toUInt64 (Int32.toInt64 (Int64.toInt32 n)) &&& Int64.toUInt64 63)))
  else (if w = 6 then Int32.toInt64 (Int64.toInt32 a <<< (Int64.toInt32 n &&& 31)) else if w = 7 then Int32.toInt64 (Int64.toInt32 a >>> (Int64.toInt32 n &&& 31)) else Int32.toInt64 (UInt32.toInt32 (Int32.toUInt32 (Int64.toInt32 a) >>> (Int32.toUInt32 (Int64.toInt32 n) &&& Int32.toUInt32 31))))
def sgnS (w : Nat) : List Nat := if w = 6 then [60, 60] else if w = 7 then [62, 62] else [62, 62, 62]
theorem m_shifted {a0 w k : Nat} {a n : Int64} (hw : 6 ≤ w) (hw2 : w ≤ 8) (hk : k = 4 ∨ k = 5) {h : HP} (wg : WG h) (ka : kc h a0 = 71) (ta : tx h a0 = sgnS w) : f_X4_shifted a0 (nI k) a n h = rok (nu_shift w k a n) h := by
  have hw' : w = 6 ∨ w = 7 ∨ w = 8 := by omega
  have e20 : ∀ K : Int32 → Rs Int64, txEq a0 20 h K = K (if sgnS w = [60, 60] then 1 else 0) := fun K => txEq_c wg ka ta (by decide) (by decide) (by decide) K
  have e26 : ∀ K : Int32 → Rs Int64, txEq a0 26 h K = K (if sgnS w = [62, 62] then 1 else 0) := fun K => txEq_c wg ka ta (by decide) (by decide) (by decide) K
  unfold f_X4_shifted nu_shift
  simp only [lt3, e20, e26]
  rcases hk with rfl | rfl <;> rcases hw' with rfl | rfl | rfl <;> rfl
theorem a31 (n : Int32) : ∃ s, s < 32 ∧ n &&& (31 : Int32) = nI s := msk n 5 (by omega)
theorem a63 (n : Int32) : ∃ s, s < 64 ∧ n &&& (63 : Int32) = nI s := msk n 6 (by omega)
theorem nI31 {s : Nat} (h : s < 32) : nI s &&& (31 : Int32) = nI s := by
  have := pk_andN (n := s) (by omega) (m := (31 : Int32)) 5 (by decide); rw [this, Nat.mod_eq_of_lt h]
theorem s63 (n : Int32) : Int32.toInt64 (n &&& (63 : Int32)) &&& 63 = Int32.toInt64 n &&& 63 := by
  obtain ⟨s, hs, e⟩ := a63 n
  have h1 : Int32.toInt64 n &&& 63 = lN (uv (Int32.toInt64 n) % 2 ^ 6) := by
    have := wb_mask (n := uv (Int32.toInt64 n)) (k := 6) (uv_lt _) (by decide); rw [uv_lN] at this; exact this
  have h2 : n &&& (63 : Int32) = nI (n.toBitVec.toNat % 2 ^ 6) := pk_and n 6 (by decide)
  have h3 : uv (Int32.toInt64 n) % 2 ^ 6 = n.toBitVec.toNat % 2 ^ 6 := by
    have a1 := uv_int (Int32.toInt64 n)
    rw [Int32.toInt_toInt64] at a1
    have a2 : n.toInt = if 2 * n.toBitVec.toNat < 2 ^ 32 then (n.toBitVec.toNat : Int) else (n.toBitVec.toNat : Int) - 2 ^ 32 := BitVec.toInt_eq_toNat_cond _
    have a3 := uv_lt (Int32.toInt64 n)
    have a4 := n.toBitVec.isLt
    rw [a2] at a1
    split at a1 <;> split at a1 <;> omega
  rw [h1, h3, h2, wb_c _ (by omega)]
theorem u63 (n : Int32) : Int64.toUInt64 (Int32.toInt64 (n &&& (63 : Int32))) &&& Int64.toUInt64 63 = Int64.toUInt64 (Int32.toInt64 n) &&& Int64.toUInt64 63 := by
  have := congrArg Int64.toUInt64 (s63 n)
  exact this
theorem u31 (n : Int32) : Int32.toUInt32 (n &&& (31 : Int32)) &&& Int32.toUInt32 31 = Int32.toUInt32 n &&& Int32.toUInt32 31 := by
  have : (n &&& (31 : Int32)) &&& (31 : Int32) = n &&& (31 : Int32) := by
    obtain ⟨s, hs, e⟩ := a31 n; rw [e, nI31 hs]
  exact congrArg Int32.toUInt32 this
theorem shlI (a : Int64) {s : Nat} (hs : s < 32) : Int64.toInt32 (a <<< (Int32.toInt64 (nI s) &&& 63)) = Int64.toInt32 a <<< (nI s) := by
  have h1 : a <<< (Int32.toInt64 (nI s) &&& 63) = lN (uv a * 2 ^ s) := by have := wb_shl (uv a) (k := s) (by omega); rw [uv_lN] at this; exact this
  rw [h1, lN_i, t32 a]
  apply Int32.toBitVec_inj.mp
  rw [Int32.toBitVec_shiftLeft]
  have hsm : ((nI s).toBitVec.smod 32) = BitVec.ofNat 32 s := (by decide +kernel : ∀ s, s < 32 → ((nI s).toBitVec.smod 32) = BitVec.ofNat 32 s) s hs
  rw [hsm]
  apply BitVec.eq_of_toNat_eq
  rw [BitVec.shiftLeft_eq', BitVec.toNat_shiftLeft, BitVec.toNat_ofNat, Nat.mod_eq_of_lt (by omega : s < 2 ^ 32), Nat.shiftLeft_eq]
  show (BitVec.ofNat 32 (uv a * 2 ^ s)).toNat = (BitVec.ofNat 32 (uv a % 2 ^ 32)).toNat * 2 ^ s % 2 ^ 32
  rw [BitVec.toNat_ofNat, BitVec.toNat_ofNat, Nat.mod_mod, Nat.mod_mul_mod]
theorem shrI {a : Int64} (ha : nu_ok 4 a) {s : Nat} (hs : s < 32) : a >>> (Int32.toInt64 (nI s) &&& 63) = Int32.toInt64 (Int64.toInt32 a >>> (nI s)) := by
  have ha' : -2147483648 ≤ a.toInt ∧ a.toInt < 2147483648 := ha
  apply Int64.toInt_inj.mp
  rw [Int32.toInt_toInt64]
  have h1 : (a >>> (Int32.toInt64 (nI s) &&& 63)).toInt = a.toInt / 2 ^ s := by
    show (a >>> (Int32.toInt64 (nI s) &&& 63)).toBitVec.toInt = _
    rw [Int64.toBitVec_shiftRight, wb_c s (by omega), wb_tb, wb_sm s (by omega), BitVec.toInt_sshiftRight', BitVec.toNat_ofNat, Nat.mod_eq_of_lt (by omega : s < 2 ^ 64), Int.shiftRight_eq_div_pow]; rfl
  have h2 : (Int64.toInt32 a >>> (nI s)).toInt = (Int64.toInt32 a).toInt / 2 ^ s := by
    show (Int64.toInt32 a >>> (nI s)).toBitVec.toInt = _
    have hsm : ((nI s).toBitVec.smod 32) = BitVec.ofNat 32 s := (by decide +kernel : ∀ s, s < 32 → ((nI s).toBitVec.smod 32) = BitVec.ofNat 32 s) s hs
    rw [Int32.toBitVec_shiftRight, hsm, BitVec.toInt_sshiftRight', BitVec.toNat_ofNat, Nat.mod_eq_of_lt (by omega : s < 2 ^ 32), Int.shiftRight_eq_div_pow]; rfl
  rw [h1, h2, Int64.toInt_toInt32, (bm32 _).mpr ha']
theorem x_shift {w k : Nat} {a n : Int64} (hw : 6 ≤ w) (hw2 : w ≤ 8) (hk : k = 4 ∨ k = 5) (ha : nu_ok k a) (h : HP) : f_X34_shift (nI w) (nI k) a n h = rok (nu_shift w k a n) h := by
  have hw' : w = 6 ∨ w = 7 ∨ w = 8 := by omega
  obtain ⟨s, hs, es⟩ := a31 (Int64.toInt32 n)
  unfold f_X34_shift nu_shift
  simp only [f_X34_shift_b15, lt3, bd_rok]
  rcases hk with rfl | rfl
  · rw [if_neg (show ¬ nI 4 = (5 : Int32) by decide), if_neg (show ¬ (4 : Nat) = 5 by decide)]
    rcases hw' with rfl | rfl | rfl
    · rw [if_pos (show nI 6 = (6 : Int32) from rfl), x_cut (by omega), if_pos (rfl : (6 : Nat) = 6)]
      unfold nu_cut
      rw [if_neg (by decide), if_neg (by decide), if_neg (by decide), if_pos rfl, es, shlI a hs]
    · rw [if_neg (show ¬ nI 7 = (6 : Int32) by decide), if_pos (show nI 7 = (7 : Int32) from rfl), if_neg (show ¬ (7 : Nat) = 6 by decide), if_pos (rfl : (7 : Nat) = 7), es, shrI ha hs]
    · rw [if_neg (show ¬ nI 8 = (6 : Int32) by decide), if_neg (show ¬ nI 8 = (7 : Int32) by decide), if_neg (show ¬ nI 4 = (5 : Int32) by decide), if_neg (show ¬ (8 : Nat) = 6 by decide), if_neg (show ¬ (8 : Nat) = 7 by decide), u31]
  · rw [if_pos (show nI 5 = (5 : Int32) from rfl), if_pos (rfl : (5 : Nat) = 5)]
    rcases hw' with rfl | rfl | rfl
    · rw [if_pos (show nI 6 = (6 : Int32) from rfl), x_cut (by omega), if_pos (rfl : (6 : Nat) = 6), s63]; rfl
    · rw [if_neg (show ¬ nI 7 = (6 : Int32) by decide), if_pos (show nI 7 = (7 : Int32) from rfl), if_neg (show ¬ (7 : Nat) = 6 by decide), if_pos (rfl : (7 : Nat) = 7), s63]
    · rw [if_neg (show ¬ nI 8 = (6 : Int32) by decide), if_neg (show ¬ nI 8 = (7 : Int32) by decide), if_pos (show nI 5 = (5 : Int32) from rfl), if_neg (show ¬ (8 : Nat) = 6 by decide), if_neg (show ¬ (8 : Nat) = 7 by decide), u63]
theorem spI (P : Prop) [Decidable P] (x y : Int32) (h : HP) : (if P then (rok x h : Rs Int32) else rok y h) = rok (if P then x else y) h := by
  by_cases p : P
  · rw [if_pos p, if_pos p]
  · rw [if_neg p, if_neg p]
theorem pB_c {P Q : Prop} [Decidable P] (h : P ↔ Q) : (if P then (1 : Int32) else 0) = pB Q := by
  by_cases p : P
  · rw [if_pos p, pBt (h.mp p)]
  · rw [if_neg p, pBf (fun z => p (h.mpr z))]
theorem pB_n {P Q : Prop} [Decidable P] (h : P ↔ ¬ Q) : (if P then (0 : Int32) else 1) = pB Q := by
  by_cases p : P
  · rw [if_pos p, pBf (h.mp p)]
  · rw [if_neg p, pBt (Classical.byContradiction fun z => p (h.mpr z))]
theorem lcT_lt (v C : Int64) : (lg_cmp v C < 0) ↔ v.toInt < C.toInt := by rw [lg_cmp_lt, Int64.lt_iff_toInt_lt]
theorem lcT_gt (v C : Int64) : (0 < lg_cmp v C) ↔ C.toInt < v.toInt := by rw [lg_cmp_gt, Int64.lt_iff_toInt_lt]
/-- which bits a kind has: the component -/
theorem x_isBits {k : Nat} (hk : k ≤ 7) (v : Int64) (h : HP) : f_X34_isBits (nI k) v h = rok (pB (nu_ok k v)) h := by
  have hk' : k = 0 ∨ k = 1 ∨ k = 2 ∨ k = 3 ∨ k = 4 ∨ k = 5 ∨ k = 6 ∨ k = 7 := by omega
  have hu := uv_int v
  have hl := uv_lt v
  unfold f_X34_isBits
  simp only [spI]
  rcases hk' with rfl | rfl | rfl | rfl | rfl | rfl | rfl | rfl
  · rw [if_pos (show nI 0 = 0 from rfl)]
    have e0 := lcI_eq v 0
    have e1 := lcI_eq v 1
    rw [show (0 : Int64).toInt = 0 from rfl] at e0
    rw [show (1 : Int64).toInt = 1 from rfl] at e1
    by_cases c : v.toInt = 0
    · rw [if_pos (e0.mpr c), pBt (.inl c)]
    · rw [if_neg (fun z => c (e0.mp z))]
      congr 1
      refine pB_c (e1.trans ?_)
      exact ⟨fun z => .inr z, fun z => by rcases z with z | z; exact absurd z c; exact z⟩
  · rw [if_neg (show ¬ nI 1 = 0 by decide), if_pos (show nI 1 = 1 from rfl)]
    congr 1
    refine pB_c ((lcI_eq _ _).trans ?_)
    rw [cut8, eq_comm]; exact bm8 _
  · rw [if_neg (show ¬ nI 2 = 0 by decide), if_neg (show ¬ nI 2 = 1 by decide), if_pos (show nI 2 = 2 from rfl)]
    congr 1
    refine pB_c ((lcI_eq _ _).trans ?_)
    rw [cut16, eq_comm]; exact bm16 _
  · rw [if_neg (show ¬ nI 3 = 0 by decide), if_neg (show ¬ nI 3 = 1 by decide), if_neg (show ¬ nI 3 = 2 by decide), if_pos (show nI 3 = 3 from rfl)]
    congr 1
    refine pB_c ((lcI_eq _ _).trans ?_)
    rw [cutC, lN_toI (by omega), if_pos (by omega)]
    show _ ↔ (0 ≤ v.toInt ∧ v.toInt < 65536)
    split at hu <;> omega
  · rw [if_neg (show ¬ nI 4 = 0 by decide), if_neg (show ¬ nI 4 = 1 by decide), if_neg (show ¬ nI 4 = 2 by decide), if_neg (show ¬ nI 4 = 3 by decide), if_pos (show nI 4 = 4 from rfl)]
    congr 1
    refine pB_c ((lcI_eq _ _).trans ?_)
    rw [cut32, eq_comm]; exact bm32 _
  · rw [if_neg (show ¬ nI 5 = 0 by decide), if_neg (show ¬ nI 5 = 1 by decide), if_neg (show ¬ nI 5 = 2 by decide), if_neg (show ¬ nI 5 = 3 by decide), if_neg (show ¬ nI 5 = 4 by decide), if_pos (show nI 5 = 5 from rfl), pBt (show nu_ok 5 v from trivial)]
  · rw [if_neg (show ¬ nI 6 = 0 by decide), if_neg (show ¬ nI 6 = 1 by decide), if_neg (show ¬ nI 6 = 2 by decide), if_neg (show ¬ nI 6 = 3 by decide), if_neg (show ¬ nI 6 = 4 by decide), if_neg (show ¬ nI 6 = 5 by decide), if_pos (show nI 6 = 6 from rfl)]
    have e1 := lcI_eq v (v &&& (4294967295 : Int64))
    rw [cutF, lN_toI (by omega), if_pos (by omega)] at e1
    rw [cutF, cut31]
    by_cases c : uv v < 2 ^ 32
    · rw [if_pos (e1.mpr (by split at hu <;> omega))]
      congr 1
      refine pB_n ((lc_gt (C := (2139095040 : Int64)) (c := 2139095040) rfl (by omega) (by omega)).trans ?_)
      show _ ↔ ¬ (uv v < 2 ^ 32 ∧ uv v % 2 ^ 31 ≤ INF32)
      unfold INF32; omega
    · rw [if_neg (fun z => by have := e1.mp z; split at hu <;> omega), pBf (fun z => c z.1)]
  · rw [if_neg (show ¬ nI 7 = 0 by decide), if_neg (show ¬ nI 7 = 1 by decide), if_neg (show ¬ nI 7 = 2 by decide), if_neg (show ¬ nI 7 = 3 by decide), if_neg (show ¬ nI 7 = 4 by decide), if_neg (show ¬ nI 7 = 5 by decide), if_neg (show ¬ nI 7 = 6 by decide), if_pos (show nI 7 = 7 from rfl), cut63]
    congr 1
    refine pB_n ((lc_gt (C := (9218868437227405312 : Int64)) (c := 9218868437227405312) rfl (by omega) (by omega)).trans ?_)
    show _ ↔ ¬ (uv v % 2 ^ 63 ≤ INF64)
    unfold INF64; omega
/-- and the twin -/
theorem m_hasBits {k : Nat} (hk : k ≤ 7) (v : Int64) (h : HP) : f_X4_hasBits (nI k) v h = rok (pB (nu_ok k v)) h := by
  have hk' : k = 0 ∨ k = 1 ∨ k = 2 ∨ k = 3 ∨ k = 4 ∨ k = 5 ∨ k = 6 ∨ k = 7 := by omega
  have hu := uv_int v
  have hl := uv_lt v
  have two : ∀ (lo hi : Int64) (Q : Prop), ((lo.toInt ≤ v.toInt ∧ v.toInt ≤ hi.toInt) ↔ Q) → (if lg_cmp v lo < 0 then (rok (0 : Int32) h) else (if 0 < lg_cmp v hi then (rok (0 : Int32) h) else rok (1 : Int32) h)) = rok (pB Q) h := by
    intro lo hi Q hq
    have a := lcT_lt v lo
    have b := lcT_gt v hi
    by_cases c : v.toInt < lo.toInt
    · rw [if_pos (a.mpr c), pBf (fun z => by have := hq.mpr z; omega)]
    · rw [if_neg (fun z => c (a.mp z))]
      by_cases d : hi.toInt < v.toInt
      · rw [if_pos (b.mpr d), pBf (fun z => by have := hq.mpr z; omega)]
      · rw [if_neg (fun z => d (b.mp z)), pBt (hq.mp ⟨by omega, by omega⟩)]
  unfold f_X4_hasBits
  rcases hk' with rfl | rfl | rfl | rfl | rfl | rfl | rfl | rfl
  · rw [if_pos (show nI 0 = 0 from rfl)]
    have e0 := lcI_eq v 0
    have e1 := lcI_eq v 1
    rw [show (0 : Int64).toInt = 0 from rfl] at e0
    rw [show (1 : Int64).toInt = 1 from rfl] at e1
    by_cases c : v.toInt = 0
    · rw [if_pos (e0.mpr c), pBt (.inl c)]
    · rw [if_neg (fun z => c (e0.mp z)), spI]
      congr 1
      refine pB_c (e1.trans ?_)
      exact ⟨fun z => .inr z, fun z => by rcases z with z | z; exact absurd z c; exact z⟩
  · rw [if_neg (show ¬ nI 1 = 0 by decide), if_pos (show nI 1 = 1 from rfl)]
    refine two _ _ _ ?_
    show (-128 ≤ v.toInt ∧ v.toInt ≤ 127) ↔ (-128 ≤ v.toInt ∧ v.toInt < 128)
    omega
  · rw [if_neg (show ¬ nI 2 = 0 by decide), if_neg (show ¬ nI 2 = 1 by decide), if_pos (show nI 2 = 2 from rfl)]
    refine two _ _ _ ?_
    show (-32768 ≤ v.toInt ∧ v.toInt ≤ 32767) ↔ (-32768 ≤ v.toInt ∧ v.toInt < 32768)
    omega
  · rw [if_neg (show ¬ nI 3 = 0 by decide), if_neg (show ¬ nI 3 = 1 by decide), if_neg (show ¬ nI 3 = 2 by decide), if_pos (show nI 3 = 3 from rfl)]
    refine two _ _ _ ?_
    show (0 ≤ v.toInt ∧ v.toInt ≤ 65535) ↔ (0 ≤ v.toInt ∧ v.toInt < 65536)
    omega
  · rw [if_neg (show ¬ nI 4 = 0 by decide), if_neg (show ¬ nI 4 = 1 by decide), if_neg (show ¬ nI 4 = 2 by decide), if_neg (show ¬ nI 4 = 3 by decide), if_pos (show nI 4 = 4 from rfl)]
    refine two _ _ _ ?_
    show (-2147483648 ≤ v.toInt ∧ v.toInt ≤ 2147483647) ↔ (-2147483648 ≤ v.toInt ∧ v.toInt < 2147483648)
    omega
  · rw [if_neg (show ¬ nI 5 = 0 by decide), if_neg (show ¬ nI 5 = 1 by decide), if_neg (show ¬ nI 5 = 2 by decide), if_neg (show ¬ nI 5 = 3 by decide), if_neg (show ¬ nI 5 = 4 by decide), if_pos (show nI 5 = 5 from rfl), pBt (show nu_ok 5 v from trivial)]
  · rw [if_neg (show ¬ nI 6 = 0 by decide), if_neg (show ¬ nI 6 = 1 by decide), if_neg (show ¬ nI 6 = 2 by decide), if_neg (show ¬ nI 6 = 3 by decide), if_neg (show ¬ nI 6 = 4 by decide), if_neg (show ¬ nI 6 = 5 by decide), if_pos (show nI 6 = 6 from rfl)]
    have a := lcT_lt v 0
    have b := lcT_gt v 4294967295
    rw [show (0 : Int64).toInt = 0 from rfl] at a
    rw [show (4294967295 : Int64).toInt = 4294967295 from rfl] at b
    by_cases c : uv v < 2 ^ 32
    · rw [if_neg (fun z => by have := a.mp z; split at hu <;> omega), if_neg (fun z => by have := b.mp z; split at hu <;> omega), i32_uv c]
      by_cases d : uv v % 2 ^ 31 ≤ INF32
      · have wo := fW_ok c d
        rw [w_wide c d, bd_ok]
        show bd (f_X46_isNone (lN (fW (uv v))) h) _ = _
        rw [w_none wo.1, bd_ok, zBf (by omega), if_pos rfl, pBt (show nu_ok 6 v from ⟨c, d⟩)]
      · obtain ⟨w, w1, w2, w3⟩ := w_wideN c (by omega : INF32 < uv v % 2 ^ 31) h
        rw [w3, bd_ok, w_none w1, bd_ok, zBt w2, if_neg (by decide), pBf (fun z : nu_ok 6 v => d z.2)]
    · have hz : pB (nu_ok 6 v) = 0 := pBf (fun z => c z.1)
      rw [hz]
      by_cases d : v.toInt < 0
      · rw [if_pos (a.mpr d)]
      · rw [if_neg (fun z => d (a.mp z)), if_pos (b.mpr (by split at hu <;> omega))]
  · rw [if_neg (show ¬ nI 7 = 0 by decide), if_neg (show ¬ nI 7 = 1 by decide), if_neg (show ¬ nI 7 = 2 by decide), if_neg (show ¬ nI 7 = 3 by decide), if_neg (show ¬ nI 7 = 4 by decide), if_neg (show ¬ nI 7 = 5 by decide), if_neg (show ¬ nI 7 = 6 by decide), if_pos (show nI 7 = 7 from rfl)]
    have lv := uv_lN v
    rw [← lv, w_none (uv_lt v), bd_ok, lv]
    by_cases d : INF64 < uv v % 2 ^ 63
    · rw [zBt d, if_neg (by decide), pBf (show ¬ nu_ok 7 v from fun z => by have z2 : uv v % 2 ^ 63 ≤ INF64 := z; omega)]
    · rw [zBf d, if_pos rfl, pBt (show nu_ok 7 v from (by omega : uv v % 2 ^ 63 ≤ INF64))]
