/-! PHASE B numbers 1: what the language does with plain values, by their bits -/
set_option maxRecDepth 100000
abbrev cA64 : Nat → Nat → Nat := Jvm.FP.Core.add F64
/-- bits as a whole number -/
def uv (v : Int64) : Nat := v.toBitVec.toNat
theorem uv_lt (v : Int64) : uv v < 2 ^ 64 := v.toBitVec.isLt
theorem uv_lN (v : Int64) : lN (uv v) = v := wb_inj (by rw [wb_tb]; unfold uv; simp)
theorem lN_uv {n : Nat} (h : n < 2 ^ 64) : uv (lN n) = n := wb_tn h
theorem uv_int (v : Int64) : v.toInt = if uv v < 2 ^ 63 then (uv v : Int) else (uv v : Int) - 2 ^ 64 := by
  have := lN_toI (uv_lt v); rw [uv_lN] at this; exact this
/-- which bits a kind has -/
def nu_ok (k : Nat) (v : Int64) : Prop :=
  if k = 0 then v.toInt = 0 ∨ v.toInt = 1 else if k = 1 then -128 ≤ v.toInt ∧ v.toInt < 128 else if k = 2 then -32768 ≤ v.toInt ∧ v.toInt < 32768
  else if k = 3 then 0 ≤ v.toInt ∧ v.toInt < 65536 else if k = 4 then -2147483648 ≤ v.toInt ∧ v.toInt < 2147483648 else if k = 5 then True
  else if k = 6 then uv v < 2 ^ 32 ∧ uv v % 2 ^ 31 ≤ INF32 else if k = 7 then uv v % 2 ^ 63 ≤ INF64 else True
/-- a floating or whole value as a double's bits -/
def nu_real (k : Nat) (v : Int64) : Nat := if k = 6 then fW (uv v) else if k = 7 then uv v else Jvm.FP.Core.fromInt F64 v.toInt
/-- cut to a whole kind -/
def nu_cut (k : Nat) (v : Int64) : Int64 :=
  if k = 1 then Int32.toInt64 (Int8.toInt32 (Int32.toInt8 (Int64.toInt32 v))) else if k = 2 then Int32.toInt64 (Int16.toInt32 (Int32.toInt16 (Int64.toInt32 v)))
  else if k = 3 then v &&& (65535 : Int64) else if k = 4 then Int32.toInt64 (Int64.toInt32 v) else v
/-- a value of one kind as one of another -/
def nu_conv (k j : Nat) (v : Int64) : Int64 :=
  if k = j then v else if j = 6 then (if k < 6 then lN (Jvm.FP.Core.fromInt F32 v.toInt) else lN (fN (nu_real k v)))
  else if j = 7 then lN (nu_real k v) else if k < 6 then nu_cut j v
  else if j = 5 then Int64.ofInt (Jvm.FP.Core.toInt (-9223372036854775808) 9223372036854775807 (Jvm.FP.Core.decode F64 (nu_real k v)))
  else nu_cut j (Int64.ofInt (Jvm.FP.Core.toInt (-2147483648) 2147483647 (Jvm.FP.Core.decode F64 (nu_real k v))))
theorem nk (k : Nat) {c : Nat} {C : Int32} (hC : C = nI c) (hk : k < 2 ^ 31) (hc : c < 2 ^ 31) : (nI k = C) ↔ k = c := by rw [hC]; exact nI_eq hk hc
theorem bm8 (x : Int) : x.bmod (2 ^ 8) = x ↔ -128 ≤ x ∧ x < 128 := by rw [Int.bmod_def]; split <;> omega
theorem bm16 (x : Int) : x.bmod (2 ^ 16) = x ↔ -32768 ≤ x ∧ x < 32768 := by rw [Int.bmod_def]; split <;> omega
theorem bm32 (x : Int) : x.bmod (2 ^ 32) = x ↔ -2147483648 ≤ x ∧ x < 2147483648 := by rw [Int.bmod_def]; split <;> omega
theorem bm32_8 (x : Int) : (x.bmod (2 ^ 32)).bmod (2 ^ 8) = x.bmod (2 ^ 8) := by
  rw [Int.bmod_def, Int.bmod_def, Int.bmod_def]
  repeat' split
  all_goals omega
theorem bm32_16 (x : Int) : (x.bmod (2 ^ 32)).bmod (2 ^ 16) = x.bmod (2 ^ 16) := by
  rw [Int.bmod_def, Int.bmod_def, Int.bmod_def]
  repeat' split
  all_goals omega
theorem cut8 (v : Int64) : (Int32.toInt64 (Int8.toInt32 (Int32.toInt8 (Int64.toInt32 v)))).toInt = v.toInt.bmod (2 ^ 8) := by
  rw [Int32.toInt_toInt64, Int8.toInt_toInt32, Int32.toInt_toInt8, Int64.toInt_toInt32, bm32_8]
theorem cut16 (v : Int64) : (Int32.toInt64 (Int16.toInt32 (Int32.toInt16 (Int64.toInt32 v)))).toInt = v.toInt.bmod (2 ^ 16) := by
  rw [Int32.toInt_toInt64, Int16.toInt_toInt32, Int32.toInt_toInt16, Int64.toInt_toInt32, bm32_16]
theorem cut32 (v : Int64) : (Int32.toInt64 (Int64.toInt32 v)).toInt = v.toInt.bmod (2 ^ 32) := by rw [Int32.toInt_toInt64, Int64.toInt_toInt32]
theorem cutC (v : Int64) : v &&& (65535 : Int64) = lN (uv v % 2 ^ 16) := by
  have := wb_mask (n := uv v) (k := 16) (uv_lt v) (by decide); rw [uv_lN] at this; exact this
theorem cutF (v : Int64) : v &&& (4294967295 : Int64) = lN (uv v % 2 ^ 32) := by
  have := wb_mask (n := uv v) (k := 32) (uv_lt v) (by decide); rw [uv_lN] at this; exact this
theorem cut31 (v : Int64) : v &&& (2147483647 : Int64) = lN (uv v % 2 ^ 31) := by
  have := wb_mask (n := uv v) (k := 31) (uv_lt v) (by decide); rw [uv_lN] at this; exact this
theorem cut63 (v : Int64) : v &&& (9223372036854775807 : Int64) = lN (uv v % 2 ^ 63) := by
  have := lN_top (a := uv v) (uv_lt v); rw [uv_lN] at this; exact this
theorem lcI_eq (v w : Int64) : (lg_cmp v w = 0) ↔ v.toInt = w.toInt := by rw [lg_cmp_eq, Int64.toInt_inj]
theorem nu_cut_id {k j : Nat} {v : Int64} (hk : k < 6) (hj : j < 6) (h : nu_ok k v) (hw : k = 0 ∨ k = j ∨ (j = 2 ∧ k = 1) ∨ (4 ≤ j ∧ k ≤ j)) : nu_cut j v = v := by
  have hi : ∀ w : Int64, w.toInt = v.toInt → w = v := fun w z => Int64.toInt_inj.mp z
  have hu := uv_int v
  have hul := uv_lt v
  unfold nu_ok at h
  unfold nu_cut
  split
  · apply hi; rw [cut8, bm8]; repeat' split at h
    all_goals omega
  · split
    · apply hi; rw [cut16, bm16]; repeat' split at h
      all_goals omega
    · split
      · rw [cutC]; apply hi; rw [lN_toI (by omega), if_pos (by omega)]; repeat' split at h
        all_goals (split at hu <;> omega)
      · split
        · apply hi; rw [cut32, bm32]; repeat' split at h
          all_goals omega
        · rfl
