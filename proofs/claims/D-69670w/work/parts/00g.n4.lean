/-! PHASE B numbers 4: the component's arithmetic, walked -/
set_option maxRecDepth 100000
theorem cV {x y : Nat} (hx : x < 2 ^ 64) (hy : y < 2 ^ 64) (nx : x % 2 ^ 63 ≤ INF64) (ny : y % 2 ^ 63 ≤ INF64) (o : Jvm.ClassFile.CmpOp) :
    Jvm.Op.cmpValue (Jvm.FP.dcmp (UInt64.ofNat x) (UInt64.ofNat y)) o = if fl_key x < fl_key y then -1 else if fl_key x = fl_key y then 0 else 1 := by
  have e : Jvm.FP.dcmp (UInt64.ofNat x) (UInt64.ofNat y) = some (compare (fl_key x) (fl_key y)) := by
    show Jvm.FP.Core.cmp F64 (UInt64.ofNat x).toNat (UInt64.ofNat y).toNat = _
    rw [u64_n hx, u64_n hy, f64_cmp hx hy nx ny]
  rw [e]
  show Jvm.Op.cmpValue (some (if fl_key x < fl_key y then .lt else if fl_key x = fl_key y then .eq else .gt)) o = _
  by_cases k : fl_key x < fl_key y
  · rw [if_pos k, if_pos k]; rfl
  · rw [if_neg k, if_neg k]
    by_cases l : fl_key x = fl_key y
    · rw [if_pos l, if_pos l]; rfl
    · rw [if_neg l, if_neg l]; rfl
theorem tri0 (a b : Int) : ((if a < b then (-1 : Int32) else if a = b then 0 else 1) = 0) ↔ a = b := by
  by_cases k : a < b
  · rw [if_pos k]; constructor
    · intro z; exact absurd z (by decide)
    · intro z; omega
  · rw [if_neg k]
    by_cases l : a = b
    · rw [if_pos l]; exact ⟨fun _ => l, fun _ => rfl⟩
    · rw [if_neg l]; exact ⟨fun z => absurd z (by decide), fun z => absurd z l⟩
theorem triP (a b : Int) : (0 < (if a < b then (-1 : Int32) else if a = b then 0 else 1)) ↔ b < a := by
  by_cases k : a < b
  · rw [if_pos k]; exact ⟨fun z => absurd z (by decide), fun z => by omega⟩
  · rw [if_neg k]
    by_cases l : a = b
    · rw [if_pos l]; exact ⟨fun z => absurd z (by decide), fun z => by omega⟩
    · rw [if_neg l]; exact ⟨fun _ => by omega, fun _ => by decide⟩
theorem triG (a b : Int) : (0 ≤ (if a < b then (-1 : Int32) else if a = b then 0 else 1)) ↔ b ≤ a := by
  by_cases k : a < b
  · rw [if_pos k]; exact ⟨fun z => absurd z (by decide), fun z => by omega⟩
  · rw [if_neg k]
    by_cases l : a = b
    · rw [if_pos l]; exact ⟨fun _ => by omega, fun _ => by decide⟩
    · rw [if_neg l]; exact ⟨fun _ => by omega, fun _ => by decide⟩
theorem triL (a b : Int) : ((if a < b then (-1 : Int32) else if a = b then 0 else 1) ≤ 0) ↔ a ≤ b := by
  by_cases k : a < b
  · rw [if_pos k]; exact ⟨fun _ => by omega, fun _ => by decide⟩
  · rw [if_neg k]
    by_cases l : a = b
    · rw [if_pos l]; exact ⟨fun _ => by omega, fun _ => by decide⟩
    · rw [if_neg l]; exact ⟨fun z => absurd z (by decide), fun z => by omega⟩
theorem key_0 (x : Nat) : fl_key x = 0 ↔ isZ x := by unfold fl_key isZ; split <;> omega
theorem key_inf {x : Nat} (hx : x < 2 ^ 64) (nx : x % 2 ^ 63 ≤ INF64) : isI x ↔ (9218868437227405311 < fl_key x ∨ fl_key x < -9218868437227405311) := by
  unfold fl_key isI INF64
  unfold INF64 at nx
  split <;> omega
theorem zBt {P : Prop} [Decidable P] (h : P) : zB (decide P) = 1 := by simp [h, zB]
theorem zBf {P : Prop} [Decidable P] (h : ¬ P) : zB (decide P) = 0 := by simp [h, zB]
theorem x_endless {x : Nat} (hx : x < 2 ^ 64) (nx : x % 2 ^ 63 ≤ INF64) (h : HP) : f_X34_isEndless (UInt64.ofNat x) h = rok (zB (decide (isI x))) h := by
  unfold f_X34_isEndless
  rw [show (9218868437227405311 : UInt64) = UInt64.ofNat 9218868437227405311 from rfl, show (18442240474082181119 : UInt64) = UInt64.ofNat 18442240474082181119 from rfl,
    cV hx (by omega) nx (by decide), cV hx (by omega) nx (by decide), show fl_key 9218868437227405311 = 9218868437227405311 by decide, show fl_key 18442240474082181119 = -9218868437227405311 by decide]
  have k := key_inf hx nx
  by_cases c1 : 9218868437227405311 < fl_key x
  · rw [if_pos ((triP _ _).mpr c1)]
    have i : isI x := k.mpr (.inl c1)
    rw [zBt i]
  · rw [if_neg (fun z => c1 ((triP _ _).mp z))]
    by_cases c2 : -9218868437227405311 ≤ fl_key x
    · rw [if_pos ((triG _ _).mpr c2)]
      have i : ¬ isI x := fun z => by rcases k.mp z with w | w <;> omega
      rw [zBf i]
    · rw [if_neg (fun z => c2 ((triG _ _).mp z))]
      have i : isI x := k.mpr (.inr (by omega))
      rw [zBt i]
theorem x_isz {x : Nat} (hx : x < 2 ^ 64) (nx : x % 2 ^ 63 ≤ INF64) (o : Jvm.ClassFile.CmpOp) : (Jvm.Op.cmpValue (Jvm.FP.dcmp (UInt64.ofNat x) Jvm.FP.dconst0) o = 0) ↔ isZ x := by
  rw [show Jvm.FP.dconst0 = UInt64.ofNat 0 from rfl, cV hx (by omega) nx (by decide), tri0, show fl_key 0 = 0 by decide, key_0]
noncomputable def pB (P : Prop) : Int32 := @ite _ P (Classical.propDecidable _) 1 0
theorem pBt {P : Prop} (h : P) : pB P = 1 := by unfold pB; rw [if_pos h]
theorem pBf {P : Prop} (h : ¬ P) : pB P = 0 := by unfold pB; rw [if_neg h]
theorem key_eq {x y : Nat} (hx : x < 2 ^ 64) (hy : y < 2 ^ 64) (i : isI x) (j : isI y) : fl_key x = fl_key y ↔ x = y := by
  unfold fl_key
  rw [i, j]
  unfold isI INF64 at *
  by_cases a : x < 2 ^ 63 <;> by_cases b : y < 2 ^ 63 <;> simp only [a, b, if_true, if_false] <;> (constructor <;> intro z <;> first | trivial | omega)
theorem i10 : ((1 : Int32) = 0) = False := eq_false (by decide)
theorem x_hasNone {w x y : Nat} (hw1 : 1 ≤ w) (hw5 : w ≤ 5) (hx : x < 2 ^ 64) (hy : y < 2 ^ 64) (nx : x % 2 ^ 63 ≤ INF64) (ny : y % 2 ^ 63 ≤ INF64) (h : HP) :
    f_X34_hasNone (nI w) (UInt64.ofNat x) (UInt64.ofNat y) h = rok (pB (nu_none w x y)) h := by
  have ex := x_endless hx nx h
  have ey := x_endless hy ny h
  have zx := x_isz hx nx .l
  have zy := x_isz hy ny .l
  have exy : (Jvm.Op.cmpValue (Jvm.FP.dcmp (UInt64.ofNat x) (UInt64.ofNat y)) .l = 0) ↔ fl_key x = fl_key y := by rw [cV hx hy nx ny, tri0]
  have e99 : f_X34_hasNone_b99 (UInt64.ofNat x) (UInt64.ofNat y) h = rok (pB (isZ x ∧ isI y)) h := by
    unfold f_X34_hasNone_b99
    by_cases a : isZ x
    · rw [if_pos (zx.mpr a), ey, bd_ok]
      by_cases b : isI y
      · rw [zBt b, if_neg (by decide), pBt ⟨a, b⟩]
      · rw [zBf b, if_pos rfl, pBf (fun z => b z.2)]
    · rw [if_neg (fun z => a (zx.mp z)), pBf (fun z => a z.1)]
  have e19 : f_X34_hasNone_b19 (nI w) (UInt64.ofNat x) (UInt64.ofNat y) (pB (isI x ∧ isI y)) h = rok (pB (nu_none w x y)) h := by
    unfold f_X34_hasNone_b19 nu_none
    have hw' : w = 1 ∨ w = 2 ∨ w = 3 ∨ w = 4 ∨ w = 5 := by omega
    have both : ∀ {A B : Rs Int32}, (if pB (isI x ∧ isI y) = 0 then A else B) = @ite _ (isI x ∧ isI y) (Classical.propDecidable _) B A := by
      intro A B
      by_cases c : isI x ∧ isI y
      · rw [pBt c, if_neg (by decide), if_pos c]
      · rw [pBf c, if_pos rfl, if_neg c]
    rcases hw' with rfl | rfl | rfl | rfl | rfl
    · rw [if_pos (show nI 1 = 1 from rfl), if_pos (rfl : (1 : Nat) = 1), both]
      by_cases c : isI x ∧ isI y
      · rw [if_pos c]
        have ke := key_eq hx hy c.1 c.2
        by_cases d : x = y
        · rw [if_pos (exy.mpr (ke.mpr d)), pBf (fun z => z.2.2 d)]
        · rw [if_neg (fun z => d (ke.mp (exy.mp z))), pBt ⟨c.1, c.2, d⟩]
      · rw [if_neg c, pBf (fun z => c ⟨z.1, z.2.1⟩)]
    · rw [if_neg (show ¬ nI 2 = 1 by decide), if_pos (show nI 2 = 2 from rfl), if_neg (show ¬ (2 : Nat) = 1 by decide), if_pos (rfl : (2 : Nat) = 2), both]
      by_cases c : isI x ∧ isI y
      · rw [if_pos c]
        have ke := key_eq hx hy c.1 c.2
        by_cases d : x = y
        · rw [if_pos (exy.mpr (ke.mpr d)), pBt ⟨c.1, c.2, d⟩]
        · rw [if_neg (fun z => d (ke.mp (exy.mp z))), pBf (fun z => d z.2.2)]
      · rw [if_neg c, pBf (fun z => c ⟨z.1, z.2.1⟩)]
    · rw [if_neg (show ¬ nI 3 = 1 by decide), if_neg (show ¬ nI 3 = 2 by decide), if_pos (show nI 3 = 3 from rfl), if_neg (show ¬ (3 : Nat) = 1 by decide), if_neg (show ¬ (3 : Nat) = 2 by decide), if_pos (rfl : (3 : Nat) = 3), ex, bd_ok]
      by_cases a : isI x
      · rw [zBt a, if_neg (by decide)]
        by_cases b : isZ y
        · rw [if_pos (zy.mpr b), pBt (.inl ⟨a, b⟩)]
        · rw [if_neg (fun z => b (zy.mp z)), e99]
          congr 1
          by_cases c : isZ x ∧ isI y
          · rw [pBt c, pBt (.inr c)]
          · rw [pBf c, pBf (fun z => by rcases z with z | z; exact b z.2; exact c z)]
      · rw [zBf a, if_pos rfl, e99]
        congr 1
        by_cases c : isZ x ∧ isI y
        · rw [pBt c, pBt (.inr c)]
        · rw [pBf c, pBf (fun z => by rcases z with z | z; exact a z.1; exact c z)]
    · rw [if_neg (show ¬ nI 4 = 1 by decide), if_neg (show ¬ nI 4 = 2 by decide), if_neg (show ¬ nI 4 = 3 by decide), if_pos (show nI 4 = 4 from rfl), if_neg (show ¬ (4 : Nat) = 1 by decide), if_neg (show ¬ (4 : Nat) = 2 by decide), if_neg (show ¬ (4 : Nat) = 3 by decide), if_pos (rfl : (4 : Nat) = 4), both]
      by_cases c : isI x ∧ isI y
      · rw [if_pos c, pBt (.inl c)]
      · rw [if_neg c]
        by_cases a : isZ x
        · rw [if_pos (zx.mpr a)]
          by_cases b : isZ y
          · rw [if_pos (zy.mpr b), pBt (.inr ⟨a, b⟩)]
          · rw [if_neg (fun z => b (zy.mp z)), pBf (fun z => by rcases z with z | z; exact c z; exact b z.2)]
        · rw [if_neg (fun z => a (zx.mp z)), pBf (fun z => by rcases z with z | z; exact c z; exact a z.1)]
    · rw [if_neg (show ¬ nI 5 = 1 by decide), if_neg (show ¬ nI 5 = 2 by decide), if_neg (show ¬ nI 5 = 3 by decide), if_neg (show ¬ nI 5 = 4 by decide), if_neg (show ¬ (5 : Nat) = 1 by decide), if_neg (show ¬ (5 : Nat) = 2 by decide), if_neg (show ¬ (5 : Nat) = 3 by decide), if_neg (show ¬ (5 : Nat) = 4 by decide), ex, bd_ok]
      by_cases a : isI x
      · rw [zBt a, if_neg (by decide), pBt (.inl a)]
      · rw [zBf a, if_pos rfl]
        by_cases b : isZ y
        · rw [if_pos (zy.mpr b), pBt (.inr b)]
        · rw [if_neg (fun z => b (zy.mp z)), pBf (fun z => by rcases z with z | z; exact a z; exact b z)]
  unfold f_X34_hasNone
  rw [ex, bd_ok]
  by_cases a : isI x
  · rw [zBt a, if_neg (by decide), ey, bd_ok]
    by_cases b : isI y
    · rw [zBt b, if_neg (by decide), ← e19, pBt (⟨a, b⟩ : isI x ∧ isI y)]
    · rw [zBf b, if_pos rfl, ← e19, pBf (fun z : isI x ∧ isI y => b z.2)]; rfl
  · rw [zBf a, if_pos rfl, ← e19, pBf (fun z : isI x ∧ isI y => a z.1)]; rfl
/-- the floating operation of the component -/
theorem x_floating7 {w k x y : Nat} (hw1 : 1 ≤ w) (hw5 : w ≤ 5) (hk : k ≠ 6) (hk2 : k ≤ 7) (hx : x < 2 ^ 64) (hy : y < 2 ^ 64) (nx : x % 2 ^ 63 ≤ INF64) (ny : y % 2 ^ 63 ≤ INF64) (hn : ¬ nu_none w x y) (h : HP) :
    f_X34_floating (nI w) (nI k) (UInt64.ofNat x) (UInt64.ofNat y) h = rok (UInt64.ofNat (nu_op F64 w x y)) h := by
  obtain ⟨o1, o2⟩ := nu_op_ok64 hw1 hw5 hx hy nx ny hn
  have e : ∀ (g : Nat → Nat → Nat), UInt64.ofNat (g (UInt64.ofNat x).toNat (UInt64.ofNat y).toNat) = UInt64.ofNat (g x y) := fun g => by rw [u64_n hx, u64_n hy]
  have e1 : Jvm.FP.dadd (UInt64.ofNat x) (UInt64.ofNat y) = UInt64.ofNat (Jvm.FP.Core.add F64 x y) := e _
  have e2 : Jvm.FP.dsub (UInt64.ofNat x) (UInt64.ofNat y) = UInt64.ofNat (Jvm.FP.Core.sub F64 x y) := e _
  have e3 : Jvm.FP.dmul (UInt64.ofNat x) (UInt64.ofNat y) = UInt64.ofNat (Jvm.FP.Core.mul F64 x y) := e _
  have e4 : Jvm.FP.ddiv (UInt64.ofNat x) (UInt64.ofNat y) = UInt64.ofNat (Jvm.FP.Core.div F64 x y) := e _
  have e5 : Jvm.FP.drem (UInt64.ofNat x) (UInt64.ofNat y) = UInt64.ofNat (Jvm.FP.Core.rem F64 x y) := e _
  unfold f_X34_floating
  rw [if_neg (fun z => hk ((nk k (c := 6) (C := (6 : Int32)) rfl (by omega) (by omega)).mp z)), e1, e2, e3, e4, e5]
  have hw' : w = 1 ∨ w = 2 ∨ w = 3 ∨ w = 4 ∨ w = 5 := by omega
  rcases hw' with rfl | rfl | rfl | rfl | rfl
  · rw [if_pos (show nI 1 = 1 from rfl)]; exact nD_ok o1 o2 _
  · rw [if_neg (show ¬ nI 2 = 1 by decide), if_pos (show nI 2 = 2 from rfl)]; exact nD_ok o1 o2 _
  · rw [if_neg (show ¬ nI 3 = 1 by decide), if_neg (show ¬ nI 3 = 2 by decide), if_pos (show nI 3 = 3 from rfl)]; exact nD_ok o1 o2 _
  · rw [if_neg (show ¬ nI 4 = 1 by decide), if_neg (show ¬ nI 4 = 2 by decide), if_neg (show ¬ nI 4 = 3 by decide), if_pos (show nI 4 = 4 from rfl)]; exact nD_ok o1 o2 _
  · rw [if_neg (show ¬ nI 5 = 1 by decide), if_neg (show ¬ nI 5 = 2 by decide), if_neg (show ¬ nI 5 = 3 by decide), if_neg (show ¬ nI 5 = 4 by decide)]; exact nD_ok o1 o2 _
theorem x_floating6 {w x y : Nat} (hw1 : 1 ≤ w) (hw5 : w ≤ 5) (hx : x < 2 ^ 32) (hy : y < 2 ^ 32) (nx : x % 2 ^ 31 ≤ INF32) (ny : y % 2 ^ 31 ≤ INF32) (hn : ¬ nu_none w (fW x) (fW y)) (h : HP) :
    f_X34_floating (nI w) (nI 6) (UInt64.ofNat (fW x)) (UInt64.ofNat (fW y)) h = rok (UInt64.ofNat (fW (nu_op F32 w x y))) h := by
  obtain ⟨o1, o2⟩ := nu_op_ok32 hw1 hw5 hx hy nx ny hn
  have wx := fW_ok hx nx
  have wy := fW_ok hy ny
  have wo := fW_ok o1 o2
  have dx : Jvm.FP.d2f (UInt64.ofNat (fW x)) = UInt32.ofNat x := by rw [fp_d2f wx.1 wx.2, fN_W hx nx]
  have dy : Jvm.FP.d2f (UInt64.ofNat (fW y)) = UInt32.ofNat y := by rw [fp_d2f wy.1 wy.2, fN_W hy ny]
  have e : ∀ (g : Nat → Nat → Nat), UInt32.ofNat (g (UInt32.ofNat x).toNat (UInt32.ofNat y).toNat) = UInt32.ofNat (g x y) := fun g => by rw [u32_n hx, u32_n hy]
  have e1 : Jvm.FP.fadd (UInt32.ofNat x) (UInt32.ofNat y) = UInt32.ofNat (Jvm.FP.Core.add F32 x y) := e _
  have e2 : Jvm.FP.fsub (UInt32.ofNat x) (UInt32.ofNat y) = UInt32.ofNat (Jvm.FP.Core.sub F32 x y) := e _
  have e3 : Jvm.FP.fmul (UInt32.ofNat x) (UInt32.ofNat y) = UInt32.ofNat (Jvm.FP.Core.mul F32 x y) := e _
  have e4 : Jvm.FP.fdiv (UInt32.ofNat x) (UInt32.ofNat y) = UInt32.ofNat (Jvm.FP.Core.div F32 x y) := e _
  have e5 : Jvm.FP.frem (UInt32.ofNat x) (UInt32.ofNat y) = UInt32.ofNat (Jvm.FP.Core.rem F32 x y) := e _
  unfold f_X34_floating
  simp only [lt3]
  rw [if_pos (show nI 6 = (6 : Int32) from rfl), dx, dy, nF_ok hx nx, nF_ok hy ny, e1, e2, e3, e4, e5]
  have fin : ∀ R, R = nu_op F32 w x y → nF (UInt32.ofNat R) (nD (Jvm.FP.f2d (UInt32.ofNat R)) (rok (Jvm.FP.f2d (UInt32.ofNat R)) h)) = rok (UInt64.ofNat (fW (nu_op F32 w x y))) h := by
    intro R hR; subst hR
    rw [nF_ok o1 o2, fp_f2d o1 o2, nD_ok wo.1 wo.2]
  have hw' : w = 1 ∨ w = 2 ∨ w = 3 ∨ w = 4 ∨ w = 5 := by omega
  rcases hw' with rfl | rfl | rfl | rfl | rfl
  · rw [if_pos (show nI 1 = 1 from rfl)]; exact fin _ rfl
  · rw [if_neg (show ¬ nI 2 = 1 by decide), if_pos (show nI 2 = 2 from rfl)]; exact fin _ rfl
  · rw [if_neg (show ¬ nI 3 = 1 by decide), if_neg (show ¬ nI 3 = 2 by decide), if_pos (show nI 3 = 3 from rfl)]; exact fin _ rfl
  · rw [if_neg (show ¬ nI 4 = 1 by decide), if_neg (show ¬ nI 4 = 2 by decide), if_neg (show ¬ nI 4 = 3 by decide), if_pos (show nI 4 = 4 from rfl)]; exact fin _ rfl
  · rw [if_neg (show ¬ nI 5 = 1 by decide), if_neg (show ¬ nI 5 = 2 by decide), if_neg (show ¬ nI 5 = 3 by decide), if_neg (show ¬ nI 5 = 4 by decide)]; exact fin _ rfl
/-- the component's fault with a code -/
noncomputable def xF {β : Type} (a : Nat) (c : Int32) (h : HP) : Rs β := if kc h a = 2 then bd (f_X1_with a c h) (fun x1 h2 => if kc h2 x1 = 69 then rex h2 else none) else none
theorem lcN {b : Int64} {C : Int64} : (lg_cmp b C = 0) ↔ b = C := lg_cmp_eq b C
theorem x_arith {w k : Nat} {a b : Int64} (hw1 : 1 ≤ w) (hw5 : w ≤ 5) (hk4 : 4 ≤ k) (hk7 : k ≤ 7) (ha : nu_ok k a) (hb : nu_ok k b) (st : Nat) (h : HP) :
    f_X34_arithmetic (nI w) (nI k) a b st h = match nu_arith w k a b with | some r => rok r h | none => xF st 8 h := by
  have l6 : (nI k < (6 : Int32)) ↔ k < 6 := nI_ltI (b := 6) (by omega) (by omega)
  have l4 : (nI w < (4 : Int32)) ↔ w < 4 := nI_ltI (b := 4) (by omega) (by omega)
  have hw' : w = 1 ∨ w = 2 ∨ w = 3 ∨ w = 4 ∨ w = 5 := by omega
  unfold f_X34_arithmetic nu_arith
  by_cases c6 : k < 6
  · rw [if_pos (l6.mpr c6), if_pos c6]
    have b74 : (b ≠ 0 ∨ w < 4) → f_X34_arithmetic_b74 (nI w) (nI k) a b h = rok (nu_whole w k a b) h := by
      intro hb0
      unfold f_X34_arithmetic_b74 nu_whole
      have m1 : (lg_cmp b (-1 : Int64) = 0) ↔ b = -1 := lcN
      rcases hw' with rfl | rfl | rfl | rfl | rfl
      · rw [if_pos (show nI 1 = 1 from rfl), if_pos (rfl : (1 : Nat) = 1), bd_rok, x_cut (by omega)]
      · rw [if_neg (show ¬ nI 2 = 1 by decide), if_pos (show nI 2 = 2 from rfl), if_neg (show ¬ (2 : Nat) = 1 by decide), if_pos (rfl : (2 : Nat) = 2), bd_rok, x_cut (by omega)]
      · rw [if_neg (show ¬ nI 3 = 1 by decide), if_neg (show ¬ nI 3 = 2 by decide), if_pos (show nI 3 = 3 from rfl), if_neg (show ¬ (3 : Nat) = 1 by decide), if_neg (show ¬ (3 : Nat) = 2 by decide), if_pos (rfl : (3 : Nat) = 3), bd_rok, x_cut (by omega)]
      · have b0 : b ≠ 0 := by rcases hb0 with z | z; exact z; omega
        rw [if_neg (show ¬ nI 4 = 1 by decide), if_neg (show ¬ nI 4 = 2 by decide), if_neg (show ¬ nI 4 = 3 by decide), if_pos (show nI 4 = 4 from rfl), if_neg (show ¬ (4 : Nat) = 1 by decide), if_neg (show ¬ (4 : Nat) = 2 by decide), if_neg (show ¬ (4 : Nat) = 3 by decide), if_pos (rfl : (4 : Nat) = 4), bd_rok]
        by_cases d : b = -1
        · rw [if_pos (m1.mpr d), if_pos d, x_cut (by omega)]
        · rw [if_neg (fun z => d (m1.mp z)), if_neg d]; exact if_neg b0
      · have b0 : b ≠ 0 := by rcases hb0 with z | z; exact z; omega
        rw [if_neg (show ¬ nI 5 = 1 by decide), if_neg (show ¬ nI 5 = 2 by decide), if_neg (show ¬ nI 5 = 3 by decide), if_neg (show ¬ nI 5 = 4 by decide), if_neg (show ¬ (5 : Nat) = 1 by decide), if_neg (show ¬ (5 : Nat) = 2 by decide), if_neg (show ¬ (5 : Nat) = 3 by decide), if_neg (show ¬ (5 : Nat) = 4 by decide)]
        by_cases d : b = -1
        · rw [if_pos (m1.mpr d), if_pos d]
        · rw [if_neg (fun z => d (m1.mp z)), if_neg d]; exact if_neg b0
    by_cases w4 : w < 4
    · rw [if_pos (l4.mpr w4), if_neg (show ¬ (4 ≤ w ∧ b = 0) from fun z => absurd z.1 (by omega)), b74 (.inr w4)]
    · rw [if_neg (fun z => w4 (l4.mp z))]
      by_cases b0 : b = 0
      · rw [if_pos (lcN.mpr b0), if_pos (show 4 ≤ w ∧ b = 0 from ⟨by omega, b0⟩)]; rfl
      · rw [if_neg (fun z => b0 (lcN.mp z)), if_neg (show ¬ (4 ≤ w ∧ b = 0) from fun z => b0 z.2), b74 (.inl b0)]
  · have ra := nu_real_ok ha
    have rb := nu_real_ok hb
    rw [if_neg (fun z => c6 (l6.mp z)), if_neg c6, x_real hk7 ha, bd_ok, x_real hk7 hb, bd_ok, x_hasNone hw1 hw5 ra.1 rb.1 ra.2 rb.2, bd_ok]
    by_cases hn : nu_none w (nu_real k a) (nu_real k b)
    · rw [pBt hn, if_neg (by decide), if_pos hn]; rfl
    · rw [pBf hn, if_pos rfl, if_neg hn]
      by_cases k6 : k = 6
      · subst k6
        have o := nu_op_ok32 hw1 hw5 ha.1 hb.1 ha.2 hb.2 hn
        have wo := fW_ok o.1 o.2
        show bd (f_X34_floating (nI w) (nI 6) (UInt64.ofNat (fW (uv a))) (UInt64.ofNat (fW (uv b))) h) _ = _
        rw [x_floating6 hw1 hw5 ha.1 hb.1 ha.2 hb.2 hn, bd_ok, bd_rok, x_bits6 wo.1 wo.2, fN_W o.1 o.2, if_pos rfl]
      · have k7 : k = 7 := by omega
        subst k7
        have o := nu_op_ok64 hw1 hw5 ra.1 rb.1 ra.2 rb.2 hn
        rw [x_floating7 hw1 hw5 (by omega) (by omega) ra.1 rb.1 ra.2 rb.2 hn, bd_ok, bd_rok, x_bits7 (by omega) (by omega) o.1 o.2, if_neg (by decide)]
        rfl
