/-! PHASE B tokens 5: numbers -/
set_option maxRecDepth 100000
theorem dval_snoc (l : List Nat) (c : Nat) : dval (l ++ [c]) = 10 * dval l + (c - 48) := by unfold dval; rw [List.foldl_append]; rfl
theorem dval_le (l r : List Nat) : dval l ≤ dval (l ++ r) := by
  unfold dval
  rw [List.foldl_append]
  generalize List.foldl (fun a c => 10 * a + (c - 48)) 0 l = v
  induction r generalizing v with
  | nil => exact Nat.le_refl _
  | cons c r ih => rw [List.foldl_cons]; exact Nat.le_trans (by omega) (ih _)
theorem dval_lt {l : List Nat} (h : ∀ c ∈ l, isDig c = true) : dval l < 10 ^ l.length := by
  have key : ∀ (l : List Nat) (v n : Nat), (∀ c ∈ l, isDig c = true) → v < 10 ^ n → List.foldl (fun a c => 10 * a + (c - 48)) v l < 10 ^ (n + l.length) := by
    intro l
    induction l with
    | nil => intro v n _ hv; exact hv
    | cons c l ih =>
      intro v n hc hv
      rw [List.foldl_cons, List.length_cons, show n + (l.length + 1) = n + 1 + l.length by omega]
      refine ih _ _ (fun x hx => hc x (List.mem_cons_of_mem _ hx)) ?_
      have hd := hc c (List.mem_cons_self ..)
      unfold isDig at hd
      simp at hd
      rw [Nat.pow_succ]; omega
  have := key l 0 0 h (by decide)
  rw [Nat.zero_add] at this; exact this
theorem run_all {p : Nat → Bool} (hp : p 256 = false) {B : List Nat} (n : Nat) : ∀ k, B.length - k < n → ∀ i, k ≤ i → i < run p B k → p (ch B i) = true := by
  induction n with
  | zero => intro k h; omega
  | succ n ih =>
    intro k h i h1 h2
    rw [run_step hp] at h2
    by_cases c : p (ch B k) = true
    · rw [if_pos c] at h2
      have : k < B.length := Nat.lt_of_not_le fun z => by rw [ch_out z, hp] at c; exact Bool.noConfusion c
      by_cases e : i = k
      · rw [e]; exact c
      · exact ih (k + 1) (by omega) i (by omega) h2
    · rw [if_neg c] at h2; omega
theorem dig_c {c : Nat} (h : isDig c = true) : 48 ≤ c ∧ c ≤ 57 := by unfold isDig at h; simpa using h
theorem seg_all {B : List Nat} {q : Nat → Prop} {a : Nat} (n : Nat) : ∀ b, b - a ≤ n → b ≤ B.length → (∀ i, a ≤ i → i < b → q (ch B i)) → ∀ c ∈ seg B a b, q c := by
  induction n with
  | zero => intro b h1 _ _ c hc; unfold seg at hc; rw [show b - a = 0 by omega] at hc; simp at hc
  | succ n ih =>
    intro b h1 h2 h3 c hc
    by_cases e : b ≤ a
    · unfold seg at hc; rw [show b - a = 0 by omega] at hc; simp at hc
    · obtain ⟨j, rfl⟩ : ∃ j, b = j + 1 := ⟨b - 1, by omega⟩
      rw [seg_step (by omega) (by omega)] at hc
      rcases List.mem_append.mp hc with z | z
      · exact ih j (by omega) (by omega) (fun i a1 a2 => h3 i a1 (by omega)) c z
      · rw [List.mem_singleton.mp z]; exact h3 j (by omega) (by omega)
theorem x_val_l {h : HP} {t st k e most : Nat} {B : List Nat} (ok : okB B) (T : TokO h t B st) (v3 : Int32) (he : e ≤ B.length) (hd : ∀ i, k ≤ i → i < e → isDig (ch B i) = true) (hm : most < 2 ^ 63) (hm9 : 9 ≤ most) (n : Nat) : ∀ j, e - j < n → k ≤ j → j ≤ e → dval (seg B k j) ≤ most →
    f_X9_readNumber_l86 t (nI e) v3 (lN most) n (lN (dval (seg B k j))) (nI j) h = rok (if dval (seg B k e) ≤ most then Sum.inr (lN (dval (seg B k e))) else Sum.inl ()) h := by
  have hl := ok.1
  induction n with
  | zero => intro j h1; omega
  | succ n ih =>
    intro j h1 h2 h3 h4
    rw [f_X9_readNumber_l86_s]
    unfold b_X9_readNumber_l86
    by_cases c : e ≤ j
    · have : j = e := by omega
      subst this
      rw [if_pos ((nI_leI (by omega) (by omega)).mpr c), if_pos h4]
    · rw [if_neg (fun z => c ((nI_leI (by omega) (by omega)).mp z)), if_pos T.1, x_look ok T (by omega), bd_ok]
      have d := dig_c (hd j h2 (by omega))
      have hs := seg_step (B := B) (a := k) h2 (show j < B.length by omega)
      generalize hx : ch B j = x at *
      have eck : ck x = nI x := by unfold ck; rw [if_neg (by omega)]
      have e48 : nI x - (48 : Int32) = nI (x - 48) := pk_sub (b := 48) d.1
      simp only [lt3]
      rw [eck, e48, nI_l (by omega)]
      unfold dvJ
      rw [if_neg (show ¬ (10 : Int64) = 0 by decide), lN_sub (show x - 48 ≤ most by omega), show (10 : Int64) = lN 10 from rfl, pk_lDiv (by omega) (by omega) (by omega)]
      have hsv : dval (seg B k (j + 1)) = 10 * dval (seg B k j) + (x - 48) := by rw [hs, dval_snoc]
      by_cases g : dval (seg B k j) ≤ (most - (x - 48)) / 10
      · rw [if_pos ((lc_le rfl (by omega) (by omega)).mpr g), nI_1, lN_mul, lN_add, ← hsv]
        exact ih (j + 1) (by omega) (by omega) (by omega) (by omega)
      · rw [if_neg (fun z => g ((lc_le rfl (by omega) (by omega)).mp z)), if_neg]
        intro z
        have e2 : seg B k e = seg B k (j + 1) ++ seg B (j + 1) e := by
          unfold seg
          rw [show e - k = (j + 1 - k) + (e - (j + 1)) by omega, List.take_add, List.drop_drop]
          congr 3; omega
        have := dval_le (seg B k (j + 1)) (seg B (j + 1) e)
        rw [← e2] at this
        omega
theorem x_num_f {h : HP} {t st k e most : Nat} {B : List Nat} (ok : okB B) (w : WG h) (T : TokO h t B st) (hf : fi h 152 t = nI k) (hk : k ≤ e) (he : e ≤ B.length) (hd : ∀ i, k ≤ i → i < e → isDig (ch B i) = true) (hm : most < 2 ^ 63) (hm9 : 9 ≤ most) (fl : Bool) :
    XRes t st B (if most < dval (seg B k e) then noTk k else if fl then (4, k, [], lN (dval (seg B k e)), e + 1) else (3, k, [], lN (dval (seg B k e)), e)) 0 h (f_X9_readNumber_b78 t (nI k) (nI e) (zB fl) (lN most) h) := by
  have hl := ok.1
  unfold f_X9_readNumber_b78
  have z0 : (0 : Int64) = lN (dval (seg B k k)) := by rw [seg_nil]; rfl
  rw [z0, x_val_l ok T _ he hd hm hm9 NN k (by have := NN_ge (k := 301) (by omega); omega) (Nat.le_refl _) hk (by rw [seg_nil]; exact Nat.zero_le _), bd_ok]
  by_cases c : dval (seg B k e) ≤ most
  · rw [if_pos c, if_neg (by omega)]
    simp only [Sum.elim_inr]
    rw [stJ_e T.1]
    have s1 : St [] [t, st] 0 h (sJ h 155 t (lN (dval (seg B k e)))) := (St.refl w [] [t, st]).sJ T.1 (by decide) (.inr (.inr (by simp)))
    have T1 : TokO (sJ h 155 t (lN (dval (seg B k e)))) t B st := TokO_sJ T
    obtain ⟨k1, t1⟩ := cst1 s1.1
    have j1 : fj (sJ h 155 t (lN (dval (seg B k e)))) 155 t = lN (dval (seg B k e)) := by rw [fj_sJ, if_pos ⟨rfl, rfl⟩]
    cases fl with
    | false =>
      rw [if_pos (show zB false = (0 : Int32) from rfl), if_neg Bool.false_ne_true]
      unfold f_X9_readNumber_b158
      rw [if_pos (show zB false = (0 : Int32) from rfl), if_pos T1.1, bd_u]
      exact XRes.ok (show (3 : Nat) ≠ 9 by decide) ((x_set (K := 3) s1.1 T1 hf k1 t1 (fun _ _ => j1)).pre s1)
    | true =>
      rw [if_neg (show ¬ zB true = (0 : Int32) by decide), if_pos rfl]
      unfold f_X9_readNumber_b158
      rw [if_neg (show ¬ zB true = (0 : Int32) by decide), if_pos T1.1, bd_u, show nI e + (1 : Int32) = nI (e + 1) from nI_1 e]
      exact XRes.ok (show (4 : Nat) ≠ 9 by decide) ((x_set (K := 4) s1.1 T1 hf k1 t1 (fun _ _ => j1)).pre s1)
  · rw [if_neg c, if_pos (by omega)]
    exact XRes.no (x_wrong w T hf)
def Wd (B : List Nat) (k p j : Nat) : List Nat := if j ≤ p then seg B k j else seg B k p ++ seg B (p + 1) j
theorem x_whole_l {h : HP} {t st k e p : Nat} {B : List Nat} (ok : okB B) (T : TokO h t B st) (he : e ≤ B.length) (hp : p < e) (hd : ∀ i, k ≤ i → i < e → i ≠ p → isDig (ch B i) = true) (n : Nat) : ∀ j, e - j < n → k ≤ j → j ≤ e →
    f_X9_readReal_l42 t (nI p) (nI e) n (lN (dval (Wd B k p j))) (nI j) h = rok (lN (dval (Wd B k p e))) h := by
  have hl := ok.1
  induction n with
  | zero => intro j h1; omega
  | succ n ih =>
    intro j h1 h2 h3
    rw [f_X9_readReal_l42_s]
    unfold b_X9_readReal_l42
    by_cases c : e ≤ j
    · have : j = e := by omega
      subst this
      rw [if_pos ((nI_leI (by omega) (by omega)).mpr c)]
    · rw [if_neg (fun z => c ((nI_leI (by omega) (by omega)).mp z))]
      simp only [f_X9_readReal_l42b74, lt3, nI_1]
      by_cases q : j = p
      · subst q
        rw [if_pos rfl]
        have : Wd B k j j = Wd B k j (j + 1) := by
          unfold Wd
          rw [if_pos (Nat.le_refl _), if_neg (by omega), seg_nil, List.append_nil]
        rw [this]
        exact ih (j + 1) (by omega) (by omega) (by omega)
      · rw [if_neg (fun z => q ((nI_eq (by omega) (by omega)).mp z)), if_pos T.1, x_look ok T (by omega), bd_ok]
        have d := dig_c (hd j h2 (by omega) q)
        have hW : Wd B k p (j + 1) = Wd B k p j ++ [ch B j] := by
          unfold Wd
          by_cases jp : j < p
          · rw [if_pos (by omega), if_pos (by omega), seg_step h2 (by omega)]
          · rw [if_neg (by omega), if_neg (by omega), seg_step (by omega) (by omega), List.append_assoc]
        generalize hx : ch B j = x at *
        have eck : ck x = nI x := by unfold ck; rw [if_neg (by omega)]
        rw [eck, nI_l (by omega), show (10 : Int64) = lN 10 from rfl, show (48 : Int64) = lN 48 from rfl, lN_mul, lN_add, lN_sub (by omega)]
        have : 10 * dval (Wd B k p j) + x - 48 = dval (Wd B k p (j + 1)) := by rw [hW, dval_snoc]; omega
        rw [this]
        exact ih (j + 1) (by omega) (by omega) (by omega)
def t10 (i : Nat) : Nat := Jvm.FP.Core.fromInt F64 ((10 ^ i : Nat) : Int)
theorem t10_s : ∀ i, i < 15 → Jvm.FP.dmul (UInt64.ofNat (t10 i)) (4621819117588971520 : UInt64) = UInt64.ofNat (t10 (i + 1)) := by decide +kernel
theorem t10_n : ∀ i, i < 16 → t10 i % 2 ^ 63 ≠ INF64 ∧ t10 i % 2 ^ 63 ≠ 0 := by decide +kernel
theorem t10_ok (i : Nat) : t10 i < 2 ^ 64 ∧ t10 i % 2 ^ 63 ≤ INF64 := fI64_ok _
theorem t10_0 : Jvm.FP.dconst1 = UInt64.ofNat (t10 0) := by decide +kernel
theorem x_ten_l {h : HP} {t q e : Nat} (v4 : Int64) (he : e < 2 ^ 30) (hq : e ≤ q + 15) (n : Nat) : ∀ i, e - (q + i) < n → q + i ≤ e → f_X9_readReal_l88 t (nI e) v4 n (UInt64.ofNat (t10 i)) (nI (q + i)) h = rok (UInt64.ofNat (t10 (e - q))) h := by
  induction n with
  | zero => intro i h1; omega
  | succ n ih =>
    intro i h1 h2
    rw [f_X9_readReal_l88_s]
    unfold b_X9_readReal_l88
    by_cases c : e ≤ q + i
    · rw [if_pos ((nI_leI (by omega) (by omega)).mpr c), show e - q = i by omega]
    · rw [if_neg (fun z => c ((nI_leI (by omega) (by omega)).mp z))]
      show nD (Jvm.FP.dmul (UInt64.ofNat (t10 i)) (4621819117588971520 : UInt64)) (f_X9_readReal_l88 t (nI e) v4 n (Jvm.FP.dmul (UInt64.ofNat (t10 i)) (4621819117588971520 : UInt64)) (nI (q + i) + 1) h) = _
      obtain ⟨o1, o2⟩ := t10_ok (i + 1)
      rw [t10_s i (by omega), nD_ok o1 o2, nI_1]
      exact ih (i + 1) (by omega) (by omega)
/-- a real -/
theorem x_readReal {h : HP} {t st k p : Nat} {B : List Nat} (ok : okB B) (w : WG h) (T : TokO h t B st) (hf : fi h 152 t = nI k) (hk : k ≤ p) (hp : p + 1 ≤ B.length) (hd : ∀ i, k ≤ i → i < p → isDig (ch B i) = true) :
    XRes t st B (if 15 < run isDig B (p + 1) - k - 1 then noTk k else (5, k, [], realB (dval (seg B k p ++ seg B (p + 1) (run isDig B (p + 1)))) (run isDig B (p + 1) - p - 1), run isDig B (p + 1))) 0 h (f_X9_readReal t (nI k) (nI p) h) := by
  have hl := ok.1
  have r1 := run_ge isDig B (p + 1)
  have r2 := run_le isDig (B := B) (k := p + 1) hp
  have rd := run_all (p := isDig) (by decide) (B := B) 1000 (p + 1) (by omega)
  simp only [f_X9_readReal, lt3]
  rw [show nI p + (1 : Int32) = nI (p + 1) from nI_1 p, x_digits2 ok T _ _ hp, bd_ok]
  generalize hr : run isDig B (p + 1) = e at *
  rw [pk_sub (show k ≤ e by omega), show nI (e - k) - (1 : Int32) = nI (e - k - 1) from pk_sub (b := 1) (by omega)]
  by_cases c : e - k - 1 ≤ 15
  · rw [if_pos (show nI (e - k - 1) ≤ (15 : Int32) from nI_le (b := 15) c (by omega)), if_neg (by omega)]
    have z0 : (0 : Int64) = lN (dval (Wd B k p k)) := by unfold Wd; rw [if_pos hk, seg_nil]; rfl
    have dg : ∀ i, k ≤ i → i < e → i ≠ p → isDig (ch B i) = true := fun i a1 a2 a3 => by
      by_cases q : i < p
      · exact hd i a1 q
      · exact rd i (by omega) a2
    rw [z0, x_whole_l ok T r2 (by omega) dg NN k (by have := NN_ge (k := 301) (by omega); omega) (Nat.le_refl _) (by omega), bd_ok]
    have hW : Wd B k p e = seg B k p ++ seg B (p + 1) e := by unfold Wd; rw [if_neg (by omega)]
    rw [hW]
    have hwl : dval (seg B k p ++ seg B (p + 1) e) < 10 ^ 15 := by
      have h1 := dval_lt (l := seg B k p ++ seg B (p + 1) e) (fun x hx => by
        rcases List.mem_append.mp hx with z | z
        · exact seg_all (q := fun x => isDig x = true) 1000 p (by omega) (by omega) (fun i a1 a2 => hd i a1 a2) x z
        · exact seg_all (q := fun x => isDig x = true) 1000 e (by omega) (by omega) (fun i a1 a2 => rd i a1 a2) x z)
      have h2 : (seg B k p ++ seg B (p + 1) e).length ≤ 15 := by rw [List.length_append, seg_len hk (by omega), seg_len r1 r2]; omega
      exact Nat.lt_of_lt_of_le h1 (Nat.pow_le_pow_right (by omega) h2)
    generalize dval (seg B k p ++ seg B (p + 1) e) = v at *
    have ht := x_ten_l (h := h) (t := t) (q := p + 1) (e := e) (lN v) (by omega) (by omega) NN 0 (by have := NN_ge (k := 301) (by omega); omega) (by omega)
    rw [Nat.add_zero, ← t10_0] at ht
    rw [show FP.dconst1 = Jvm.FP.dconst1 from rfl, ht, bd_ok]
    have hm : e - (p + 1) < 16 := by omega
    obtain ⟨a1, a2⟩ := fI64_ok (v : Int)
    obtain ⟨b1, b2⟩ := t10_ok (e - (p + 1))
    have tn := t10_n _ hm
    have hdv : FP.ddiv (FP.l2d (lN v)) (UInt64.ofNat (t10 (e - (p + 1)))) = UInt64.ofNat (Jvm.FP.Core.div F64 (Jvm.FP.Core.fromInt F64 (v : Int)) (t10 (e - (p + 1)))) := by
      have e1 : FP.l2d (lN v) = UInt64.ofNat (Jvm.FP.Core.fromInt F64 (v : Int)) := by
        show UInt64.ofNat (Jvm.FP.Core.fromInt F64 (lN v).toInt) = _
        rw [pk_lT (by omega)]
      rw [e1]
      show UInt64.ofNat (Jvm.FP.Core.div F64 (UInt64.ofNat _).toNat (UInt64.ofNat _).toNat) = _
      rw [u64_n a1, u64_n b1]
    have nn : ¬ nu_none 4 (Jvm.FP.Core.fromInt F64 (v : Int)) (t10 (e - (p + 1))) := by
      unfold nu_none
      rw [if_neg (by decide), if_neg (by decide), if_neg (by decide), if_pos rfl]
      rintro (z | z)
      · exact tn.1 z.2
      · exact tn.2 z.2
    have od := nu_op_ok64 (w := 4) (by omega) (by omega) a1 b1 a2 b2 nn
    have hop : nu_op F64 4 (Jvm.FP.Core.fromInt F64 (v : Int)) (t10 (e - (p + 1))) = Jvm.FP.Core.div F64 (Jvm.FP.Core.fromInt F64 (v : Int)) (t10 (e - (p + 1))) := by
      unfold nu_op
      rw [if_neg (by decide), if_neg (by decide), if_neg (by decide), if_pos rfl]
    rw [hop] at od
    rw [hdv, nD_ok od.1 od.2, nD_ok od.1 od.2]
    have hj : jOfD (UInt64.ofNat (Jvm.FP.Core.div F64 (Jvm.FP.Core.fromInt F64 (v : Int)) (t10 (e - (p + 1))))) = realB v (e - p - 1) := by
      unfold realB t10
      rw [show e - p - 1 = e - (p + 1) by omega]; rfl
    rw [hj, stJ_e T.1]
    have s1 : St [] [t, st] 0 h (sJ h 155 t (realB v (e - p - 1))) := (St.refl w [] [t, st]).sJ T.1 (by decide) (.inr (.inr (by simp)))
    have T1 : TokO (sJ h 155 t (realB v (e - p - 1))) t B st := TokO_sJ T
    obtain ⟨k1, t1⟩ := cst1 s1.1
    rw [if_pos T1.1, bd_u]
    exact XRes.ok (show (5 : Nat) ≠ 9 by decide) ((x_set (K := 5) s1.1 T1 hf k1 t1 (fun _ _ => by rw [fj_sJ, if_pos ⟨rfl, rfl⟩])).pre s1)
  · rw [if_neg (show ¬ nI (e - k - 1) ≤ (15 : Int32) from fun z => c ((nI_leI (b := 15) (by omega) (by omega)).mp z)), if_pos (by omega)]
    exact XRes.no (x_wrong w T hf)
/-- a number -/
theorem x_readNum {h : HP} {t st k : Nat} {B : List Nat} (ok : okB B) (w : WG h) (T : TokO h t B st) (hf : fi h 152 t = nI k) (hk : k ≤ B.length) : XRes t st B (lexNum B k) 0 h (f_X9_readNumber t (nI k) h) := by
  have hl := ok.1
  have r1 := run_ge isDig B k
  have r2 := run_le isDig (B := B) (k := k) hk
  have rd := run_all (p := isDig) (by decide) (B := B) 1000 k (by omega)
  unfold f_X9_readNumber lexNum
  rw [x_digits ok T _ hk, bd_ok, if_pos T.1]
  generalize hr : run isDig B k = e at *
  have lk := x_look ok T (show e < 2 ^ 31 by omega)
  rw [lk, bd_ok]
  have c46 : (ck (ch B e) = (46 : Int32)) ↔ ch B e = 46 := ckE (v := 46) (ch_lt ok _) (by omega)
  have c76 : (ck (ch B e) = (76 : Int32)) ↔ ch B e = 76 := ckE (v := 76) (ch_lt ok _) (by omega)
  have b49 : XRes t st B (if ch B e = 76 then (if 2 ^ 63 ≤ dval (seg B k e) then noTk k else (4, k, [], lN (dval (seg B k e)), e + 1)) else (if 2 ^ 31 ≤ dval (seg B k e) then noTk k else (3, k, [], lN (dval (seg B k e)), e))) 0 h (f_X9_readNumber_b49 t (nI k) (nI e) h) := by
    unfold f_X9_readNumber_b49 f_X9_readNumber_b64
    rw [if_pos T.1, lk, bd_ok]
    by_cases c : ch B e = 76
    · rw [if_pos (c76.mpr c), if_pos c, if_neg (show ¬ (1 : Int32) = 0 by decide)]
      have := x_num_f (most := 9223372036854775807) ok w T hf r1 r2 rd (by omega) (by omega) true
      by_cases g : 2 ^ 63 ≤ dval (seg B k e)
      · rw [if_pos g]; rw [if_pos (by omega)] at this; exact this
      · rw [if_neg g]; rw [if_neg (by omega), if_pos rfl] at this; exact this
    · rw [if_neg (fun z => c (c76.mp z)), if_neg c, if_pos rfl]
      have := x_num_f (most := 2147483647) ok w T hf r1 r2 rd (by omega) (by omega) false
      by_cases g : 2 ^ 31 ≤ dval (seg B k e)
      · rw [if_pos g]; rw [if_pos (by omega)] at this; exact this
      · rw [if_neg g]; rw [if_neg (by omega), if_neg Bool.false_ne_true] at this; exact this
  by_cases c : ch B e = 46
  · have heB : e < B.length := Nat.lt_of_not_le fun z => by rw [ch_out z] at c; omega
    rw [if_pos (c46.mpr c), if_pos T.1, show nI e + (1 : Int32) = nI (e + 1) from nI_1 e, x_look ok T (by omega), bd_ok, x_isDigit (ch_lt ok _), bd_ok, zB_if]
    by_cases g : isDig (ch B (e + 1)) = true
    · rw [if_pos g, if_pos ⟨c, g⟩, if_pos T.1, bd_u]
      exact x_readReal ok w T hf r1 heB rd
    · rw [if_neg g, if_neg (fun z => g z.2)]
      exact b49
  · rw [if_neg (fun z => c (c46.mp z)), if_neg (fun z => c z.1)]
    exact b49
