/-! PHASE B tokens 10: the twin's numbers, signs; one token -/
set_option maxRecDepth 100000
def gst (v : Nat) : Int64 × Int32 := if v < 2 ^ 63 then (lN v, 0) else (0, 1)
theorem m_num_l {h : HP} {c k e : Nat} {B : List Nat} (ok : okB B) (T : ByM h c B) (v1 : Int32) (he : e ≤ B.length) (hr : run isDig B k = e) (n : Nat) : ∀ j, e - j < n → k ≤ j → j ≤ e →
    f_X44_number_l7 c v1 n (nI j) (gst (dval (seg B k j))).1 (gst (dval (seg B k j))).2 h = rok (nI e, (gst (dval (seg B k e))).1, (gst (dval (seg B k e))).2) h := by
  have hl := ok.1
  have rd := run_all (p := isDig) (by decide) (B := B) 1000 k (by omega)
  have re := run_end (p := isDig) (by decide) B 1000 k (by omega)
  rw [hr] at rd re
  induction n with
  | zero => intro j h1; omega
  | succ n ih =>
    intro j h1 h2 h3
    rw [f_X44_number_l7_s]
    unfold b_X44_number_l7
    have lk := m_code ok T (show j < 2 ^ 31 by omega)
    rw [if_pos T.1, lk, bd_ok, m_isDigit (ch_lt ok j), bd_ok, zB_if]
    by_cases g : j = e
    · rw [g, re, if_neg Bool.false_ne_true]
    · have hd := rd j h2 (by omega)
      have d := dig_c hd
      rw [if_pos hd, if_pos T.1, lk, bd_ok]
      have hs := seg_step (B := B) (a := k) h2 (show j < B.length by omega)
      have hsv : dval (seg B k (j + 1)) = 10 * dval (seg B k j) + (ch B j - 48) := by rw [hs, dval_snoc]
      have ih1 := ih (j + 1) (by omega) (by omega) (by omega)
      rw [hsv] at ih1
      generalize ch B j = x at *
      have eck : ck x = nI x := by unfold ck; rw [if_neg (by omega)]
      have e48 : nI x - (48 : Int32) = nI (x - 48) := pk_sub (b := 48) d.1
      simp only [lt3]
      rw [eck, e48]
      generalize dval (seg B k j) = v at *
      have great : ¬ 10 * v + (x - 48) < 2 ^ 63 → f_X44_number_l7b49 c v1 (f_X44_number_l7 c v1 n) (nI j) (gst v).1 (nI (x - 48)) h = rok (nI e, (gst (dval (seg B k e))).1, (gst (dval (seg B k e))).2) h := by
        intro q
        have g1 : gst (10 * v + (x - 48)) = (0, 1) := by unfold gst; rw [if_neg q]
        rw [g1] at ih1
        simp only [f_X44_number_l7b49, f_X44_number_l7b54, f_X44_number_l7b74, lt3, nI_1]
        rw [if_neg (by decide)]
        exact ih1
      by_cases q : v < 2 ^ 63
      · have gv : gst v = (lN v, 0) := by unfold gst; rw [if_pos q]
        rw [gv] at great ⊢
        rw [if_pos rfl]
        unfold dvJ
        rw [if_neg (show ¬ (10 : Int64) = 0 by decide), nI_l (by omega), show (9223372036854775807 : Int64) = lN 9223372036854775807 from rfl, lN_sub (by omega), show (10 : Int64) = lN 10 from rfl, pk_lDiv (by omega) (by omega) (by omega)]
        by_cases f : v ≤ (9223372036854775807 - (x - 48)) / 10
        · rw [if_pos ((lc_le rfl q (by omega)).mpr f)]
          have g1 : gst (10 * v + (x - 48)) = (lN (10 * v + (x - 48)), 0) := by unfold gst; rw [if_pos (by omega)]
          rw [g1] at ih1
          simp only [f_X44_number_l7b54, f_X44_number_l7b74, lt3, nI_1]
          rw [if_pos True.intro, nI_l (by omega), show (10 : Int64) = lN 10 from rfl, lN_mul, lN_add]
          exact ih1
        · rw [if_neg (fun z => f ((lc_le rfl q (by omega)).mp z))]
          exact great (by omega)
      · have gv : gst v = (0, 1) := by unfold gst; rw [if_neg q]
        rw [gv] at great ⊢
        rw [if_neg (by decide)]
        exact great (by omega)
theorem m_real_l {h : HP} {c k e p : Nat} {B : List Nat} (ok : okB B) (T : ByM h c B) (v1 : Int32) (he : e ≤ B.length) (hp : p < e) (hd : ∀ i, k ≤ i → i < e → i ≠ p → isDig (ch B i) = true) (n : Nat) : ∀ j, e - j < n → k ≤ j → j ≤ e →
    f_X44_number_l220 c v1 (nI e) (nI p) n (lN (dval (Wd B k p j))) (lN (10 ^ (j - (p + 1)))) (nI j) h = rok (lN (dval (Wd B k p e)), lN (10 ^ (e - (p + 1)))) h := by
  have hl := ok.1
  induction n with
  | zero => intro j h1; omega
  | succ n ih =>
    intro j h1 h2 h3
    rw [f_X44_number_l220_s]
    unfold b_X44_number_l220
    by_cases g : e ≤ j
    · have : j = e := by omega
      subst this
      rw [if_pos ((nI_leI (by omega) (by omega)).mpr g)]
    · rw [if_neg (fun z => g ((nI_leI (by omega) (by omega)).mp z))]
      simp only [f_X44_number_l220b253, f_X44_number_l220b268, lt3, nI_1]
      by_cases q : j = p
      · subst q
        have hW : Wd B k j j = Wd B k j (j + 1) := by
          unfold Wd
          rw [if_pos (Nat.le_refl _), if_neg (by omega), seg_nil, List.append_nil]
        rw [if_pos rfl, if_pos ((nI_leI (by omega) (by omega)).mpr (Nat.le_refl _)), hW, show j - (j + 1) = j + 1 - (j + 1) by omega]
        exact ih (j + 1) (by omega) (by omega) (by omega)
      · rw [if_neg (fun z => q ((nI_eq (by omega) (by omega)).mp z)), if_pos T.1, m_code ok T (by omega), bd_ok]
        have d := dig_c (hd j h2 (by omega) q)
        have hW : Wd B k p (j + 1) = Wd B k p j ++ [ch B j] := by
          unfold Wd
          by_cases jp : j < p
          · rw [if_pos (by omega), if_pos (by omega), seg_step h2 (by omega)]
          · rw [if_neg (by omega), if_neg (by omega), seg_step (by omega) (by omega), List.append_assoc]
        have ih1 := ih (j + 1) (by omega) (by omega) (by omega)
        rw [hW, dval_snoc] at ih1
        generalize ch B j = x at *
        have eck : ck x = nI x := by unfold ck; rw [if_neg (by omega)]
        rw [eck, nI_l (by omega), show (10 : Int64) = lN 10 from rfl, show (48 : Int64) = lN 48 from rfl, lN_mul, lN_add, lN_sub (by omega), show 10 * dval (Wd B k p j) + x - 48 = 10 * dval (Wd B k p j) + (x - 48) by omega]
        by_cases jp : j < p
        · rw [if_pos ((nI_leI (by omega) (by omega)).mpr (by omega)), show j - (p + 1) = j + 1 - (p + 1) by omega]; exact ih1
        · rw [if_neg (fun z => absurd ((nI_leI (by omega) (by omega)).mp z) (by omega)), lN_mul, show 10 * 10 ^ (j - (p + 1)) = 10 ^ (j + 1 - (p + 1)) by rw [show j + 1 - (p + 1) = j - (p + 1) + 1 by omega, Nat.pow_succ, Nat.mul_comm]]; exact ih1
def CutM (h : HP) (c p q : Nat) (B : List Nat) (TS : List Tk) (x : Nat) : Prop := ByM h c B ∧ fr h 347 c = p ∧ fr h 348 c = q ∧ kc h p = 131 ∧ cp h p ≠ RAW ∧ A2 (MT h) (ls h p) TS ∧ WdsM h q ∧ (ls h q).length ≤ TS.length + x
/-- one more token -/
theorem m_put {h : HP} {c p q s k K x : Nat} {B l : List Nat} {TS : List Tk} {bits : Int64} (w : WG h) (C : CutM h c p q B TS x) (hx : x ≤ 1) (hl : TS.length ≤ 300) (ks : kc h s = 71) (ts : tx h s = l) (e : Int32) :
    ∃ h', f_X44_add c (nI K) (nI k) e s bits h = rok e h' ∧ St [] [p, q] 9 h h' ∧ ∀ y, CutM h' c p q B (TS ++ [(K, k, l, bits, y)]) 0 := by
  obtain ⟨T, hp, hq, kp, cpp, A, W, lq⟩ := C
  obtain ⟨h', e1, s1, c1, l1, m1⟩ := m_add (K := K) (k := k) (bits := bits) w T.1 hp kp cpp (by rw [A.len]; exact hl) ks ts e
  have F := s1.fr (S := fun k => sCut k || k == 130) (by simp) (by simp [kp, sCut])
  have f130 := F.at W.1 (by decide) (by decide)
  have kcc := F.at T.1 (by decide) (by decide)
  refine ⟨h', e1, s1.wk (fun _ z => z) (fun x hx => .inl (by rw [List.mem_singleton.mp hx]; simp)) (Nat.le_refl _), fun y => ⟨?_, ?_, ?_, s1.2.kk kp (by decide), c1, ?_, ?_, ?_⟩⟩
  · exact ByM_fr F T (by decide) (fun k hk => by simp [sCut_b k hk])
  · exact (kcc.2.2.2.2.1 347).trans hp
  · exact (kcc.2.2.2.2.1 348).trans hq
  · rw [l1]
    exact (A.imp fun a _ b z => MT_fr F z (by decide) (by decide)).app (A2.one (m1 y))
  · have lsq : ls h' q = ls h q := f130.2.2.2.2.2.2.2.2.1
    refine ⟨f130.1, by rw [f130.2.2.2.2.2.2.2.2.2.2]; exact W.2.1, fun a ha => ?_⟩
    rw [lsq] at ha
    obtain ⟨y1, y2, y3⟩ := W.2.2 a ha
    have fa := F.at y1 (by decide) (by decide)
    have tt : tx h' a = tx h a := fa.2.2.2.2.2.2.2.2.2.1
    exact ⟨fa.1, by rw [tt]; exact y2, by rw [tt]; exact y3⟩
  · have lsq : ls h' q = ls h q := f130.2.2.2.2.2.2.2.2.1
    rw [lsq, List.length_append, List.length_singleton]; omega
/-- what the cutter gives back -/
def endI (T : Tk) : Int32 := if T.1 = 0 ∨ T.1 = 9 then -1 else nI T.2.2.2.2
def MOne (c p q : Nat) (B : List Nat) (TS : List Tk) (T : Tk) (a : Nat) (h : HP) (r : Rs Int32) : Prop := ∃ h', r = rok (endI T) h' ∧ St [] [p, q] a h h' ∧ CutM h' c p q B (TS ++ [T]) 0
theorem m_putO {h : HP} {c p q s x : Nat} {B : List Nat} {TS : List Tk} {T : Tk} (w : WG h) (C : CutM h c p q B TS x) (hx : x ≤ 1) (hl : TS.length ≤ 300) (ks : kc h s = 71) (ts : tx h s = T.2.2.1) {e : Int32} (he : e = endI T) :
    MOne c p q B TS T 9 h (bd (f_X44_add c (nI T.1) (nI T.2.1) e s T.2.2.2.1 h) (fun x1 h2 => rok x1 h2)) := by
  obtain ⟨h', e1, s1, c1⟩ := m_put (K := T.1) (k := T.2.1) (bits := T.2.2.2.1) w C hx hl ks ts e
  rw [e1, bd_ok, he]
  exact ⟨h', rfl, s1, c1 _⟩
theorem m_noneO {h : HP} {c p q x k : Nat} {B : List Nat} {TS : List Tk} (w : WG h) (C : CutM h c p q B TS x) (hx : x ≤ 1) (hl : TS.length ≤ 300) :
    MOne c p q B TS (noTk k) 9 h (if kc h c = 43 then bd (f_X44_none c (nI k) h) (fun x1 h2 => rok x1 h2) else none) := by
  rw [if_pos C.1.1]
  unfold f_X44_none
  rw [if_pos C.1.1]
  obtain ⟨k1, t1⟩ := cst1 w
  obtain ⟨h', e1, s1, c1⟩ := m_put (K := 9) (k := k) (bits := 0) w C hx hl k1 t1 (-1 : Int32)
  rw [show (9 : Int32) = nI 9 from rfl, e1, bd_ok, bd_ok]
  exact ⟨h', rfl, s1, c1 _⟩
theorem MOne.le {c p q : Nat} {B : List Nat} {TS : List Tk} {T : Tk} {a b : Nat} {h : HP} {r : Rs Int32} (x : MOne c p q B TS T a h r) (hab : a ≤ b) : MOne c p q B TS T b h r := by
  obtain ⟨h', e, s, C⟩ := x; exact ⟨h', e, s.le hab, C⟩
theorem MOne.pre {c p q : Nat} {B : List Nat} {TS : List Tk} {T : Tk} {a b : Nat} {h h1 : HP} {r : Rs Int32} (s : St [] [p, q] a h h1) (x : MOne c p q B TS T b h1 r) : MOne c p q B TS T (a + b) h r := by
  obtain ⟨h', e, s', C⟩ := x; exact ⟨h', e, s.trans s', C⟩
theorem realB_0 : ∀ m, m < 16 → realB 0 m = 0 := by decide +kernel
theorem m_number {h : HP} {c p q k : Nat} {B : List Nat} {TS : List Tk} (ok : okB B) (w : WG h) (C : CutM h c p q B TS 0) (hl3 : TS.length ≤ 300) (hk : k ≤ B.length) : MOne c p q B TS (lexNum B k) 9 h (f_X44_number c (nI k) h) := by
  have hl := ok.1
  have T := C.1
  have r1 := run_ge isDig B k
  have r2 := run_le isDig (B := B) (k := k) hk
  have rd := run_all (p := isDig) (by decide) (B := B) 1000 k (by omega)
  obtain ⟨c1k, c1t⟩ := cst1 w
  unfold f_X44_number lexNum
  generalize hr : run isDig B k = e at *
  have l7 := m_num_l ok T (nI k) r2 hr NN k (by have := NN_ge (k := 301) (by omega); omega) (Nat.le_refl _) r1
  have g0 : gst (dval (seg B k k)) = (0, 0) := by rw [seg_nil]; rfl
  rw [g0] at l7
  rw [l7, bd_ok, if_pos T.1]
  have lk := m_code ok T (show e < 2 ^ 31 by omega)
  rw [lk, bd_ok]
  have c46 : (ck (ch B e) = (46 : Int32)) ↔ ch B e = 46 := ckE (v := 46) (ch_lt ok _) (by omega)
  have c76 : (ck (ch B e) = (76 : Int32)) ↔ ch B e = 76 := ckE (v := 76) (ch_lt ok _) (by omega)
  have b140 : ch B e ≠ 76 → MOne c p q B TS (if ch B e = 76 then (if 2 ^ 63 ≤ dval (seg B k e) then noTk k else (4, k, [], lN (dval (seg B k e)), e + 1)) else (if 2 ^ 31 ≤ dval (seg B k e) then noTk k else (3, k, [], lN (dval (seg B k e)), e))) 9 h (f_X44_number_b140 c (nI k) (nI e) (gst (dval (seg B k e))).1 (gst (dval (seg B k e))).2 h) := by
    intro n76
    rw [if_neg n76]
    unfold f_X44_number_b140
    generalize dval (seg B k e) = v at *
    by_cases g : v < 2 ^ 63
    · have gv : gst v = (lN v, 0) := by unfold gst; rw [if_pos g]
      rw [gv, if_pos rfl]
      by_cases f : v ≤ 2147483647
      · rw [if_pos ((lc_le (c := 2147483647) (C := (2147483647 : Int64)) rfl g (by omega)).mpr f), if_neg (by omega), if_pos T.1]
        exact m_putO (T := (3, k, [], lN v, e)) w C (by omega) hl3 c1k c1t (by rfl)
      · rw [if_neg (fun z => f ((lc_le (c := 2147483647) (C := (2147483647 : Int64)) rfl g (by omega)).mp z)), if_pos (by omega)]
        exact m_noneO w C (by omega) hl3
    · have gv : gst v = (0, 1) := by unfold gst; rw [if_neg g]
      rw [gv, if_neg (show ¬ (1 : Int32) = 0 by decide), if_pos (by omega)]
      exact m_noneO w C (by omega) hl3
  by_cases c7 : ch B e = 76
  · rw [if_pos (c76.mpr c7), if_neg (show ¬ (ch B e = 46 ∧ isDig (ch B (e + 1)) = true) from fun z => by omega), if_pos c7]
    generalize dval (seg B k e) = v at *
    by_cases g : v < 2 ^ 63
    · have gv : gst v = (lN v, 0) := by unfold gst; rw [if_pos g]
      rw [gv, if_pos rfl, if_neg (by omega), if_pos T.1]
      exact m_putO (T := (4, k, [], lN v, e + 1)) w C (by omega) hl3 c1k c1t (by show nI e + (1 : Int32) = nI (e + 1); exact nI_1 e)
    · have gv : gst v = (0, 1) := by unfold gst; rw [if_neg g]
      rw [gv, if_neg (show ¬ (1 : Int32) = 0 by decide), if_pos (by omega)]
      exact m_noneO w C (by omega) hl3
  · rw [if_neg (fun z => c7 (c76.mp z)), if_pos T.1, lk, bd_ok]
    by_cases c4 : ch B e = 46
    · have heB : e < B.length := Nat.lt_of_not_le fun z => by rw [ch_out z] at c4; omega
      rw [if_pos (c46.mpr c4), if_pos T.1, show nI e + (1 : Int32) = nI (e + 1) from nI_1 e, m_code ok T (by omega), bd_ok, m_isDigit (ch_lt ok _), bd_ok, zB_if]
      by_cases g : isDig (ch B (e + 1)) = true
      · have s1 := run_ge isDig B (e + 1)
        have s2 := run_le isDig (B := B) (k := e + 1) (by omega)
        have sd := run_all (p := isDig) (by decide) (B := B) 1000 (e + 1) (by omega)
        simp only [lt3, nI_1]
        rw [if_pos g, if_pos ⟨c4, g⟩, m_digits ok T _ _ heB, bd_ok]
        generalize run isDig B (e + 1) = f at *
        rw [pk_sub (show k ≤ f by omega), show nI (f - k) - (1 : Int32) = nI (f - k - 1) from pk_sub (b := 1) (by omega)]
        by_cases c : f - k - 1 ≤ 15
        · rw [if_pos (show nI (f - k - 1) ≤ (15 : Int32) from nI_le (b := 15) c (by omega)), if_neg (by omega)]
          have dg : ∀ i, k ≤ i → i < f → i ≠ e → isDig (ch B i) = true := fun i a1 a2 a3 => by
            by_cases q : i < e
            · exact rd i a1 q
            · exact sd i (by omega) a2
          have lr := m_real_l ok T (nI k) s2 (show e < f by omega) dg NN k (by have := NN_ge (k := 301) (by omega); omega) (Nat.le_refl _) (by omega)
          have w0 : dval (Wd B k e k) = 0 := by unfold Wd; rw [if_pos r1, seg_nil]; rfl
          rw [w0, show k - (e + 1) = 0 by omega] at lr
          rw [show (0 : Int64) = lN 0 from rfl, show (1 : Int64) = lN (10 ^ 0) from rfl, lr, bd_ok]
          have hW : Wd B k e f = seg B k e ++ seg B (e + 1) f := by unfold Wd; rw [if_neg (by omega)]
          rw [hW]
          have hwl : dval (seg B k e ++ seg B (e + 1) f) < 10 ^ 15 := by
            have h1 := dval_lt (l := seg B k e ++ seg B (e + 1) f) (fun x hx => by
              rcases List.mem_append.mp hx with z | z
              · exact seg_all (q := fun x => isDig x = true) 1000 e (by omega) (by omega) (fun i a1 a2 => rd i a1 a2) x z
              · exact seg_all (q := fun x => isDig x = true) 1000 f (by omega) (by omega) (fun i a1 a2 => sd i a1 a2) x z)
            have h2 : (seg B k e ++ seg B (e + 1) f).length ≤ 15 := by rw [List.length_append, seg_len r1 (by omega), seg_len s1 s2]; omega
            exact Nat.lt_of_lt_of_le h1 (Nat.pow_le_pow_right (by omega) h2)
          generalize dval (seg B k e ++ seg B (e + 1) f) = v at *
          by_cases v0 : v = 0
          · subst v0
            rw [if_pos ((lc_eq rfl (by omega) (by omega)).mpr rfl), if_pos T.1, realB_0 _ (by omega)]
            exact m_putO (T := (5, k, [], 0, f)) w C (by omega) hl3 c1k c1t (by rfl)
          · rw [if_neg (fun z => v0 ((lc_eq rfl (by omega) (by omega)).mp z)), w_of, bd_ok, w_of, bd_ok, pk_lT (by omega), pk_lT (show 10 ^ (f - (e + 1)) < 2 ^ 63 from Nat.lt_of_le_of_lt (Nat.pow_le_pow_right (by omega) (show f - (e + 1) ≤ 15 by omega)) (by decide))]
            obtain ⟨a1, a2⟩ := fI64_ok (v : Int)
            obtain ⟨b1, b2⟩ := t10_ok (f - (e + 1))
            have tn := t10_n (f - (e + 1)) (by omega)
            have hdv := w_divide (a := Jvm.FP.Core.fromInt F64 (v : Int)) (b := t10 (f - (e + 1))) a1 b1 a2 b2 (fun z => tn.1 z.2) (fun z => tn.2 z.2) h
            unfold t10 at hdv
            rw [hdv, bd_ok, if_pos T.1]
            have hj : lN (Jvm.FP.Core.div F64 (Jvm.FP.Core.fromInt F64 (v : Int)) (Jvm.FP.Core.fromInt F64 ((10 ^ (f - (e + 1)) : Nat) : Int))) = realB v (f - e - 1) := by
              unfold realB; rw [show f - e - 1 = f - (e + 1) by omega]
            rw [hj]
            exact m_putO (T := (5, k, [], realB v (f - e - 1), f)) w C (by omega) hl3 c1k c1t (by rfl)
        · rw [if_neg (show ¬ nI (f - k - 1) ≤ (15 : Int32) from fun z => c ((nI_leI (b := 15) (by omega) (by omega)).mp z)), if_pos (by omega)]
          exact m_noneO w C (by omega) hl3
      · rw [if_neg g, if_neg (fun z => g z.2)]
        exact b140 c7
    · rw [if_neg (fun z => c4 (c46.mp z)), if_neg (fun z => c4 z.1)]
      exact b140 c7
