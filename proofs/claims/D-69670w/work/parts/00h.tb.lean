/-! PHASE B tokens 11: the twin's tokens, one and all -/
set_option maxRecDepth 100000
theorem SG_mem (c : Nat) : c ∈ SG ↔ (c = 123 ∨ c = 125 ∨ c = 40 ∨ c = 41 ∨ c = 91 ∨ c = 93 ∨ c = 44 ∨ c = 59 ∨ c = 46 ∨ c = 63 ∨ c = 58 ∨ c = 61 ∨ c = 43 ∨ c = 45 ∨ c = 42 ∨ c = 47 ∨ c = 37 ∨ c = 60 ∨ c = 62 ∨ c = 33 ∨ c = 126 ∨ c = 38 ∨ c = 94 ∨ c = 124) := by
  have : SG = [123, 125, 40, 41, 91, 93, 44, 59, 46, 63, 58, 61, 43, 45, 42, 47, 37, 60, 62, 33, 126, 38, 94, 124] := by decide
  rw [this]; simp
theorem m_sign81 {c : Nat} (hc : c < 256) (h : HP) : f_X44_sign_b81 (nI c) h = rok (if c ∈ SG then 1 else 0) h := by
  unfold f_X44_sign_b81 f_X44_sign_b225 f_X44_sign_b230
  rw [if_neg (show ¬ (1 : Int32) = 0 by decide), if_pos rfl]
  simp only [spI]
  congr 1
  exact (by decide +kernel : ∀ c, c < 256 → (if nI c = (123 : Int32) then (1 : Int32) else if nI c = (125 : Int32) then 1 else if nI c = (40 : Int32) then 1 else if nI c = (41 : Int32) then 1 else if nI c = (91 : Int32) then 1 else if nI c = (93 : Int32) then 1 else if nI c = (44 : Int32) then 1 else if nI c = (59 : Int32) then 1 else if nI c = (46 : Int32) then 1 else if nI c = (63 : Int32) then 1 else if nI c = (58 : Int32) then 1 else if nI c = (61 : Int32) then 1 else if nI c = (43 : Int32) then 1 else if nI c = (45 : Int32) then 1 else if nI c = (42 : Int32) then 1 else if nI c = (47 : Int32) then 1 else if nI c = (37 : Int32) then 1 else if nI c = (60 : Int32) then 1 else if nI c = (62 : Int32) then 1 else if nI c = (33 : Int32) then 1 else if nI c = (126 : Int32) then 1 else if nI c = (38 : Int32) then 1 else if nI c = (94 : Int32) then 1 else if nI c = (124 : Int32) then 1 else 0) = if c ∈ SG then 1 else 0) c hc
theorem ite_rs {α : Type} {p : Prop} [Decidable p] {a b c : α} (h1 : p → a = c) (h2 : ¬ p → b = c) : (if p then a else b) = c := by
  by_cases q : p
  · rw [if_pos q]; exact h1 q
  · rw [if_neg q]; exact h2 q
theorem m_sgn {c d e : Nat} (hc : c < 256) (hd6 : d ≤ 256) (he6 : e ≤ 256) (h : HP) : f_X44_sign (nI c) (ck d) (ck e) h = rok (nI (sgN c d e)) h := by
  have cE : ∀ {v : Nat} {V : Int32}, V = nI v → v < 256 → ((nI c = V) ↔ c = v) := fun hV hv => by rw [hV]; exact nI_eq (by omega) (by omega)
  have dE : ∀ {v : Nat} {V : Int32}, V = nI v → v < 256 → ((ck d = V) ↔ d = v) := fun hV hv => by rw [hV]; exact ckE hd6 hv
  have c62 := cE (v := 62) (V := 62) rfl (by omega)
  have c60 := cE (v := 60) (V := 60) rfl (by omega)
  have c61 := cE (v := 61) (V := 61) rfl (by omega)
  have c33 := cE (v := 33) (V := 33) rfl (by omega)
  have c38 := cE (v := 38) (V := 38) rfl (by omega)
  have c124 := cE (v := 124) (V := 124) rfl (by omega)
  have d62 := dE (v := 62) (V := 62) rfl (by omega)
  have d61 := dE (v := 61) (V := 61) rfl (by omega)
  have dc : (ck d = nI c) ↔ d = c := ckE hd6 hc
  have e62 : (ck e = (62 : Int32)) ↔ e = 62 := ckE (v := 62) he6 (by omega)
  have three : (c = 62 ∧ d = 62 ∧ e = 62) → rok (3 : Int32) h = rok (nI (sgN c d e)) h := fun z => by unfold sgN; rw [if_pos z]; rfl
  have two : ¬ (c = 62 ∧ d = 62 ∧ e = 62) → ((c = 60 ∧ (d = 60 ∨ d = 61)) ∨ (c = 62 ∧ (d = 62 ∨ d = 61)) ∨ ((c = 61 ∨ c = 33) ∧ d = 61) ∨ ((c = 38 ∨ c = 124) ∧ d = c)) → rok (2 : Int32) h = rok (nI (sgN c d e)) h := fun z y => by unfold sgN; rw [if_neg z, if_pos y]; rfl
  have one : ¬ (c = 62 ∧ d = 62 ∧ e = 62) → ¬ ((c = 60 ∧ (d = 60 ∨ d = 61)) ∨ (c = 62 ∧ (d = 62 ∨ d = 61)) ∨ ((c = 61 ∨ c = 33) ∧ d = 61) ∨ ((c = 38 ∨ c = 124) ∧ d = c)) → f_X44_sign_b81 (nI c) h = rok (nI (sgN c d e)) h := fun z y => by
    rw [m_sign81 hc]; unfold sgN; rw [if_neg z, if_neg y]
    by_cases m : c ∈ SG
    · rw [if_pos m, if_pos m]; rfl
    · rw [if_neg m, if_neg m]; rfl
  unfold f_X44_sign f_X44_sign_b24 f_X44_sign_b56
  simp only [c62, c60, c61, c33, c38, c124, d62, d61, dc, e62]
  generalize f_X44_sign_b81 (nI c) h = r1 at *
  generalize rok (nI (sgN c d e)) h = r0 at *
  generalize rok (3 : Int32) h = r3 at *
  generalize rok (2 : Int32) h = r2 at *
  repeat' (refine ite_rs (fun _ => ?_) (fun _ => ?_))
  all_goals first | (refine three ?_; omega) | (refine two ?_ ?_ <;> omega) | (refine one ?_ ?_ <;> omega)
theorem m_sgl {c : Nat} (hc : c ∈ SG) (h : HP) : ∃ q, f_X44_signOf (nI c) h = rok q h ∧ 1 ≤ q ∧ q ≤ nStr ∧ codes (cStr.getD (q - 1) "") = [c] := by
  have hc' := (SG_mem c).mp hc
  rcases hc' with rfl | rfl | rfl | rfl | rfl | rfl | rfl | rfl | rfl | rfl | rfl | rfl | rfl | rfl | rfl | rfl | rfl | rfl | rfl | rfl | rfl | rfl | rfl | rfl <;> exact ⟨_, rfl, by decide, by decide, by decide⟩
theorem m_sgm {c d e : Nat} (hn : sgN c d e ≠ 0) (h1 : sgN c d e ≠ 1) (h : HP) : ∃ q, f_X44_longSignOf (nI c) (ck d) (nI (sgN c d e)) h = rok q h ∧ 1 ≤ q ∧ q ≤ nStr ∧ codes (cStr.getD (q - 1) "") = sgX c d (sgN c d e) := by
  unfold sgN at hn h1 ⊢
  by_cases c3 : c = 62 ∧ d = 62 ∧ e = 62
  · obtain ⟨rfl, rfl, rfl⟩ := c3
    exact ⟨_, rfl, by decide, by decide, by decide⟩
  · rw [if_neg c3] at hn h1 ⊢
    by_cases c2 : (c = 60 ∧ (d = 60 ∨ d = 61)) ∨ (c = 62 ∧ (d = 62 ∨ d = 61)) ∨ ((c = 61 ∨ c = 33) ∧ d = 61) ∨ ((c = 38 ∨ c = 124) ∧ d = c)
    · rw [if_pos c2]
      rcases c2 with ⟨rfl, rfl | rfl⟩ | ⟨rfl, rfl | rfl⟩ | ⟨rfl | rfl, rfl⟩ | ⟨rfl | rfl, rfl⟩ <;> exact ⟨_, rfl, by decide, by decide, by decide⟩
    · rw [if_neg c2] at hn h1
      by_cases c1 : c ∈ SG
      · rw [if_pos c1] at h1; exact absurd rfl h1
      · rw [if_neg c1] at hn; exact absurd rfl hn
/-- the words' row after a spelling -/
theorem CutM_sp {h h' : HP} {c p q a x : Nat} {B : List Nat} {TS : List Tk} (C : CutM h c p q B TS 0) (s : St [] [q] a h h') (W : WdsM h' q) (hl : (ls h' q).length ≤ (ls h q).length + 1) : CutM h' c p q B TS 1 := by
  obtain ⟨T, hp, hq, kp, cpp, A, W0, lq⟩ := C
  have F := s.fr (S := fun k => sCut k || k == 131) (by simp) (by simp [W0.1, sCut])
  have kcc := F.at T.1 (by decide) (by decide)
  have fp := F.at kp (by decide) (by decide)
  have lsp : ls h' p = ls h p := fp.2.2.2.2.2.2.2.2.1
  refine ⟨ByM_fr F T (by decide) (fun k hk => by simp [sCut_b k hk]), (kcc.2.2.2.2.1 347).trans hp, (kcc.2.2.2.2.1 348).trans hq, fp.1, by rw [fp.2.2.2.2.2.2.2.2.2.2]; exact cpp, ?_, W, by omega⟩
  rw [lsp]
  exact A.imp fun a _ b z => MT_fr F z (by decide) (by decide)
theorem isLD_r : ∀ c, c < 257 → isLD c = true → c < 256 ∧ c ≠ 32 := by decide +kernel
theorem m_name {h : HP} {c p q k : Nat} {B : List Nat} {TS : List Tk} (ok : okB B) (w : WG h) (C : CutM h c p q B TS 0) (hl3 : TS.length ≤ 299) (hk : k ≤ B.length) (h1 : isLet (ch B k) = true) : MOne c p q B TS (lexName B k) (30 + 4 * ((lexName B k).2.2.2.2 - k)) h (f_X44_name c (nI k) h) := by
  have hl := ok.1
  have T := C.1
  have r1 := run_ge isLD B k
  have r2 := run_le isLD (B := B) (k := k) hk
  have rd := run_all (p := isLD) (by decide) (B := B) 1000 k (by omega)
  have kB : k < B.length := Nat.lt_of_not_le fun z => by rw [ch_out z] at h1; exact absurd h1 (by decide)
  have r3 : k < run isLD B k := by
    rw [run_step (by decide), if_pos (by unfold isLD; rw [h1]; rfl)]
    exact run_ge isLD B (k + 1)
  unfold f_X44_name lexName
  rw [m_names ok T _ hk, bd_ok]
  generalize run isLD B k = e at *
  rw [pk_sub r1]
  by_cases g : e - k ≤ 30
  · rw [if_pos (show nI (e - k) ≤ (30 : Int32) from nI_le (b := 30) g (by omega)), if_pos T.1]
    obtain ⟨s, h2, e1, s2, ks, ts, W2, l2⟩ := m_spelled ok w T C.2.2.1 C.2.2.2.2.2.2.1 (by have := C.2.2.2.2.2.2.2; omega) r1 r2 (by omega)
    rw [e1, bd_ok]
    have C2 : CutM h2 c p q B TS 1 := CutM_sp (x := 0) C s2 W2 l2
    have hsl := seg_len r1 r2
    have sm := seg_all (q := fun x => x < 256 ∧ x ≠ 32) 1000 e (by omega) r2 (fun i a1 a2 => isLD_r _ (by have := ch_lt ok i; omega) (rd i a1 a2))
    rw [m_among s2.1 ks ts (fun z => by rw [z] at hsl; simp at hsl; omega) (by omega) sm, bd_ok]
    have s2' : St [] [p, q] (20 + 4 * (e - k)) h h2 := s2.wk (fun _ z => z) (fun x hx => .inl (by rw [List.mem_singleton.mp hx]; simp)) (Nat.le_refl _)
    unfold f_X44_name_b66
    by_cases m : seg B k e ∈ KW
    · rw [if_neg (fun z => zB_d.mp z m), if_pos C2.1.1, if_pos m]
      exact (MOne.pre s2' (m_putO (T := (2, k, seg B k e, 0, e)) s2.1 C2 (by omega) (by omega) ks ts (by rfl))).le (by show _ ≤ 30 + 4 * (e - k); omega)
    · rw [if_pos (zB_d.mpr m), if_pos C2.1.1, if_neg m, if_neg (by omega)]
      exact (MOne.pre s2' (m_putO (T := (1, k, seg B k e, 0, e)) s2.1 C2 (by omega) (by omega) ks ts (by rfl))).le (by show _ ≤ 30 + 4 * (e - k); omega)
  · rw [if_neg (show ¬ nI (e - k) ≤ (30 : Int32) from fun z => g ((nI_leI (b := 30) (by omega) (by omega)).mp z))]
    have nm : seg B k e ∉ KW := fun z => by
      have := (KW_b _ z).1
      rw [seg_len r1 r2] at this; omega
    rw [if_neg nm, if_pos (by omega)]
    exact (m_noneO w C (by omega) (by omega)).le (by omega)
theorem m_str {h : HP} {c p q k : Nat} {B : List Nat} {TS : List Tk} (ok : okB B) (w : WG h) (C : CutM h c p q B TS 0) (hl3 : TS.length ≤ 299) (hk : k < B.length) : MOne c p q B TS (lexStr B k) (30 + 4 * ((lexStr B k).2.2.2.2 - k)) h (lt3 (nI k + (1 : Int32)) fun x27 => bd (f_X44_one_l154 c (nI k) NN x27 h) (fun x28 h29 => f_X44_one_b204 c (nI k) x28 h29)) := by
  have hl := ok.1
  have T := C.1
  have r1 := run_ge isStr B (k + 1)
  have r2 := run_le isStr (B := B) (k := k + 1) (by omega)
  simp only [lt3, nI_1]
  rw [m_strs ok T _ (by omega), bd_ok]
  unfold f_X44_one_b204 lexStr
  generalize run isStr B (k + 1) = f at *
  have c34 : (ck (ch B f) = (34 : Int32)) ↔ ch B f = 34 := ckE (v := 34) (ch_lt ok _) (by omega)
  rw [if_pos T.1, m_code ok T (by omega), bd_ok]
  by_cases c1 : ch B f = 34
  · rw [if_pos (c34.mpr c1), pk_sub (show k ≤ f by omega), show nI (f - k) - (1 : Int32) = nI (f - k - 1) from pk_sub (b := 1) (by omega)]
    by_cases g : f - k - 1 ≤ 100
    · rw [if_pos (show nI (f - k - 1) ≤ (100 : Int32) from nI_le (b := 100) g (by omega)), if_pos ⟨c1, g⟩, if_pos T.1, show nI k + (1 : Int32) = nI (k + 1) from nI_1 k]
      obtain ⟨s, h2, e1, s2, ks, ts, W2, l2⟩ := m_spelled ok w T C.2.2.1 C.2.2.2.2.2.2.1 (by have := C.2.2.2.2.2.2.2; omega) r1 r2 (by omega)
      rw [e1, bd_ok]
      have C2 : CutM h2 c p q B TS 1 := CutM_sp (x := 0) C s2 W2 l2
      have s2' : St [] [p, q] (20 + 4 * (f - (k + 1))) h h2 := s2.wk (fun _ z => z) (fun x hx => .inl (by rw [List.mem_singleton.mp hx]; simp)) (Nat.le_refl _)
      rw [if_pos C2.1.1, show nI f + (1 : Int32) = nI (f + 1) from nI_1 f]
      exact (MOne.pre s2' (m_putO (T := (7, k, seg B (k + 1) f, 0, f + 1)) s2.1 C2 (by omega) (by omega) ks ts (by rfl))).le (by show _ ≤ 30 + 4 * (f + 1 - k); omega)
    · rw [if_neg (show ¬ nI (f - k - 1) ≤ (100 : Int32) from fun z => g ((nI_leI (b := 100) (by omega) (by omega)).mp z)), if_neg (fun z => g z.2)]
      exact (m_noneO w C (by omega) (by omega)).le (by omega)
  · rw [if_neg (fun z => c1 (c34.mp z)), if_neg (fun z => c1 z.1)]
    exact (m_noneO w C (by omega) (by omega)).le (by omega)
theorem bd_r {α : Type} (r : Rs α) : bd r (fun x h => rok x h) = r := by
  cases r with
  | none => rfl
  | some v => cases v <;> rfl
/-- one token -/
theorem m_one {h : HP} {c p q k0 : Nat} {B : List Nat} {TS : List Tk} (ok : okB B) (w : WG h) (C : CutM h c p q B TS 0) (hl3 : TS.length ≤ 299) (hk0 : k0 ≤ B.length) : MOne c p q B TS (lex1 B k0) (30 + 4 * ((lex1 B k0).2.2.2.2 - k0)) h (f_X44_one c (nI k0) h) := by
  have hl := ok.1
  have T := C.1
  have r1 := run_ge isBlk B k0
  have hk := run_le isBlk (B := B) (k := k0) hk0
  obtain ⟨c1k, c1t⟩ := cst1 w
  unfold f_X44_one lex1
  rw [m_blanks ok T hk0, bd_ok, if_pos T.1]
  generalize run isBlk B k0 = k at *
  have hc := ch_lt ok k
  rw [m_code ok T (by omega), bd_ok]
  unfold lexAt
  by_cases c0 : ch B k = 256
  · rw [if_neg (fun z => (ck0 hc).mp z c0), if_pos c0, if_pos T.1]
    exact (m_putO (T := (0, k, [], 0, k)) w C (by omega) (by omega) c1k c1t (by rfl)).le (by omega)
  · have heB : k < B.length := Nat.lt_of_not_le fun z => c0 (ch_out z)
    have hc5 : ch B k < 256 := ch_in ok heB
    rw [if_pos ((ck0 hc).mpr c0), if_neg c0, m_isLetter hc, bd_ok, zB_if]
    by_cases c1 : isLet (ch B k) = true
    · rw [if_pos c1, if_pos c1, if_pos T.1, bd_r]
      exact (m_name ok w C hl3 hk c1).le (by omega)
    · rw [if_neg c1, if_neg c1, m_isDigit hc, bd_ok, zB_if]
      by_cases c2 : isDig (ch B k) = true
      · rw [if_pos c2, if_pos c2, if_pos T.1, bd_r]
        exact (m_number ok w C (by omega) hk).le (by omega)
      · rw [if_neg c2, if_neg c2]
        have c39 : (ck (ch B k) = (39 : Int32)) ↔ ch B k = 39 := ckE (v := 39) hc (by omega)
        have c34 : (ck (ch B k) = (34 : Int32)) ↔ ch B k = 34 := ckE (v := 34) hc (by omega)
        have n1 : nI k + (1 : Int32) = nI (k + 1) := nI_1 k
        have n2 : nI k + (2 : Int32) = nI (k + 2) := nI_add k 2
        have lk1 := m_code ok T (show k + 1 < 2 ^ 31 by omega)
        have lk2 := m_code ok T (show k + 2 < 2 ^ 31 by omega)
        by_cases c3 : ch B k = 39
        · rw [if_pos (c39.mpr c3), if_pos c3, if_pos T.1, n1, n2, lk1, bd_ok]
          have hno : ∀ {P : Prop}, P → (P → lexChr B k = noTk k) → MOne c p q B TS (lexChr B k) (30 + 4 * ((lexChr B k).2.2.2.2 - k0)) h (if kc h c = 43 then bd (f_X44_none c (nI k) h) (fun x1 h2 => rok x1 h2) else none) := fun z y => by rw [y z]; exact (m_noneO w C (by omega) (by omega)).le (by omega)
          obtain ⟨x, hx⟩ : ∃ x, x = ch B (k + 1) := ⟨_, rfl⟩
          have hx6 := ch_lt ok (k + 1)
          rw [← hx] at hx6 ⊢
          have l32 : (ck x < (32 : Int32)) ↔ x < 32 ∨ x = 256 := by
            by_cases q : x = 256
            · rw [q]; exact ⟨fun _ => .inr rfl, fun _ => by decide⟩
            · exact (ckL (v := 32) (by omega) (by omega)).trans ⟨.inl, fun z => by rcases z with z | z; exact z; exact absurd z q⟩
          by_cases d1 : x < 32 ∨ x = 256
          · rw [if_pos (l32.mpr d1)]
            exact hno d1 (fun _ => by unfold lexChr; rw [← hx, if_pos (by omega)])
          rw [if_neg (fun z => d1 (l32.mp z))]
          have l126 : ((126 : Int32) < ck x) ↔ 126 < x := ckG (v := 126) (by omega) (by omega)
          by_cases d2 : 126 < x
          · rw [if_pos (l126.mpr d2)]
            exact hno d2 (fun _ => by unfold lexChr; rw [← hx, if_pos (by omega)])
          rw [if_neg (fun z => d2 (l126.mp z))]
          have l39 : (ck x = (39 : Int32)) ↔ x = 39 := ckE (v := 39) hx6 (by omega)
          have l92 : (ck x = (92 : Int32)) ↔ x = 92 := ckE (v := 92) hx6 (by omega)
          by_cases d3 : x = 39
          · rw [if_pos (l39.mpr d3)]
            exact hno d3 (fun _ => by unfold lexChr; rw [← hx, if_pos (by omega)])
          rw [if_neg (fun z => d3 (l39.mp z))]
          by_cases d4 : x = 92
          · rw [if_pos (l92.mpr d4)]
            exact hno d4 (fun _ => by unfold lexChr; rw [← hx, if_pos (by omega)])
          rw [if_neg (fun z => d4 (l92.mp z)), if_pos T.1, lk2, bd_ok]
          have m39 : (ck (ch B (k + 2)) = (39 : Int32)) ↔ ch B (k + 2) = 39 := ckE (v := 39) (ch_lt ok _) (by omega)
          by_cases d5 : ch B (k + 2) = 39
          · rw [if_pos (m39.mpr d5), if_pos T.1]
            have eck : ck x = nI x := by unfold ck; rw [if_neg (by omega)]
            rw [eck, nI_l (by omega), show nI k + (3 : Int32) = nI (k + 3) from nI_add k 3]
            have e9 : lexChr B k = (6, k, [], lN x, k + 3) := by unfold lexChr; rw [← hx, if_neg (by omega)]
            rw [e9]
            exact (m_putO (T := (6, k, [], lN x, k + 3)) w C (by omega) (by omega) c1k c1t (by rfl)).le (by omega)
          · rw [if_neg (fun z => d5 (m39.mp z))]
            exact hno d5 (fun _ => by unfold lexChr; rw [← hx, if_pos (by omega)])
        · rw [if_neg (fun z => c3 (c39.mp z)), if_neg c3]
          by_cases c4 : ch B k = 34
          · rw [if_pos (c34.mpr c4), if_pos c4]
            exact (m_str ok w C hl3 heB).le (by omega)
          · have eck : ck (ch B k) = nI (ch B k) := by unfold ck; rw [if_neg c0]
            have sgE := @sg_seg B ok k
            rw [if_neg (fun z => c4 (c34.mp z)), if_neg c4, if_pos T.1, n1, n2, lk1, bd_ok, if_pos T.1, lk2, bd_ok, eck, m_sgn hc5 (ch_lt ok _) (ch_lt ok _), bd_ok]
            unfold lexSgn
            have sg3 : sgN (ch B k) (ch B (k + 1)) (ch B (k + 2)) ≤ 3 := by unfold sgN; (repeat' split) <;> omega
            have S1 : sgN (ch B k) (ch B (k + 1)) (ch B (k + 2)) = 1 → ch B k ∈ SG := fun z => by
              unfold sgN at z
              by_cases m : ch B k ∈ SG
              · exact m
              · exfalso; rw [if_neg m] at z; (repeat' split at z) <;> omega
            have Sm := @m_sgm (ch B k) (ch B (k + 1)) (ch B (k + 2))
            generalize hN : sgN (ch B k) (ch B (k + 1)) (ch B (k + 2)) = N at *
            by_cases g0 : N = 0
            · rw [g0, if_pos (show (0 : Nat) = 0 from rfl), if_pos (show nI 0 = (0 : Int32) from rfl)]
              exact (m_noneO w C (by omega) (by omega)).le (by omega)
            · rw [if_neg (show ¬ nI N = (0 : Int32) from fun z => g0 ((nI_eq (b := 0) (by omega) (by omega)).mp z)), if_neg g0]
              obtain ⟨sl, se⟩ := sgE g0
              by_cases g1 : N = 1
              · subst g1
                rw [if_pos (show nI 1 = (1 : Int32) from rfl)]
                obtain ⟨s, q1, q2, q3, q4⟩ := m_sgl (S1 rfl) h
                rw [q1, bd_ok, if_pos T.1, nI_add]
                exact (m_putO (T := (8, k, seg B k (k + 1), 0, k + 1)) w C (by omega) (by omega) (cst_k w q2 q3) ((cst_t w q2 q3).trans (q4.trans se.symm)) (by rfl)).le (by omega)
              · rw [if_neg (show ¬ nI N = (1 : Int32) from fun z => g1 ((nI_eq (b := 1) (by omega) (by omega)).mp z)), if_pos T.1, lk1, bd_ok]
                obtain ⟨s, q1, q2, q3, q4⟩ := Sm g0 g1 h
                rw [q1, bd_ok, if_pos T.1, nI_add]
                exact (m_putO (T := (8, k, seg B k (k + N), 0, k + N)) w C (by omega) (by omega) (cst_k w q2 q3) ((cst_t w q2 q3).trans (q4.trans se.symm)) (by rfl)).le (by omega)
