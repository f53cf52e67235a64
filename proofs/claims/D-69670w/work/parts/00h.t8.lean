/-! PHASE B tokens 8: the twin's words and tokens -/
set_option maxRecDepth 100000
def WdsM (h : HP) (q : Nat) : Prop := kc h q = 130 ∧ cp h q ≠ RAW ∧ ∀ a ∈ ls h q, kc h a = 71 ∧ (∀ x ∈ tx h a, x < 256) ∧ (tx h a).length < 1000
theorem WdsM.k {h : HP} {q : Nat} (W : WdsM h q) : lsK h q := ⟨by rw [W.1]; decide, by rw [W.1]; decide, W.2.1⟩
theorem seg_cons {B : List Nat} {j b : Nat} (h1 : j < b) (h2 : b ≤ B.length) : seg B j b = ch B j :: seg B (j + 1) b := by
  unfold seg ch
  rw [gD_in (show j < B.length by omega), List.drop_eq_getElem_cons (show j < B.length by omega), show b - j = b - (j + 1) + 1 by omega, List.take_succ_cons]
theorem sbStr_e {β : Type} {p : Nat} {h : HP} {K : Nat → HP → Rs β} (hk : sbK h p) : sbStr p h K = K (nx h) (nS h (tx h p)) := if_pos hk
theorem castR_e {β : Type} {cs : List Nat} {p : Nat} {h : HP} {t : Rs β} (hk : p = 0 ∨ kc h p ∈ cs) : castR cs p h t = t := if_pos hk
theorem m_sp_e {h : HP} {c v4 a b : Nat} {B u : List Nat} (ok : okB B) (T : ByM h c B) (v3 : Int32) (k4 : kc h v4 = 71) (t4 : tx h v4 = u) (hu : ∀ x ∈ u, x < 256) (hul : u.length = b - a) (hb : b ≤ B.length) (n : Nat) : ∀ j, b - j < n → a ≤ j → j ≤ b →
    f_X44_spelled_l47 c (nI a) (nI b) v3 v4 n 1 (nI j) h = rok (zB (decide (u.drop (j - a) = seg B j b))) h := by
  have hl := ok.1
  induction n with
  | zero => intro j h1; omega
  | succ n ih =>
    intro j h1 h2 h3
    rw [f_X44_spelled_l47_s]
    unfold b_X44_spelled_l47
    rw [if_neg (show ¬ (1 : Int32) = 0 by decide)]
    by_cases g : b ≤ j
    · rw [if_pos ((nI_leI (by omega) (by omega)).mpr g), show j = b by omega, seg_nil, List.drop_eq_nil_of_le (by omega)]; rfl
    · rw [if_neg (fun z => g ((nI_leI (by omega) (by omega)).mp z)), pk_sub h2, txAt_ok (c := u.getD (j - a) 0) k4 (by rw [t4]; omega) (by rw [t4]; omega) (by rw [t4]), if_pos T.1, m_code ok T (by omega), bd_ok]
      have hlt : j - a < u.length := by omega
      have hx := hu _ (List.getElem_mem hlt)
      rw [gD_in hlt]
      have hc := ch_in ok (show j < B.length by omega)
      have eck : ck (ch B j) = nI (ch B j) := by unfold ck; rw [if_neg (by omega)]
      simp only [f_X44_spelled_l47b81, lt3, nI_1]
      rw [eck, List.drop_eq_getElem_cons hlt, seg_cons (show j < b by omega) hb, show j - a + 1 = j + 1 - a by omega]
      by_cases q : u[j - a] = ch B j
      · rw [if_pos ((nI_eq (by omega) (by omega)).mpr q), ih (j + 1) (by omega) (by omega) (by omega)]
        congr 3
        rw [q]; simp
      · rw [if_neg (fun z => q ((nI_eq (by omega) (by omega)).mp z))]
        have e0 : f_X44_spelled_l47 c (nI a) (nI b) v3 v4 n 0 (nI (j + 1)) h = rok 0 h := by
          obtain ⟨m, rfl⟩ : ∃ m, n = m + 1 := ⟨n - 1, by omega⟩
          rw [f_X44_spelled_l47_s]
          unfold b_X44_spelled_l47
          rw [if_pos rfl]
        rw [e0, zBf]
        intro z; exact q (List.cons.inj z).1
theorem m_sp_l2 {h : HP} {c q a b : Nat} {B : List Nat} (ok : okB B) (T : ByM h c B) (hq : fr h 348 c = q) (W : WdsM h q) (hW : (ls h q).length < 100000) (hab : a ≤ b) (hb : b ≤ B.length) (n : Nat) : ∀ j, (ls h q).length - j < n → j ≤ (ls h q).length →
    ∃ r, f_X44_spelled_l2 c (nI a) (nI b) n (nI j) h = rok r h ∧ ∀ u, r = Sum.inl u → u ∈ ls h q ∧ tx h u = seg B a b := by
  have hl := ok.1
  induction n with
  | zero => intro j h1; omega
  | succ n ih =>
    intro j h1 h2
    rw [f_X44_spelled_l2_s]
    unfold b_X44_spelled_l2
    rw [ldR_e T.1, hq, lsSize_e W.k]
    by_cases g : (ls h q).length ≤ j
    · rw [if_pos ((nI_leI (by omega) (by omega)).mpr g)]
      exact ⟨_, rfl, fun u z => by cases z⟩
    · have hj : j < (ls h q).length := by omega
      rw [if_neg (fun z => g ((nI_leI (by omega) (by omega)).mp z)), ldR_e T.1, hq, lsGet_e ⟨W.k, inA_nI hj (by omega)⟩, nI_clamp (by omega), gD_in hj]
      have hm := List.getElem_mem hj
      obtain ⟨k1, k2, k3⟩ := W.2.2 _ hm
      generalize (ls h q)[j] = u at *
      unfold castR
      rw [if_pos (.inr (by rw [k1]; simp)), txLen_e k1, pk_sub hab]
      have go : ∀ r, r = (0 : Int32) → ∃ r', f_X44_spelled_l2b89 c (nI a) (nI b) (f_X44_spelled_l2 c (nI a) (nI b) n) (nI j) u r h = rok r' h ∧ ∀ u, r' = Sum.inl u → u ∈ ls h q ∧ tx h u = seg B a b := by
        intro r hr
        simp only [f_X44_spelled_l2b89, lt3, nI_1]
        rw [if_pos hr]
        exact ih (j + 1) (by omega) (by omega)
      unfold f_X44_spelled_l2b42
      by_cases e : (tx h u).length = b - a
      · rw [if_pos (by rw [e]), m_sp_e ok T _ k1 rfl k2 e hb NN a (by have := NN_ge (k := 301) (by omega); omega) (Nat.le_refl _) hab, bd_ok, Nat.sub_self, List.drop_zero]
        by_cases s : tx h u = seg B a b
        · rw [zBt s]
          unfold f_X44_spelled_l2b89
          rw [if_neg (by decide)]
          exact ⟨_, rfl, fun u' z => by cases z; exact ⟨hm, s⟩⟩
        · exact go _ (zBf s)
      · have ne : ¬ nI (tx h u).length = nI (b - a) := fun z => e ((nI_eq (by omega) (by omega)).mp z)
        rw [if_neg ne]
        have e0 : f_X44_spelled_l47 c (nI a) (nI b) (nI j) u NN 0 (nI a) h = rok 0 h := by
          rw [show NN = (NN - 1) + 1 from rfl, f_X44_spelled_l47_s]
          unfold b_X44_spelled_l47
          rw [if_pos rfl]
        rw [e0, bd_ok]
        exact go _ rfl
theorem bcap_le {k n m : Nat} (h1 : k ≤ m) (h2 : n ≤ m) : bcap k n ≤ 2 * m + 2 := by unfold bcap; split <;> omega
theorem m_sp_b {B : List Nat} (ok : okB B) {c a b : Nat} (hab : a ≤ b) (hb : b ≤ B.length) (hs : b - a ≤ 101) (n : Nat) : ∀ (j : Nat) (h : HP) (p : Nat), b - j < n → a ≤ j → j ≤ b → WG h → ByM h c B → kc h p = 72 → cp h p ≤ 300 → tx h p = seg B a j →
    ∃ h', f_X44_spelled_l114 c (nI b) p n (nI j) h = rok () h' ∧ St [] [p] (4 * (b - j)) h h' ∧ kc h' p = 72 ∧ cp h' p ≤ 300 ∧ tx h' p = seg B a b := by
  have hl := ok.1
  induction n with
  | zero => intro j h p h1; omega
  | succ n ih =>
    intro j h p h1 h2 h3 w T kp cpp tp
    rw [f_X44_spelled_l114_s]
    unfold b_X44_spelled_l114
    by_cases g : b ≤ j
    · have e : j = b := by omega
      subst e
      rw [if_pos ((nI_leI (by omega) (by omega)).mpr g), Nat.sub_self]
      exact ⟨h, rfl, St.refl w _ _, kp, cpp, tp⟩
    · have hjb : j < B.length := by omega
      have hc := ch_in ok hjb
      rw [if_neg (fun z => g ((nI_leI (by omega) (by omega)).mp z)), if_pos T.1, m_code ok T (by omega), bd_ok]
      have eck : ck (ch B j) = nI (ch B j) := by unfold ck; rw [if_neg (by omega)]
      have ec2 : UInt32.toInt32 (Int32.toUInt32 (nI (ch B j)) % 65536) = nI (ch B j) := (sb_byte _ hc).2.1
      rw [eck, ec2]
      have hlen : (tx h p).length = j - a := by rw [tp, seg_len h2 (by omega)]
      have hraw : RAW = 1099511627776 := rfl
      have hcond : sbK h p ∧ 0 ≤ nI (ch B j) ∧ nI (ch B j) < 256 ∧ (tx h p).length ≤ 1000000 ∧ cp h p ≤ 3000000 := by
        refine ⟨⟨kp, by omega⟩, nI_pos' (by omega), nI_lt (b := 256) hc (by omega), by omega, by omega⟩
      unfold sbApC
      rw [if_pos hcond, nI_clamp (by omega)]
      have hput : ∃ m c1 s1, sbPut h p [ch B j] = sTc h p (seg B a (j + 1)) m c1 s1 ∧ m ≤ 300 ∧ c1 ≤ 4 ∧ s1 ≤ 97 * 4 := by
        unfold sbPut
        rw [tp, ← seg_step h2 hjb]
        by_cases f : (seg B a j).length + [ch B j].length ≤ cp h p
        · rw [if_pos f]; exact ⟨_, _, _, rfl, cpp, by omega, by omega⟩
        · rw [if_neg f]
          have hl2 : (seg B a j).length + [ch B j].length = j - a + 1 := by rw [seg_len h2 (by omega)]; rfl
          rw [hl2] at f ⊢
          have := bcap_le (k := cp h p) (n := j - a + 1) (m := 101) (by omega) (by omega)
          exact ⟨_, _, _, rfl, by omega, by omega, by omega⟩
      obtain ⟨m, c1, s1, hp1, hm, hc1, hs1⟩ := hput
      rw [hp1]
      have st1 : St [] [p] (0 + 4) h (sTc h p (seg B a (j + 1)) m c1 s1) := (St.refl w [] [p]).sTc kp (by decide) (.inr (.inr (by simp))) hc1 hs1
      simp only [lt3, nI_1]
      obtain ⟨h', e1, e2, e3, e4, e5⟩ := ih (j + 1) _ p (by omega) (by omega) (by omega) st1.1 T kp (by rw [cp_sTc, if_pos rfl]; exact hm) (by rw [tx_sTc, if_pos rfl])
      exact ⟨h', e1, (st1.trans e2).le (by omega), e3, e4, e5⟩
theorem ByM_fr {S : Nat → Bool} {h h' : HP} {c : Nat} {B : List Nat} (f : Fr S h h') (T : ByM h c B) (h1 : S 43 = true) (h2 : ∀ k, tiK k = 1 → S k = true) : ByM h' c B := by
  obtain ⟨k1, k2, k3⟩ := f.at T.1 (by decide) h1
  refine ⟨k1, ?_⟩
  rw [k3.2.2.1 346]
  exact ByA_fr f T.2 (h2 _ T.2.1)
/-- kinds that the cutter doesn't change -/
def sCut (k : Nat) : Bool := k == 43 || k == 44 || k == 71 || decide (200 ≤ k)
theorem sCut_b : ∀ k, tiK k = 1 → sCut k = true := fun k hk => by
  unfold tiK at hk
  unfold sCut
  have : 200 ≤ k := Nat.le_of_not_lt fun z => by rw [if_pos z] at hk; omega
  simp [this]
theorem m_spelled {h : HP} {c q a b : Nat} {B : List Nat} (ok : okB B) (w : WG h) (T : ByM h c B) (hq : fr h 348 c = q) (W : WdsM h q) (hW : (ls h q).length ≤ 300) (hab : a ≤ b) (hb : b ≤ B.length) (hs : b - a ≤ 101) :
    ∃ s h', f_X44_spelled c (nI a) (nI b) h = rok s h' ∧ St [] [q] (20 + 4 * (b - a)) h h' ∧ kc h' s = 71 ∧ tx h' s = seg B a b ∧ WdsM h' q ∧ (ls h' q).length ≤ (ls h q).length + 1 := by
  have hl := ok.1
  obtain ⟨r, e1, e2⟩ := m_sp_l2 ok T hq W (by omega) hab hb NN 0 (by have := NN_ge (k := 301) (by omega); omega) (Nat.zero_le _)
  unfold f_X44_spelled
  rw [show (0 : Int32) = nI 0 from rfl, e1, bd_ok]
  cases r with
  | inl u =>
    obtain ⟨m1, m2⟩ := e2 u rfl
    exact ⟨u, h, rfl, (St.refl w _ _).le (by omega), (W.2.2 u m1).1, m2, W, by omega⟩
  | inr x =>
    simp only [Sum.elim_inr, nwC, sbInit]
    have hraw : RAW = 1099511627776 := rfl
    have s1 : St [] [] (0 + 1) h (nC h 72 4) := (St.refl w [] []).nC (by omega) (by omega)
    have k1 : kc (nC h 72 4) (nx h) = 72 := kc_nC_n
    have c1 : cp (nC h 72 4) (nx h) = RAW := by rw [cp_nC, if_pos rfl]
    have hp0 : kc h (nx h) = 0 := w.new
    rw [if_pos ⟨k1, c1⟩]
    have s2 : St [] [] (0 + 1 + 1) h (sTc (nC h 72 4) (nx h) [] 16 1 16) := s1.sTc k1 (by decide) (.inl hp0) (by omega) (by omega)
    have T2 : ByM (sTc (nC h 72 4) (nx h) [] 16 1 16) c B := ByM_fr (s2.fr (S := sCut) (by simp) (by simp)) T (by decide) sCut_b
    obtain ⟨h5, f1, f2, f3, f4, f5⟩ := m_sp_b ok (c := c) hab hb hs NN a _ (nx h) (by have := NN_ge (k := 301) (by omega); omega) (Nat.le_refl _) hab s2.1 T2 k1 (by rw [cp_sTc, if_pos rfl]; omega) (by rw [tx_sTc, if_pos rfl, seg_nil])
    rw [f1, bd_ok]
    have s5 : St [] [] (0 + 1 + 1 + 4 * (b - a)) h h5 := s2.cat f2 (fun _ q => q) (fun x hx => .inr (.inl (by rw [List.mem_singleton.mp hx]; exact hp0)))
    have E5 := s5.2.eq T.1 (by decide) (by simp) (by simp)
    have kc5 : kc h5 c = 43 := s5.2.kk T.1 (by decide)
    have hq5 : fr h5 348 c = q := (E5.2.2.1 348).trans hq
    rw [ldR_e kc5, hq5]
    rw [sbStr_e ⟨f3, by omega⟩, f5]
    have hlen := seg_len hab hb
    have s6 : St [] [] (0 + 1 + 1 + 4 * (b - a) + 2) h (nS h5 (seg B a b)) := s5.nS (by omega) (by rw [hlen]; omega)
    have kq6 : kc (nS h5 (seg B a b)) q = 130 := s6.2.kk W.1 (by decide)
    have E6 := s6.2.eq W.1 (by decide) (by simp) (by simp)
    have ls6 : ls (nS h5 (seg B a b)) q = ls h q := E6.2.2.2.2.2.2.1
    have cp6 : cp (nS h5 (seg B a b)) q = cp h q := E6.2.2.2.2.2.2.2.2
    have K6 : lsK (nS h5 (seg B a b)) q := ⟨by rw [kq6]; decide, by rw [kq6]; decide, by rw [cp6]; exact W.2.1⟩
    have kn : kc (nS h5 (seg B a b)) (nx h5) = 71 := kc_nS_n
    have tn : tx (nS h5 (seg B a b)) (nx h5) = seg B a b := by rw [tx_nS, if_pos rfl]
    generalize nS h5 (seg B a b) = h6 at *
    generalize nx h5 = s at *
    rw [lsAdd_e K6 (.inr (.inl kn)) (by rw [ls6]; omega)]
    have s7 : St [] [q] (0 + 1 + 1 + 4 * (b - a) + 2 + 7) h (lad h6 q s) := (s6.wk (fun _ z => z) (fun x hx => by simp at hx) (Nat.le_refl _)).ladd kq6 (by decide) (.inr (.inr (by simp))) (by omega) (by rw [ls6]; omega)
    have K7 := lad_K (v := s) K6 (by rw [ls6]; omega)
    have L7 : ls (lad h6 q s) q = ls h q ++ [s] := by rw [lad_ls, ls6]
    have kc7 : kc (lad h6 q s) c = 43 := s7.2.kk T.1 (by decide)
    have cq : c ≠ q := fun z => by have := W.1; rw [← z, T.1] at this; omega
    have hq7 : fr (lad h6 q s) 348 c = q := ((s7.2.eq T.1 (by decide) (by simp) (by simp; exact cq)).2.2.1 348).trans hq
    rw [ldR_e kc7, hq7, ldR_e kc7, hq7, lsSize_e K7, L7]
    have hll : (ls h q ++ [s]).length = (ls h q).length + 1 := by simp
    rw [hll, show nI ((ls h q).length + 1) - (1 : Int32) = nI (ls h q).length from pk_sub (b := 1) (by omega), lsGet_e ⟨K7, by rw [L7, hll]; exact inA_nI (by omega) (by omega)⟩, nI_clamp (by omega), L7]
    have hg : (ls h q ++ [s]).getD (ls h q).length 0 = s := by rw [List.getD_eq_getElem?_getD]; simp
    rw [hg]
    unfold castR
    have kn7 : kc (lad h6 q s) s = 71 := kn
    rw [if_pos (.inr (by rw [kn7]; simp))]
    refine ⟨s, _, rfl, s7.le (by omega), kn7, tn, ⟨kq6, K7.2.2, ?_⟩, by rw [L7, hll]; omega⟩
    intro u hu
    rw [L7] at hu
    rcases List.mem_append.mp hu with z | z
    · obtain ⟨y1, y2, y3⟩ := W.2.2 u z
      have Eu := s7.2.eq y1 (by decide) (by simp) (by simp; intro z2; rw [z2, W.1] at y1; omega)
      exact ⟨s7.2.kk y1 (by decide), by rw [Eu.2.2.2.2.2.2.2.1]; exact y2, by rw [Eu.2.2.2.2.2.2.2.1]; exact y3⟩
    · rw [List.mem_singleton.mp z]
      refine ⟨kn7, ?_⟩
      show (∀ x ∈ tx h6 s, x < 256) ∧ (tx h6 s).length < 1000
      rw [tn]
      exact ⟨fun x hx => ok.2 x (List.mem_of_mem_drop (List.mem_of_mem_take hx)), by omega⟩
