/-! PHASE B tokens 2: pieces of the text, words of a row -/
set_option maxRecDepth 100000
theorem seg_len {B : List Nat} {a b : Nat} (hab : a ≤ b) (hb : b ≤ B.length) : (seg B a b).length = b - a := by
  unfold seg; rw [List.length_take, List.length_drop]; omega
theorem seg_nil (B : List Nat) (a : Nat) : seg B a a = [] := by unfold seg; rw [Nat.sub_self]; rfl
theorem seg_step {B : List Nat} {a j : Nat} (ha : a ≤ j) (hj : j < B.length) : seg B a (j + 1) = seg B a j ++ [ch B j] := by
  unfold seg ch
  rw [gD_in hj]
  have hl : j - a < (B.drop a).length := by rw [List.length_drop]; omega
  have e := List.take_append_getElem hl
  rw [show j + 1 - a = j - a + 1 by omega, ← e, List.getElem_drop]
  congr 2
  · congr 1; omega
theorem x_part_l {B : List Nat} (ok : okB B) {t st a b : Nat} (hab : a ≤ b) (hb : b ≤ B.length) (n : Nat) : ∀ (j : Nat) (h : HP) (p : Nat), b - j < n → a ≤ j → j ≤ b → WG h → TokO h t B st → kc h p = 72 → cp h p = b - a → tx h p = seg B a j →
    ∃ h', f_X9_part_l14 t (nI b) p n (nI j) h = rok () h' ∧ St [] [p] 0 h h' ∧ kc h' p = 72 ∧ cp h' p = b - a ∧ tx h' p = seg B a b := by
  have hl := ok.1
  induction n with
  | zero => intro j h p h1; omega
  | succ n ih =>
    intro j h p h1 h2 h3 w T kp cpp tp
    rw [f_X9_part_l14_s]
    unfold b_X9_part_l14
    by_cases c : b ≤ j
    · have e : j = b := by omega
      subst e
      rw [if_pos ((nI_leI (by omega) (by omega)).mpr c)]
      exact ⟨h, rfl, St.refl w _ _, kp, cpp, tp⟩
    · have hjb : j < B.length := by omega
      have hc := ch_in ok hjb
      rw [if_neg (fun z => c ((nI_leI (by omega) (by omega)).mp z)), if_pos T.1, x_look ok T (by omega), bd_ok]
      have eck : ck (ch B j) = nI (ch B j) := by unfold ck; rw [if_neg (by omega)]
      have ec2 : UInt32.toInt32 (Int32.toUInt32 (nI (ch B j)) % 65536) = nI (ch B j) := (sb_byte _ hc).2.1
      rw [eck, ec2]
      have hlen : (tx h p).length = j - a := by rw [tp, seg_len h2 (by omega)]
      have hraw : RAW = 1099511627776 := rfl
      have hcond : sbK h p ∧ 0 ≤ nI (ch B j) ∧ nI (ch B j) < 256 ∧ (tx h p).length ≤ 1000000 ∧ cp h p ≤ 3000000 := by
        refine ⟨⟨kp, by rw [cpp]; omega⟩, nI_pos' (by omega), nI_lt (b := 256) hc (by omega), by omega, by omega⟩
      unfold sbApC
      rw [if_pos hcond, nI_clamp (by omega)]
      have hput : sbPut h p [ch B j] = sTc h p (seg B a (j + 1)) (b - a) 0 0 := by
        unfold sbPut
        rw [if_pos (by rw [hlen, cpp]; simp; omega), tp, cpp, seg_step h2 hjb]
      rw [hput]
      have s1 : St [] [p] 0 h (sTc h p (seg B a (j + 1)) (b - a) 0 0) := (St.refl w [] [p]).sTc (b := 0) kp (by decide) (.inr (.inr (by simp))) (by omega) (by omega)
      have T1 := TokO_mono (t' := 0) T s1 (fun x hx => by rw [List.mem_singleton.mp hx]; exact .inl kp)
      simp only [lt3, nI_1]
      obtain ⟨h', e1, e2, e3, e4, e5⟩ := ih (j + 1) _ p (by omega) (by omega) (by omega) s1.1 T1 kp (by rw [cp_sTc, if_pos rfl]) (by rw [tx_sTc, if_pos rfl])
      exact ⟨h', e1, s1.trans e2, e3, e4, e5⟩
theorem x_part {B : List Nat} (ok : okB B) {t st a b : Nat} {h : HP} (w : WG h) (T : TokO h t B st) (hab : a ≤ b) (hb : b ≤ B.length) :
    ∃ q h', f_X9_part t (nI a) (nI b) h = rok q h' ∧ St [] [] 14 h h' ∧ kc h' q = 71 ∧ tx h' q = seg B a b ∧ kc h q = 0 := by
  have hl := ok.1
  simp only [f_X9_part, nwC, sbInitN]
  have s0 := St.refl w [] []
  have s1 : St [] [] (0 + 1) h (nC h 72 4) := s0.nC (by omega) (by omega)
  have k1 : kc (nC h 72 4) (nx h) = 72 := kc_nC_n
  have hp0 : kc h (nx h) = 0 := w.new
  have c1 : cp (nC h 72 4) (nx h) = RAW := by rw [cp_nC, if_pos rfl]
  have hraw : RAW = 1099511627776 := rfl
  rw [pk_sub hab, if_pos ⟨⟨k1, c1⟩, nI_pos' (by omega), nI_le (b := 1000000) (by omega) (by omega)⟩, nI_clamp (by omega)]
  have s2 : St [] [] (0 + 1 + 5) h (sTc (nC h 72 4) (nx h) [] (b - a) 1 (b - a)) := s1.sTc k1 (by decide) (.inl hp0) (by omega) (by omega)
  have T2 := TokO_mono (t' := 0) T s2 (fun x hx => by simp at hx)
  obtain ⟨h5, e1, e2, e3, e4, e5⟩ := x_part_l ok hab hb NN a _ (nx h) (by have := NN_ge (k := 301) (by omega); omega) (Nat.le_refl _) hab s2.1 T2 k1 (by rw [cp_sTc, if_pos rfl]) (by rw [tx_sTc, if_pos rfl, seg_nil])
  rw [e1, bd_ok]
  have s5 : St [] [] (0 + 1 + 5 + 0) h h5 := s2.cat e2 (fun _ q => q) (fun x hx => .inr (.inl (by rw [List.mem_singleton.mp hx]; exact hp0)))
  unfold sbStr
  rw [if_pos ⟨e3, by rw [e4]; omega⟩, e5]
  have hlen := seg_len hab hb
  refine ⟨nx h5, nS h5 (seg B a b), rfl, (s5.nS (b := 8) (by omega) (by rw [hlen]; omega)), kc_nS_n, by rw [tx_nS, if_pos rfl], s5.new⟩
/-- words, each with a blank behind -/
def wtail : List (List Nat) → List Nat
  | [] => []
  | u :: us => u ++ 32 :: wtail us
def KW : List (List Nat) := ["abstract", "class", "extends", "implements", "interface", "default", "enum", "record", "return", "boolean", "byte", "short", "char", "int", "long", "float", "double", "true", "false", "null", "this", "instanceof", "in", "from", "where", "order", "down", "give", "exists", "all", "count", "sum"].map codes
def PW : List (List Nat) := ["boolean", "byte", "short", "char", "int", "long", "float", "double"].map codes
theorem KW_w : codes (cStr.getD (2 - 1) "") = 32 :: wtail KW := by decide +kernel
theorem PW_w : codes (cStr.getD (3 - 1) "") = 32 :: wtail PW := by decide +kernel
theorem KW_b : ∀ u ∈ KW, u.length ≤ 20 ∧ ∀ c ∈ u, c < 256 ∧ c ≠ 32 := by decide +kernel
theorem PW_b : ∀ u ∈ PW, u.length ≤ 20 ∧ ∀ c ∈ u, c < 256 ∧ c ≠ 32 := by decide +kernel
theorem drop_at {l : List Nat} {k c : Nat} {r : List Nat} (h : l.drop k = c :: r) : k < l.length ∧ l.getD k 0 = c ∧ l.drop (k + 1) = r := by
  have hk : k < l.length := Nat.lt_of_not_le fun z => by rw [List.drop_eq_nil_of_le z] at h; exact absurd h (by simp)
  rw [List.drop_eq_getElem_cons hk] at h
  obtain ⟨h1, h2⟩ := List.cons.inj h
  exact ⟨hk, by rw [gD_in hk]; exact h1, h2⟩
theorem txAt_ok {β : Type} {p k c : Nat} {h : HP} {K : Int32 → Rs β} (hp : kc h p = 71) (hk : k < (tx h p).length) (hl : (tx h p).length < 2 ^ 31) (hc : (tx h p).getD k 0 = c) : txAt p (nI k) h K = K (nI c) := by
  rw [txAt_e ⟨hp, inA_nI hk hl⟩, nI_clamp (by omega), hc]
theorem x_isIn_l {h : HP} {v0 v1 a : Nat} {W s : List Nat} (k0 : kc h v0 = 71) (t0 : tx h v0 = W) (hW : W.length < 1000) (k1 : kc h v1 = 71) (t1 : tx h v1 = s) (hs : s.length < 1000) (hsb : ∀ c ∈ s, c < 256) (u : List Nat) : ∀ (e : Nat) (sm : Bool) (r : List Nat) (n : Nat), (∀ c ∈ u, c < 256 ∧ c ≠ 32) → a ≤ e → W.drop e = u ++ 32 :: r → u.length < n →
    f_X9_isIn_l15 v0 v1 (nI a) n (nI e) (zB sm) h = rok (nI (e + u.length), zB (sm && u.isPrefixOf (s.drop (e - a)))) h := by
  induction u with
  | nil =>
    intro e sm r n _ ha hd hn
    obtain ⟨n, rfl⟩ : ∃ j, n = j + 1 := ⟨n - 1, by omega⟩
    obtain ⟨d1, d2, d3⟩ := drop_at hd
    rw [f_X9_isIn_l15_s]
    unfold b_X9_isIn_l15
    rw [txAt_ok (c := 32) k0 (by rw [t0]; exact d1) (by rw [t0]; omega) (by rw [t0]; exact d2), if_pos (show nI 32 = (32 : Int32) from rfl)]
    simp
  | cons c u ih =>
    intro e sm r n hu ha hd hn
    obtain ⟨n, rfl⟩ : ∃ j, n = j + 1 := ⟨n - 1, by omega⟩
    obtain ⟨d1, d2, d3⟩ := drop_at hd
    have hc := hu c (List.mem_cons_self ..)
    have next : ∀ sm' : Bool, f_X9_isIn_l15b60 v0 v1 (nI a) (f_X9_isIn_l15 v0 v1 (nI a) n) (nI e) (zB sm') h = rok (nI (e + (c :: u).length), zB (sm' && u.isPrefixOf (s.drop (e + 1 - a)))) h := by
      intro sm'
      simp only [f_X9_isIn_l15b60, lt3, nI_1]
      rw [ih (e + 1) sm' r n (fun x hx => hu x (List.mem_cons_of_mem _ hx)) (by omega) d3 (by simp at hn; omega)]
      congr 3
      simp; omega
    have rd : ∀ {β : Type} (K : Int32 → Rs β), txAt v0 (nI e) h K = K (nI c) := fun K => txAt_ok k0 (by rw [t0]; exact d1) (by rw [t0]; omega) (by rw [t0]; exact d2)
    rw [f_X9_isIn_l15_s]
    unfold b_X9_isIn_l15 f_X9_isIn_l15b59
    rw [rd, if_neg (fun z => hc.2 ((nk c (c := 32) (C := (32 : Int32)) rfl (by omega) (by omega)).mp z))]
    have n0 := next false
    have n1 := next true
    have z0 : zB false = (0 : Int32) := rfl
    have z1 : zB true = (1 : Int32) := rfl
    rw [z0] at n0
    rw [z1] at n1
    cases sm with
    | false => rw [if_pos z0, n0]; simp
    | true =>
      rw [if_neg (show ¬ zB true = 0 by decide), txLen_e k1, t1, pk_sub ha]
      by_cases cl : s.length ≤ e - a
      · rw [if_pos ((nI_leI (by omega) (by omega)).mpr cl), n0, List.drop_eq_nil_of_le cl]; simp [List.isPrefixOf]
      · have hlt : e - a < s.length := by omega
        have hx := hsb _ (List.getElem_mem hlt)
        rw [if_neg (fun z => cl ((nI_leI (by omega) (by omega)).mp z)), rd, txAt_ok (c := s[e - a]) k1 (by rw [t1]; exact hlt) (by rw [t1]; omega) (by rw [t1]; exact gD_in hlt)]
        rw [List.drop_eq_getElem_cons hlt, show e - a + 1 = e + 1 - a by omega]
        by_cases q : c = s[e - a]
        · rw [if_pos ((nI_eq (by omega) (by omega)).mpr q), n1, List.isPrefixOf_cons₂, ← q]; simp
        · rw [if_neg (fun z => q ((nI_eq (by omega) (by omega)).mp z)), n0, List.isPrefixOf_cons₂]
          have : (c == s[e - a]) = false := by simpa using q
          rw [this]; simp
theorem pref_eq {u s : List Nat} : (u.isPrefixOf s = true ∧ u.length = s.length) ↔ u = s := by
  rw [List.isPrefixOf_iff_prefix]
  constructor
  · rintro ⟨h1, h2⟩; exact h1.eq_of_length h2
  · rintro rfl; exact ⟨List.prefix_rfl, rfl⟩
theorem x_isIn_o {h : HP} {v0 v1 : Nat} {W s : List Nat} (k0 : kc h v0 = 71) (t0 : tx h v0 = W) (hW : W.length < 1000) (k1 : kc h v1 = 71) (t1 : tx h v1 = s) (hs : s.length < 1000) (hsb : ∀ c ∈ s, c < 256) (us : List (List Nat)) : ∀ (a : Nat) (n : Nat), (∀ u ∈ us, u.length ≤ 20 ∧ ∀ c ∈ u, c < 256 ∧ c ≠ 32) → a ≤ W.length → W.drop a = wtail us → us.length < n →
    f_X9_isIn_l2 v0 v1 n (nI a) h = rok (if s ∈ us then Sum.inl () else Sum.inr ()) h := by
  induction us with
  | nil =>
    intro a n _ ha hd hn
    obtain ⟨n, rfl⟩ : ∃ j, n = j + 1 := ⟨n - 1, by omega⟩
    have hlen : W.length ≤ a := List.drop_eq_nil_iff.mp hd
    rw [f_X9_isIn_l2_s]
    unfold b_X9_isIn_l2
    rw [txLen_e k0, t0, if_pos ((nI_leI (by omega) (by omega)).mpr hlen)]; simp
  | cons u us ih =>
    intro a n hu ha hd hn
    obtain ⟨n, rfl⟩ : ∃ j, n = j + 1 := ⟨n - 1, by omega⟩
    have hd' : W.drop a = u ++ 32 :: wtail us := hd
    have hlt : a < W.length := Nat.lt_of_not_le fun z => by rw [List.drop_eq_nil_of_le z] at hd'; exact absurd hd' (by simp)
    obtain ⟨u1, u2⟩ := hu u (List.mem_cons_self ..)
    rw [f_X9_isIn_l2_s]
    unfold b_X9_isIn_l2
    rw [txLen_e k0, t0, if_neg (fun z => absurd ((nI_leI (by omega) (by omega)).mp z) (by omega)), show (1 : Int32) = zB true from rfl,
      x_isIn_l k0 t0 hW k1 t1 hs hsb u a true (wtail us) NN u2 (Nat.le_refl _) hd' (by have := NN_ge (k := 100) (by omega); omega), bd_ok, Nat.sub_self, List.drop_zero, Bool.true_and]
    simp only [f_X9_isIn_l2b85, lt3]
    have hdl : W.drop (a + u.length + 1) = wtail us := by
      have : (W.drop a).drop (u.length + 1) = wtail us := by rw [hd', ← List.drop_drop, List.drop_left]; rfl
      rw [List.drop_drop] at this
      rw [← this]; congr 1
    have hle : a + u.length + 1 ≤ W.length := by
      have h1 : (W.drop a).length = u.length + 1 + (wtail us).length := by rw [hd']; simp; omega
      rw [List.length_drop] at h1; omega
    have nxt := ih (a + u.length + 1) n (fun x hx => hu x (List.mem_cons_of_mem _ hx)) hle hdl (by simp at hn; omega)
    rw [nI_1, nxt]
    by_cases q : u = s
    · have pe := pref_eq.mpr q
      have lt : nI (a + u.length) - nI a = nI s.length := by rw [pk_sub (by omega), ← q]; congr 1; omega
      rw [pe.1, if_neg (show ¬ zB true = 0 by decide), txLen_e k1, t1, if_pos lt, if_pos (by rw [q]; exact List.mem_cons_self ..)]
    · have hmem : (s ∈ u :: us) ↔ s ∈ us := by
        rw [List.mem_cons]; exact ⟨fun z => by rcases z with z | z; exact absurd z.symm q; exact z, .inr⟩
      have hif : (if s ∈ u :: us then (Sum.inl () : Unit ⊕ Unit) else Sum.inr ()) = (if s ∈ us then Sum.inl () else Sum.inr ()) := by
        by_cases m : s ∈ us
        · rw [if_pos m, if_pos (hmem.mpr m)]
        · rw [if_neg m, if_neg (fun z => m (hmem.mp z))]
      rw [hif]
      cases pb : u.isPrefixOf s with
      | false => rw [if_pos (show zB false = (0 : Int32) from rfl)]
      | true =>
        rw [if_neg (show ¬ zB true = 0 by decide), txLen_e k1, t1]
        have : ¬ nI (a + u.length) - nI a = nI s.length := by
          rw [pk_sub (by omega), nI_eq (by omega) (by omega)]
          intro z; exact q (pref_eq.mp ⟨pb, by omega⟩)
        rw [if_neg this]
theorem x_isIn {h : HP} {v0 v1 : Nat} {us : List (List Nat)} {s : List Nat} (k0 : kc h v0 = 71) (t0 : tx h v0 = 32 :: wtail us) (hW : (32 :: wtail us).length < 1000) (hu : ∀ u ∈ us, u.length ≤ 20 ∧ ∀ c ∈ u, c < 256 ∧ c ≠ 32) (k1 : kc h v1 = 71) (t1 : tx h v1 = s) (hs : s.length < 1000) (hsb : ∀ c ∈ s, c < 256) (hn : us.length < 1000) :
    f_X9_isIn v0 v1 h = rok (zB (decide (s ∈ us))) h := by
  unfold f_X9_isIn
  have := x_isIn_o k0 t0 hW k1 t1 hs hsb us 1 NN hu (by simp) rfl (by have := NN_ge (k := 1000) (by omega); omega)
  rw [show (1 : Int32) = nI 1 from rfl, this, bd_ok]
  by_cases m : s ∈ us
  · rw [if_pos m, zBt m]; rfl
  · rw [if_neg m, zBf m]; rfl
