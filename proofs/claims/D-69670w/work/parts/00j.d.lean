/-! PHASE B declarations 4: kinds are begun -/
set_option maxRecDepth 100000
theorem sbPut_e {h : HP} {p : Nat} {l : List Nat} : ∃ m c1 s1, sbPut h p l = sTc h p (tx h p ++ l) m c1 s1 ∧ m ≤ 2 * cp h p + 2 + ((tx h p).length + l.length) ∧ c1 ≤ 1 ∧ s1 ≤ m := by
  unfold sbPut
  by_cases c : (tx h p).length + l.length ≤ cp h p
  · rw [if_pos c]; exact ⟨cp h p, 0, 0, rfl, by omega, by omega, by omega⟩
  · rw [if_neg c]
    refine ⟨_, _, _, rfl, ?_, by omega, Nat.le_refl _⟩
    unfold bcap
    rw [if_neg (by omega)]
    omega
theorem sbApS_e {β : Type} {p r : Nat} {h : HP} {K : HP → Rs β} (h1 : sbK h p) (h2 : kc h r = 71) (h3 : (tx h p).length ≤ 1000000) (h4 : cp h p ≤ 3000000) (h5 : (tx h r).length ≤ 1000000) : sbApS p r h K = K (sbPut h p (tx h r)) := if_pos ⟨h1, h2, h3, h4, h5⟩
/-- a text between two others, made by a builder -/
theorem sb3 {h : HP} (w : WG h) {r1 s r2 : Nat} {l1 l l2 : List Nat} (h1 : StrX h r1 l1) (hs : StrX h s l) (h2 : StrX h r2 l2) (n1 : l1.length ≤ 1) (n : l.length ≤ 100) (n2 : l2.length ≤ 1) :
    ∃ h' p, (∀ {β : Type} {K : Nat → HP → Rs β}, (nwC 72 4 h fun p2 h3 => sbInit p2 h3 fun h4 => sbApS p2 r1 h4 fun h5 => sbApS p2 s h5 fun h6 => sbApS p2 r2 h6 fun h7 => sbStr p2 h7 fun x8 h9 => K x8 h9) = K p h') ∧ St [] [] 28 h h' ∧ StrX h' p (l1 ++ l ++ l2) ∧ kc h p = 0 := by
  have hnew : kc h (nx h) = 0 := w.new
  have z := w.2.1 (nx h) (Nat.le_refl _)
  have ne : ∀ {r : Nat} {l : List Nat}, StrX h r l → r ≠ nx h := fun y => w.ne y.1 (by decide)
  have sA : St [] [] (0 + 1) h (nC h 72 4) := (St.refl w [] []).nC (by omega) (by omega)
  have k1 : kc (nC h 72 4) (nx h) = 72 := kc_nC_n
  have c1 : cp (nC h 72 4) (nx h) = RAW := by rw [cp_nC, if_pos rfl]
  have raw : RAW = 1099511627776 := rfl
  have sB : St [] [] (0 + 1 + 1) h (sTc (nC h 72 4) (nx h) [] 16 1 16) := sA.sTc k1 (by decide) (.inl hnew) (by omega) (by omega)
  have str : ∀ {h3 : HP} {a r : Nat} {l : List Nat}, St [] [] a h h3 → StrX h r l → StrX h3 r l := fun s y => StrX_fr (s.fr (S := fun _ => true) (by simp) (by simp)) y rfl
  have i1 : ∀ {β : Type} {K : HP → Rs β}, sbInit (nx h) (nC h 72 4) K = K (sTc (nC h 72 4) (nx h) [] 16 1 16) := if_pos ⟨k1, c1⟩
  have k2 : kc (sTc (nC h 72 4) (nx h) [] 16 1 16) (nx h) = 72 := k1
  have t2 : tx (sTc (nC h 72 4) (nx h) [] 16 1 16) (nx h) = [] := by rw [tx_sTc, if_pos rfl]
  have p2 : cp (sTc (nC h 72 4) (nx h) [] 16 1 16) (nx h) = 16 := by rw [cp_sTc, if_pos rfl]
  have nxA : nx (nC h 72 4) = nx h + 1 := rfl
  have e0 : ∀ {β : Type} {K : Nat → HP → Rs β}, (nwC 72 4 h fun p2 h3 => sbInit p2 h3 fun h4 => sbApS p2 r1 h4 fun h5 => sbApS p2 s h5 fun h6 => sbApS p2 r2 h6 fun h7 => sbStr p2 h7 fun x8 h9 => K x8 h9) = (fun h4 => sbApS (nx h) r1 h4 fun h5 => sbApS (nx h) s h5 fun h6 => sbApS (nx h) r2 h6 fun h7 => sbStr (nx h) h7 fun x8 h9 => K x8 h9) (sTc (nC h 72 4) (nx h) [] 16 1 16) := fun {β K} => by rw [nwC_e, i1]
  generalize sTc (nC h 72 4) (nx h) [] 16 1 16 = hB at *
  generalize hq : nx h = q at *
  -- one text more
  have step : ∀ {hC : HP} {a r M : Nat} {l t : List Nat}, St [] [] a h hC → kc hC q = 72 → tx hC q = t → cp hC q ≤ M → M ≤ 300 → t.length + l.length ≤ 150 → StrX h r l →
      ∃ hD m, (∀ {β : Type} {K : HP → Rs β}, sbApS q r hC K = K hD) ∧ St [] [] (a + 8) h hD ∧ kc hD q = 72 ∧ tx hD q = t ++ l ∧ cp hD q = m ∧ m ≤ 2 * M + 2 + (t.length + l.length) ∧ nx hD = nx hC := by
    intro hC a r M l t sC kC tC cC hM hl hr
    obtain ⟨x1, x2⟩ := str sC hr
    obtain ⟨m, c1, s1, y1, y2, y3, y4⟩ := sbPut_e (h := hC) (p := q) (l := tx hC r)
    rw [tC, x2] at y2
    refine ⟨sTc hC q (tx hC q ++ tx hC r) m c1 s1, m, fun {β K} => ?_, ?_, kC, by rw [tx_sTc, if_pos rfl, tC, x2], by rw [cp_sTc, if_pos rfl], by omega, rfl⟩
    · rw [sbApS_e ⟨kC, by omega⟩ x1 (by rw [tC]; omega) (by omega) (by rw [x2]; omega), y1]
    · exact sC.sTc kC (by decide) (.inl hnew) (by omega) (by omega)
  obtain ⟨hC, m1, f1, s1, u1, v1, w1, q1, o1⟩ := step (M := 16) sB k2 t2 (by omega) (by omega) (by simp; omega) h1
  obtain ⟨hD, m2, f2, s2, u2, v2, w2, q2, o2⟩ := step (M := m1) s1 u1 v1 (by omega) (by simp at q1; omega) (by simp; omega) hs
  obtain ⟨hE, m3, f3, s3, u3, v3, w3, q3, o3⟩ := step (M := m2) s2 u2 v2 (by omega) (by simp at q1 q2; omega) (by simp; omega) h2
  have raw' : cp hE q ≠ RAW := by simp at q1 q2 q3; omega
  have txl : (tx hE q).length ≤ 102 := by rw [v3]; simp; omega
  have s4 : St [] [] (0 + 1 + 1 + 8 + 8 + 8 + 2) h (nS hE (tx hE q)) := s3.nS (b := 2) (by omega) (by omega)
  refine ⟨nS hE (tx hE q), nx hE, fun {β K} => ?_, s4.le (by omega), ⟨kc_nS_n, by rw [tx_nS, if_pos rfl, v3]; simp⟩, s3.new⟩
  rw [e0]
  show sbApS q r1 hB (fun h5 => sbApS q s h5 fun h6 => sbApS q r2 h6 fun h7 => sbStr q h7 fun x8 h9 => K x8 h9) = _
  rw [f1, f2, f3, sbStr_e ⟨u3, raw'⟩]
theorem dsc_e {h : HP} (w : WG h) {p s : Nat} {l : List Nat} (kp : kc h p = 4) (hs : StrX h s l) (n : l.length ≤ 100) :
    ∃ h', (∀ {β : Type} {K : HP → Rs β}, bd (dscT p s h) (fun _ h2 => K h2) = K h') ∧ St [] [p] 28 h h' ∧ kc h' p = 4 ∧ StrX h' (fr h' 36 p) (76 :: l ++ [59]) ∧ (∀ f, f ≠ 36 → fr h' f p = fr h f p) ∧ ∀ f, fi h' f p = fi h f p := by
  have c29 : StrX h 29 (codes (cStr.getD (29 - 1) "")) := ⟨cst_k w (by decide) (by decide), cst_t w (by decide) (by decide)⟩
  have c18 : StrX h 18 (codes (cStr.getD (18 - 1) "")) := ⟨cst_k w (by decide) (by decide), cst_t w (by decide) (by decide)⟩
  obtain ⟨h1, x, e1, s1, x1, x0⟩ := sb3 w c29 hs c18 (by decide) n (by decide)
  have k1 := s1.2.kk kp (by decide)
  have E := s1.2.eq kp (by decide) (by simp) (by simp)
  have s2 : St [] [p] 28 h (sR h1 36 p x) := (s1.wk (X2 := [p]) (fun _ z => z) (fun x hx => by simp at hx) (Nat.le_refl _)).sR k1 (by decide) (.inr (.inr (by simp)))
  refine ⟨sR h1 36 p x, fun {β K} => ?_, s2.le (by omega), k1, ?_, fun f hf => ?_, fun f => E.1 f⟩
  · unfold dscT
    rw [e1, stR_e k1, bd_ok]
  · have : fr (sR h1 36 p x) 36 p = x := by rw [fr_sR, if_pos ⟨rfl, rfl⟩]
    rw [this]
    exact ⟨x1.1, x1.2.trans (by rw [show codes (cStr.getD (29 - 1) "") = [76] by decide, show codes (cStr.getD (18 - 1) "") = [59] by decide]; rfl)⟩
  · rw [fr_sR, if_neg (fun y => hf y.1)]; exact E.2.2.1 f
/-- where lists of declarations may lie -/
abbrev Fb (a b : Nat) : Nat → Prop := fun l => a ≤ l ∧ l < b
theorem list_at {F : Nat → Prop} {h : HP} {l c : Nat} (hF : F l) (k : kc h l = c) (q : cp h l ≠ RAW) (e : ls h l = []) {β : Type} {P : HP → Nat → β → Prop} : LsX F h l c P [] := ⟨hF, k, q, by rw [e]; exact True.intro⟩
/-- a kind is begun and put among the kinds -/
theorem kind_new {h : HP} {e : EE} (w : WG h) {K kl s sort n : Nat} {nm : List Nat} (kK : kc h K = 3) (fK : fr h 30 K = kl) (kkl : kc h kl = 120) (ckl : cp h kl ≠ RAW) (lkl : (ls h kl).length = 10 + n) (hn : n ≤ 300) (hs : StrX h s nm) (hl : nm.length ≤ 100) :
    ∃ k h', (∀ {β : Type} {K' : Nat → HP → Rs β}, bd (f_X2_add K (900 + sort) s h) K' = K' k h') ∧ St [] [kl] 60 h h' ∧ ls h' kl = ls h kl ++ [k] ∧ cp h' kl ≠ RAW ∧ kc h k = 0 ∧ KbX e (Fb (nx h) (nx h')) h' k (10 + n) sort 0 0 nm [] := by
  have hnew : kc h (nx h) = 0 := w.new
  have z := w.2.1 (nx h) (Nat.le_refl _)
  have K2 : WG (nO h 4 18) := w.nO
  have kq : kc (nO h 4 18) (nx h) = 4 := kc_nO_n
  have hn2 : nx (nO h 4 18) = nx h + 1 := rfl
  have h8 : (8 : Int32) ≤ nI (10 + n) := (nI_leI (a := 8) (b := 10 + n) (by omega) (by omega)).mpr (by omega)
  have kK2 : kc (nO h 4 18) K = 3 := kc_nO_o w kK (by decide)
  have kl2 : kc (nO h 4 18) kl = 120 := kc_nO_o w kkl (by decide)
  have zf : ∀ f, fr (nO h 4 18) f (nx h) = 0 := fun f => by rw [fr_nO]; exact z.2.2.2.1 f
  have zi : ∀ f, fi (nO h 4 18) f (nx h) = 0 := fun f => by rw [fi_nO]; exact z.2.1 f
  obtain ⟨h1, e1, s1, n1, c0, c1, c2, c3, c4, c5, c6, f41, f42, f43, f44, f45, f46, v31, v32, v33, v34, v35, a0, b0, a2, b2, a3, b3, a4, b4, a5, b5, x1, oth⟩ := mk_kd1 K2 kq (v := nI (10 + n)) (so := 900 + sort) (nm := s) h8
  have sA : St [] [] (0 + 1 + 11) h h1 := ((St.refl w [] []).nO (k := 4) (n := 18) (b := 1) (by omega) (by omega)).cat s1 (fun _ z => z) (fun x hx => .inr (.inl (by rw [List.mem_singleton.mp hx]; exact hnew)))
  have hs1 : StrX h1 s nm := StrX_fr (sA.fr (S := fun _ => true) (by simp) (by simp)) hs rfl
  obtain ⟨h2, e2, s2, k2, g36, gf, gi⟩ := dsc_e sA.1 c0 hs1 hl
  have sB : St [] [] (0 + 1 + 11 + 28) h h2 := sA.cat s2 (fun _ z => z) (fun x hx => .inr (.inl (by rw [List.mem_singleton.mp hx]; exact hnew)))
  have Fk := (sB.fr (S := fun _ => true) (by simp) (by simp)).at kkl (by decide) rfl
  have FK := (sB.fr (S := fun _ => true) (by simp) (by simp)).at kK (by decide) rfl
  have len : (ls h2 kl).length = 10 + n := by rw [Fk.2.2.2.2.2.2.2.2.1]; exact lkl
  have cl2 : cp h2 kl ≠ RAW := by rw [Fk.2.2.2.2.2.2.2.2.2.2]; exact ckl
  have KL : lsK h2 kl := ⟨by rw [Fk.1]; decide, by rw [Fk.1]; decide, cl2⟩
  have KK := lad_K (v := nx h) KL (by omega)
  have sC : St [] [kl] (0 + 1 + 11 + 28 + 10) h (lad h2 kl (nx h)) := (sB.wk (X2 := [kl]) (fun _ z => z) (fun x hx => by simp at hx) (Nat.le_refl _)).ladd Fk.1 (by decide) (.inr (.inr (by simp))) (by omega) (by omega)
  have nkl : ∀ j, nx (nO h 4 18) + j ≠ kl := fun j y => by
    have : kc h kl = 0 := by rw [← y, hn2]; exact (w.2.1 _ (by omega)).1
    rw [kkl] at this; omega
  have nq : ∀ j, nx (nO h 4 18) + j ≠ nx h := fun j => by rw [hn2]; omega
  -- the lists are as they were made
  have f2 := s2.fx
  have stay : ∀ {j c : Nat}, kc h1 (nx (nO h 4 18) + j) = c → c ≠ 0 → kc (lad h2 kl (nx h)) (nx (nO h 4 18) + j) = c ∧ xl (lad h2 kl (nx h)) (nx (nO h 4 18) + j) = xl h1 (nx (nO h 4 18) + j) ∧ ls (lad h2 kl (nx h)) (nx (nO h 4 18) + j) = ls h1 (nx (nO h 4 18) + j) ∧ cp (lad h2 kl (nx h)) (nx (nO h 4 18) + j) = cp h1 (nx (nO h 4 18) + j) := by
    intro j c hk hc
    obtain ⟨y1, y2, y3⟩ := f2 _ (by rw [hk]; exact hc) (by simp; exact nq j)
    refine ⟨y1.trans hk, y2, ?_, ?_⟩
    · unfold lad; rw [ls_sLc, if_neg (nkl j)]; exact y3.2.2.2.2.2.2.1
    · unfold lad; rw [cp_sLc, if_neg (nkl j)]; exact y3.2.2.2.2.2.2.2.2
  have nxx : nx h + 7 ≤ nx (lad h2 kl (nx h)) := by
    have := s2.2.1
    show nx h + 7 ≤ nx h2
    rw [hn2] at n1; omega
  have fF : ∀ j, j ≤ 5 → Fb (nx h) (nx (lad h2 kl (nx h))) (nx (nO h 4 18) + j) := fun j hj => by rw [hn2]; exact ⟨by omega, by omega⟩
  have gfl : ∀ f, f ≠ 36 → fr (lad h2 kl (nx h)) f (nx h) = fr h1 f (nx h) := fun f hf => gf f hf
  have gil : ∀ f, fi (lad h2 kl (nx h)) f (nx h) = fi h1 f (nx h) := fun f => gi f
  have lst : ∀ {f j c : Nat}, f ≠ 36 → j ≤ 5 → fr h1 f (nx h) = nx (nO h 4 18) + j → kc h1 (nx (nO h 4 18) + j) = c → c ≠ 0 → cp h1 (nx (nO h 4 18) + j) ≠ RAW → ls h1 (nx (nO h 4 18) + j) = [] → LsX (Fb (nx h) (nx (lad h2 kl (nx h)))) (lad h2 kl (nx h)) (fr (lad h2 kl (nx h)) f (nx h)) c StrX ([] : List (List Nat)) := by
    intro f j c hf hj hv hk hc hcp hls
    obtain ⟨y1, y2, y3, y4⟩ := stay hk hc
    rw [gfl f hf, hv]
    exact list_at (fF j hj) y1 (by rw [y4]; exact hcp) (by rw [y3]; exact hls)
  have o1 : ∀ f, f ∉ [31, 32, 33, 34, 35, 41, 42, 43, 44, 45, 46] → fr h1 f (nx h) = 0 ∧ fi h1 f (nx h) = 0 := fun f hf => ⟨(oth f hf).1.trans (zf f), (oth f hf).2.trans (zi f)⟩
  refine ⟨nx h, lad h2 kl (nx h), fun {β K'} => ?_, sC.le (by omega), by rw [lad_ls, Fk.2.2.2.2.2.2.2.2.1], KK.2.2, hnew, ?_⟩
  · unfold f_X2_add
    rw [nwO_e, ldR_e kK2, show fr (nO h 4 18) 30 K = kl from fK, lsSize_e (show lsK (nO h 4 18) kl from ⟨by rw [kl2]; decide, by rw [kl2]; decide, ckl⟩), show (ls (nO h 4 18) kl).length = 10 + n from lkl, if_pos kq, e1, e2, ldR_e FK.1, FK.2.2.2.2.1 30, fK, lsAdd_e KL (.inr (.inr (.inr (by rw [k2]; decide)))) (by omega), bd_ok]
  · have y2 := stay (j := 1) c2 (by decide)
    refine ⟨k2, (gil _).trans v31, (gfl _ (by decide)).trans v32, ?_, (gfl _ (by decide)).trans v34, (gil _).trans v35, g36, (gfl _ (by decide)).trans (o1 37 (by decide)).1, (gil _).trans (o1 38 (by decide)).2, (gil _).trans (o1 39 (by decide)).2, (gfl _ (by decide)).trans (o1 40 (by decide)).1, lst (j := 0) (by decide) (by omega) f41 c1 (by decide) a0 b0, ?_, lst (j := 2) (by decide) (by omega) f43 c3 (by decide) a2 b2, lst (j := 3) (by decide) (by omega) f44 c4 (by decide) a3 b3, lst (j := 4) (by decide) (by omega) f45 c5 (by decide) a4 b4, lst (j := 5) (by decide) (by omega) f46 c6 (by decide) a5 b5, (gil _).trans (o1 47 (by decide)).2, (gil _).trans (o1 48 (by decide)).2⟩
    · rw [gfl 33 (by decide), v33]
      exact StrX_fr ((sC.fr (S := fun k => decide (k ≠ 120)) (by simp) (fun x hx => .inr (by rw [List.mem_singleton.mp hx, kkl]; decide)))) hs (by decide)
    · rw [gfl 42 (by decide), f42]
      exact ⟨y2.1, y2.2.1.trans x1⟩
