/-! PHASE B settle 24: the component: the kind of a kind's arrays -/
set_option maxRecDepth 100000
variable {F K : List Nat} {c : Nat} {h h' h0 : HP} {e : EE} {kx ax : Nat → Nat} {ds : List DC} {C DL kl q : Nat} {AR : AT} {D : List (List Nat)}
theorem dsz_app {s : List (List Nat)} {q : Nat} (h : q < 10 + ds.length + D.length) : dsz ds (D ++ s) q = dsz ds D q := by
  unfold dsz
  by_cases z : q < 10 + ds.length
  · rw [if_pos z, if_pos z]
  · rw [if_neg z, if_neg z, List.getD_eq_getElem?_getD, List.getElem?_append_left (by omega), ← List.getD_eq_getElem?_getD]
theorem XK.dlen (x : XK e h C DL kl kx ax ds AR D) (hq : q < 10 + ds.length + AR.length) : (dsz ds D q).length ≤ 110 + dep ds.length AR q := by
  unfold dsz dep
  by_cases z : q < 10 + ds.length
  · rw [if_pos z, if_pos z]
    unfold dsc
    by_cases y : q < 8
    · rw [if_pos y]; show 1 ≤ _; omega
    · rw [if_neg y, List.length_append, List.length_cons, List.length_singleton]
      have : ((NT ds).getD q []).length ≤ 100 := by
        by_cases w : q < 10
        · rw [NT_lo w]
          have : q = 8 ∨ q = 9 := by omega
          rcases this with v | v <;> rw [v] <;> decide
        · obtain ⟨k, rfl⟩ : ∃ k, q = 10 + k := ⟨q - 10, by omega⟩
          rw [NT_hi (by omega)]
          exact (x.1.2.2.2.1.2 k (by omega)).1.2
      omega
  · rw [if_neg z, if_neg z]
    obtain ⟨i, rfl⟩ : ∃ i, q = 10 + ds.length + i := ⟨q - (10 + ds.length), by omega⟩
    rw [show 10 + ds.length + i - (10 + ds.length) = i by omega]
    exact (x.2.2.2.1.2 i (by omega)).2.2.2.2.2.2.2.2
abbrev F37 : List Nat := [37]
abbrev K12 : List Nat := [120]
theorem sx37 : Sx F37 K12 := by constructor <;> decide
theorem gDl {l s : List (List Nat)} {i : Nat} (h : i < l.length) : (l ++ s).getD i [] = l.getD i [] := by
  rw [List.getD_eq_getElem?_getD, List.getElem?_append_left h, ← List.getD_eq_getElem?_getD]
theorem gDe {l : List (List Nat)} {x : List Nat} : (l ++ [x]).getD l.length [] = x := by
  rw [List.getD_eq_getElem?_getD, List.getElem?_append_right (Nat.le_refl _), Nat.sub_self]; rfl
theorem arrayOf_e (x : XK e h C DL kl kx ax ds AR D) (hq : q < 10 + ds.length + AR.length) :
    ∃ h' kx' D', f_X2_arrayOf C (kx q) h = rok (kxo kx' (mkN ds.length AR q)) h' ∧ Ef F37 K12 42 h h' ∧ XK e h' C DL kl kx' ax ds (mkA ds.length AR q) D' ∧ (∀ j, j < 10 + ds.length + AR.length → kx' j = kx j) := by
  have x' := x
  obtain ⟨x1, x2, x3, x4, x5, ⟨x6, x7⟩, x8, x9, x10, x11, x12⟩ := x'
  have n60 := x1.2.2.2.1.1
  have N4 := x3.1
  have k4 := (x6 q hq).1
  have tk : lsK h kl := ⟨by rw [x2.2.2.1]; decide, by rw [x2.2.2.1]; decide, x2.2.2.2.1⟩
  have tl : (ls h kl).length = 10 + ds.length + AR.length := by rw [x2.2.2.2.2.1, List.append_nil, List.length_map, List.length_range]; omega
  unfold f_X2_arrayOf
  rw [ldR_e k4, x5 q hq]
  unfold mkN mkA lkN
  cases g : aix AR q with
  | some i =>
    have hi := (aix_some g).1
    rw [if_neg (show ¬ kxo kx (Option.map (10 + ds.length + ·) (some i)) = 0 from x.nz (q := 10 + ds.length + i) (by omega)), ldR_e k4, x5 q hq]
    unfold lkN
    rw [g]
    exact ⟨h, kx, D, rfl, (Ef.refl x1.1 _ _).le (by omega), x, fun _ _ => rfl⟩
  | none =>
    have d8 := okA_dep x3 hq
    rw [if_pos (show kxo kx (Option.map (10 + ds.length + ·) none) = 0 from rfl), ldI_e k4, x.n35 hq]
    have stay : ∀ {A : Rs Nat}, A = rok 0 h → (dep ds.length AR q = 8 ∨ 10 + ds.length + AR.length = 400) → ∃ h' kx' D', A = rok (kxo kx' (if dep ds.length AR q = 8 ∨ 10 + ds.length + AR.length = 400 then none else some (10 + ds.length + AR.length))) h' ∧ Ef F37 K12 42 h h' ∧ XK e h' C DL kl kx' ax ds (if dep ds.length AR q = 8 ∨ 10 + ds.length + AR.length = 400 then AR else AR ++ [(q, dep ds.length AR q + 1)]) D' ∧ (∀ j, j < 10 + ds.length + AR.length → kx' j = kx j) := fun {A} hA hc => by
      rw [if_pos hc, if_pos hc]
      exact ⟨h, kx, D, hA, (Ef.refl x1.1 _ _).le (by omega), x, fun _ _ => rfl⟩
    by_cases c8 : dep ds.length AR q = 8
    · rw [if_pos ((nk _ (c := 8) (C := (8 : Int32)) rfl (by omega) (by omega)).mpr c8)]
      exact stay rfl (.inl c8)
    rw [if_neg (fun z => c8 ((nk _ (c := 8) (C := (8 : Int32)) rfl (by omega) (by omega)).mp z)), ldR_e x2.1, x2.2.1, lsSize_e tk, tl]
    by_cases c4 : 10 + ds.length + AR.length = 400
    · rw [if_pos ((nk _ (c := 400) (C := (400 : Int32)) rfl (by omega) (by omega)).mpr c4)]
      exact stay rfl (.inr c4)
    rw [if_neg (fun z => c4 ((nk _ (c := 400) (C := (400 : Int32)) rfl (by omega) (by omega)).mp z))]
    have hn : ¬ (dep ds.length AR q = 8 ∨ 10 + ds.length + AR.length = 400) := fun z => z.elim c8 c4
    rw [if_neg hn, if_neg hn]
    -- the new kind
    have w := x1.1
    have hnew := w.new
    have kC2 : kc (nO h 4 18) C = 3 := kc_nO_o w x2.1 (by decide)
    have kl2 : lsK (nO h 4 18) kl := by
      have : kc (nO h 4 18) kl = 120 := kc_nO_o w x2.2.2.1 (by decide)
      exact ⟨by rw [this]; decide, by rw [this]; decide, x2.2.2.2.1⟩
    obtain ⟨h1, e1, u1, NK, z0, nx1⟩ := kindA_e (v := nI (10 + ds.length + AR.length)) w k4 (x.nz hq) (x.n35 hq) (x.s36 hq) (by have := x.dlen hq; omega)
    obtain ⟨nk0, nk31, nk32, nk33, nk34, nk35, nk36, nk37, nk38, nk39, nk40, nk47, nk48, ⟨n41, n43, n44, n45, n46⟩, n42, nfr⟩ := NK
    have sx0 : Sx ([] : List Nat) [] := by constructor <;> simp
    have X1 := XK_ef u1 ⟨sx0, by simp, by simp⟩ x
    have kq1 : kc h1 (kx q) = 4 := u1.kk k4 (by decide)
    have kC1 : kc h1 C = 3 := u1.kk x2.1 (by decide)
    have qp : kx q ≠ nx h := fun y => by rw [y, hnew] at k4; exact absurd k4 (by decide)
    have u2 : Ef F37 K12 30 h (sR h1 37 (kx q) (nx h)) := (u1.wk (fun _ z => by simp at z) (fun _ z => by simp at z) (Nat.le_refl _)).sR kq1 (by decide) (.inr (by simp))
    have t2 := X1.2.1
    have kl3 : kc (sR h1 37 (kx q) (nx h)) kl = 120 := t2.2.2.1
    have ls3 : ls (sR h1 37 (kx q) (nx h)) kl = (List.range (10 + (ds.length + AR.length))).map kx := by show ls h1 kl = _; rw [t2.2.2.2.2.1, List.append_nil]
    have KL : lsK (sR h1 37 (kx q) (nx h)) kl := ⟨by rw [kl3]; decide, by rw [kl3]; decide, t2.2.2.2.1⟩
    have len3 : (ls (sR h1 37 (kx q) (nx h)) kl).length ≤ 400 := by rw [ls3, List.length_map, List.length_range]; omega
    have u3 : Ef F37 K12 (30 + 10) h (lad (sR h1 37 (kx q) (nx h)) kl (nx h)) := u2.lad kl3 (by decide) (by decide) (.inr (by simp)) (by omega)
    have fq : fr (sR h1 37 (kx q) (nx h)) 37 (kx q) = nx h := by rw [fr_sR, if_pos ⟨rfl, rfl⟩]
    have ev : ∀ f37, f37 = fr (lad (sR h1 37 (kx q) (nx h)) kl (nx h)) 37 (kx q) → f37 = nx h := fun f37 y => y.trans fq
    refine ⟨lad (sR h1 37 (kx q) (nx h)) kl (nx h), ud kx (10 + ds.length + AR.length) (nx h), D ++ [91 :: dsz ds D q], ?_, u3.le (by omega), ?_, fun j hj => ud_o (by omega)⟩
    · rw [nwO_e, ldR_e kC2, show fr (nO h 4 18) 30 C = kl from x2.2.1, lsSize_e kl2, show (ls (nO h 4 18) kl).length = 10 + ds.length + AR.length from tl, if_pos kc_nO_n, e1, stR_e kq1, ldR_e (show kc (sR h1 37 (kx q) (nx h)) C = 3 from kC1), show fr (sR h1 37 (kx q) (nx h)) 30 C = kl from (by
        rw [fr_sR, if_neg (fun y => absurd y.1 (by decide))]; exact t2.2.1), ldR_e (show kc (sR h1 37 (kx q) (nx h)) (kx q) = 4 from kq1), fq, lsAdd_e KL (.inr (.inr (.inr (by rw [show kc (sR h1 37 (kx q) (nx h)) (nx h) = 4 from nk0]; decide)))) (by omega), ldR_e (show kc (lad (sR h1 37 (kx q) (nx h)) kl (nx h)) (kx q) = 4 from kq1), show fr (lad (sR h1 37 (kx q) (nx h)) kl (nx h)) 37 (kx q) = nx h from fq]
      show rok (nx h) _ = rok (ud kx (10 + ds.length + AR.length) (nx h) (10 + ds.length + AR.length)) _
      rw [ud_s]
    · -- all of it again
      have XS := SX_ef u3 sx37 x1
      have lo : ∀ j, j < 10 + ds.length + AR.length → kx j = ud kx (10 + ds.length + AR.length) (nx h) j := fun j hj => (ud_o (by omega)).symm
      have m1 : (AR ++ [(q, dep ds.length AR q + 1)]).length = AR.length + 1 := by rw [List.length_append, List.length_singleton]
      have frL : ∀ f j, f ≠ 37 → fr (lad (sR h1 37 (kx q) (nx h)) kl (nx h)) f j = fr h1 f j := fun f j hf => by
        show fr (sR h1 37 (kx q) (nx h)) f j = _
        rw [fr_sR, if_neg (fun y => hf y.1)]
      have lsL : ∀ j, j ≠ kl → ls (lad (sR h1 37 (kx q) (nx h)) kl (nx h)) j = ls h1 j ∧ cp (lad (sR h1 37 (kx q) (nx h)) kl (nx h)) j = cp h1 j := fun j hj => by
        unfold lad
        rw [ls_sLc, if_neg hj, cp_sLc, if_neg hj]
        exact ⟨rfl, rfl⟩
      have lst : ∀ {f k : Nat} {la : Nat → List Nat}, f ≠ 37 → k ≠ 120 → (∀ j, j < 10 + ds.length + AR.length → kc h1 (fr h1 f (kx j)) = k) → kc h1 (fr h1 f (nx h)) = k → ls h1 (fr h1 f (nx h)) = [] → cp h1 (fr h1 f (nx h)) ≠ RAW → la (10 + ds.length + AR.length) = [] → LE h1 f kx (10 + ds.length + AR.length) la → LE (lad (sR h1 37 (kx q) (nx h)) kl (nx h)) f (ud kx (10 + ds.length + AR.length) (nx h)) (10 + ds.length + AR.length + 1) la := by
        intro f k la hf hk kk y1 y2 y3 y4 y5 j hj
        by_cases z : j = 10 + ds.length + AR.length
        · rw [z, ud_s, frL f _ hf, y4]
          obtain ⟨a, b⟩ := lsL (fr h1 f (nx h)) (fun y => hk (by rw [← y1, y]; exact t2.2.2.1))
          rw [a, b]; exact ⟨y2, y3⟩
        · rw [ud_o z, frL f _ hf]
          obtain ⟨a, b⟩ := lsL (fr h1 f (kx j)) (fun y => hk (by rw [← kk j (by omega), y]; exact t2.2.2.1))
          rw [a, b]; exact y5 j (by omega)
      have K1 := X1.2.2.2.2.2.1.1
      have pn : paF ds ds.length (10 + ds.length + AR.length) = none := paF_no (by omega)
      have fn : faF ds ds.length (10 + ds.length + AR.length) = [] := faF_no (by omega)
      have ln : laF ds ds.length (10 + ds.length + AR.length) = [] := if_neg (by omega)
      have mp0 : ∀ {f : Nat → List Nat}, (∀ j, j < 10 + ds.length + AR.length + 1 → ∀ y ∈ f j, y < 10 + ds.length) → ∀ j, j < 10 + ds.length + AR.length + 1 → (f j).map kx = (f j).map (ud kx (10 + ds.length + AR.length) (nx h)) := fun {f} hf j hj => List.map_congr_left fun y hy => lo y (by have := hf j hj y hy; omega)
      refine ⟨SX_cg (fun k hk => lo k (by omega)) XS, ?_, ?_, ?_, ?_, ⟨?_, ?_⟩, ?_, ?_, ?_, ?_, ?_⟩
      · refine ⟨kC1, (frL _ _ (by decide)).trans t2.2.1, kl3, (lad_K KL (by omega)).2.2, ?_, by simp, by simp⟩
        rw [lad_ls, ls3, m1, List.append_nil, show 10 + (ds.length + (AR.length + 1)) = (10 + (ds.length + AR.length)) + 1 by omega, List.range_succ, List.map_append]
        congr 1
        · exact List.map_congr_left fun y hy => lo y (by have := List.mem_range.mp hy; omega)
        · show [nx h] = [ud kx (10 + ds.length + AR.length) (nx h) (10 + (ds.length + AR.length))]
          rw [show 10 + (ds.length + AR.length) = 10 + ds.length + AR.length by omega, ud_s]
      · have := mkA_ok x3 hq
        unfold mkA at this
        rw [g] at this
        have t : okA ds.length (if dep ds.length AR q = 8 ∨ 10 + ds.length + AR.length = 400 then AR else AR ++ [(q, dep ds.length AR q + 1)]) := this
        rw [if_neg hn] at t
        exact t
      · refine ⟨by rw [List.length_append, List.length_append, x4.1]; rfl, fun i hi => ?_⟩
        rw [m1] at hi
        unfold ArK
        by_cases z : i < AR.length
        · obtain ⟨a, b1, b2, b3, b4, b5, b6, b7, b8⟩ := X1.2.2.2.1.2 i z
          have el := (x3.2 i z).1
          rw [ud_o (show 10 + ds.length + i ≠ 10 + ds.length + AR.length by omega), gT_l z, ud_o (show (AR.getD i (0, 0)).1 ≠ 10 + ds.length + AR.length by omega), gDl (by rw [x4.1]; exact z), dsz_app (by rw [x4.1]; omega)]
          refine ⟨a, b1, (frL _ _ (by decide)).trans b2, (frL _ _ (by decide)).trans b3, (frL _ _ (by decide)).trans b4, b5, ?_, b7, b8⟩
          rw [frL _ _ (by decide)]; exact b6
        · have : i = AR.length := by omega
          subst this
          rw [ud_s, gT_e]
          have gd : (D ++ [91 :: dsz ds D q]).getD AR.length [] = 91 :: dsz ds D q := by rw [← x4.1]; exact gDe
          have e1 : ud kx (10 + ds.length + AR.length) (nx h) (q, dep ds.length AR q + 1).1 = kx q := ud_o (show q ≠ 10 + ds.length + AR.length by omega)
          have e2 : dsz ds (D ++ [91 :: dsz ds D q]) (q, dep ds.length AR q + 1).1 = dsz ds D q := dsz_app (by rw [x4.1]; exact hq)
          rw [gd, e1, e2]
          refine ⟨nk0, nk31, (frL _ _ (by decide)).trans nk32, (frL _ _ (by decide)).trans nk33, (frL _ _ (by decide)).trans nk34, nk35, ?_, rfl, by rw [List.length_cons]; have := x.dlen hq; omega⟩
          rw [frL _ _ (by decide)]; exact nk36
      · intro j hj
        rw [m1] at hj
        have l37 : ∀ y, y ≠ kx q → fr (lad (sR h1 37 (kx q) (nx h)) kl (nx h)) 37 y = fr h1 37 y := fun y hy => by
          show fr (sR h1 37 (kx q) (nx h)) 37 y = _
          rw [fr_sR, if_neg (fun z => hy z.2)]
        by_cases z : j = 10 + ds.length + AR.length
        · rw [z, ud_s, l37 _ qp.symm, nk37]
          have : lkN ds.length (AR ++ [(q, dep ds.length AR q + 1)]) (10 + ds.length + AR.length) = none := by
            unfold lkN
            rw [aix_nn fun i hi => ?_]; rfl
            rw [m1] at hi
            by_cases y : i < AR.length
            · rw [gT_l y]; have := (x3.2 i y).1; omega
            · rw [show i = AR.length by omega, gT_e]; show q ≠ _; omega
          rw [this]; rfl
        · rw [ud_o z]
          by_cases y : j = q
          · rw [y]
            show fr (sR h1 37 (kx q) (nx h)) 37 (kx q) = _
            rw [fq]
            unfold lkN
            rw [aix_new g, if_pos rfl]
            show nx h = ud kx (10 + ds.length + AR.length) (nx h) (10 + ds.length + AR.length)
            rw [ud_s]
          · have ne : kx j ≠ kx q := fun w => y (x7 41 (by simp) j q (by omega) hq (by rw [w]))
            rw [l37 _ ne, X1.2.2.2.2.1 j (by omega)]
            unfold lkN
            cases g2 : aix AR j with
            | none => rw [aix_new g2, if_neg (fun w => y w.symm)]; rfl
            | some i =>
              rw [aix_app g2]
              have hi := (aix_some g2).1
              show kx (10 + ds.length + i) = ud kx _ _ (10 + ds.length + i)
              rw [ud_o (by omega)]
      · intro j hj
        rw [m1] at hj
        by_cases z : j = 10 + ds.length + AR.length
        · rw [z, ud_s, frL _ _ (by decide), frL _ _ (by decide), frL _ _ (by decide), frL _ _ (by decide)]
          exact ⟨nk0, n41.1, n43.1, n44.1, n45.1⟩
        · rw [ud_o z, frL _ _ (by decide), frL _ _ (by decide), frL _ _ (by decide), frL _ _ (by decide)]
          exact K1 j (by omega)
      · intro f hf i j hi hj y
        rw [m1] at hi hj
        have f37 : f ≠ 37 := by simp only [List.mem_cons, List.not_mem_nil, or_false] at hf; omega
        have fm : f ∈ [36, 41, 42, 43, 44, 45, 46] := by simp only [List.mem_cons, List.not_mem_nil, or_false] at hf ⊢; omega
        have old : ∀ j, j < 10 + ds.length + AR.length → fr h1 f (kx j) ≠ fr h1 f (nx h) := fun j hj z => by
          have a := (nfr f fm).1
          rw [← z, u1.gr (x6 j hj).1 (by decide) (by simp)] at a
          obtain ⟨_, b1, b2, b3, b4⟩ := x6 j hj
          simp only [List.mem_cons, List.not_mem_nil, or_false] at hf
          rcases hf with v | v | v | v <;> rw [v] at a <;> omega
        by_cases zi : i = 10 + ds.length + AR.length <;> by_cases zj : j = 10 + ds.length + AR.length
        · omega
        · rw [zi, ud_s, ud_o zj, frL f _ f37, frL f _ f37] at y
          exact absurd y.symm (old j (by omega))
        · rw [zj, ud_s, ud_o zi, frL f _ f37, frL f _ f37] at y
          exact absurd y (old i (by omega))
        · rw [ud_o zi, ud_o zj, frL f _ f37, frL f _ f37] at y
          exact X1.2.2.2.2.2.1.2 f hf i j (by omega) (by omega) y
      · intro j hj
        rw [m1] at hj
        by_cases z : j = 10 + ds.length + AR.length
        · rw [z, ud_s, frL _ _ (by decide), nk40, pn]; rfl
        · rw [ud_o z, frL _ _ (by decide), X1.2.2.2.2.2.2.1 j (by omega)]
          cases g2 : paF ds ds.length j with
          | none => rfl
          | some p =>
            have : p < 10 + ds.length := by
              unfold paF at g2
              split at g2
              · exact par_lt g2
              · cases g2
            exact lo p (by omega)
      · have L9 := lst (f := 41) (k := 104) (la := fun j => (faF ds ds.length j).map kx) (by decide) (by decide) (fun j hj => (K1 j hj).2.1) n41.1 n41.2.1 n41.2.2 (by show (faF _ _ _).map kx = []; rw [fn]; rfl) X1.2.2.2.2.2.2.2.1
        have mm := mp0 (f := faF ds ds.length) (fun j hj y hy => by
          unfold faF at hy
          split at hy
          · exact fcs_lt _ hy
          · simp at hy)
        intro j hj
        rw [m1] at hj
        obtain ⟨a, b⟩ := L9 j hj
        exact ⟨a.trans (mm j hj), b⟩
      · have L9 := lst (f := 43) (k := 103) (la := fun j => (laF ds ds.length j).map kx) (by decide) (by decide) (fun j hj => (K1 j hj).2.2.1) n43.1 n43.2.1 n43.2.2 (by show (laF _ _ _).map kx = []; rw [ln]; rfl) X1.2.2.2.2.2.2.2.2.1
        have mm := mp0 (f := laF ds ds.length) (fun j hj y hy => by
          unfold laF at hy
          split at hy
          · unfold alf at hy
            exact List.mem_range.mp (List.mem_filter.mp hy).1
          · simp at hy)
        intro j hj
        rw [m1] at hj
        obtain ⟨a, b⟩ := L9 j hj
        exact ⟨a.trans (mm j hj), b⟩
      · intro j hj hc
        rw [m1] at hj
        by_cases z : j = 10 + ds.length + AR.length
        · rw [z, ud_s, frL _ _ (by decide)]; exact n42
        · rw [ud_o z, frL _ _ (by decide)]; exact X1.2.2.2.2.2.2.2.2.2.1 j (by omega) hc
      · have A := X1.2.2.2.2.2.2.2.2.2.2
        refine ⟨fun k hk => ?_, fun k t hk ht y => ?_⟩
        · rw [ud_o (by omega), frL _ _ (by decide)]
          exact A.1 k hk
        · rw [ud_o (by omega), ud_o (by omega), frL _ _ (by decide), frL _ _ (by decide)] at y
          exact A.2 k t hk ht y
