/-! PHASE B declarations 25: a declaration is begun -/
set_option maxRecDepth 100000
variable {e : EE} {Zx Zm : List Nat} {hx hm h h1 h2 h' hx0 hm0 hxA hmA : HP} {i j a b k X Y bx bm l1 l2 l3 : Nat} {IT : List It} {TY : List Ty} {QU : List (List Nat)} {F G : Nat → Prop} {KL : List Nat} {d : DC} {TY' : List Ty} {QU' : List (List Nat)} {num : Nat × Nat}
theorem LsX.r0 {β γ : Type} {F : Nat → Prop} {l c : Nat} {P : HP → Nat → β → Prop} {Q : (Nat → Prop) → HP → Nat → γ → Prop} (x : LsX F h l c P []) : LsR F h l c Q [] := ⟨x.1, x.2.1, x.2.2.1, by rw [x.2.2.2.len]; rfl, fun _ _ => False, fun _ _ z => z.elim, fun _ _ _ z => z.elim, fun r hr => absurd hr (by simp)⟩
theorem LsR.x0 {β : Type} {F : Nat → Prop} {l c : Nat} {Q : (Nat → Prop) → HP → Nat → β → Prop} (x : LsR F h l c Q []) : LsX F h l c StrX ([] : List (List Nat)) := ⟨x.1, x.2.1, x.2.2.1, by rw [List.length_eq_zero_iff.mp x.2.2.2.1]; exact True.intro⟩
theorem LsX.fr0 {β : Type} {S : Nat → Bool} {l c : Nat} {P : HP → Nat → β → Prop} (x : LsX F h l c P []) (f : Fr S h h') (hc : c ≠ 0) (hS : S c = true) : LsX F h' l c P [] := by
  obtain ⟨x0, x1, x2, x3⟩ := x
  obtain ⟨y1, y2, y3⟩ := f.at x1 hc hS
  refine ⟨x0, y1, by rw [y3.2.2.2.2.2.2.2.2]; exact x2, ?_⟩
  rw [y3.2.2.2.2.2.2.1]
  cases hl : ls h l with
  | nil => exact True.intro
  | cons a m => rw [hl] at x3; exact x3.elim
theorem KbX_setF {S : Nat → Bool} {num sort ab at' ab0 at0 : Nat} {nm : List Nat} (x : KbX e F h k num sort ab0 at0 nm []) (Fz : Fr S h h') (hS : ∀ k ∈ [71, 104, 242, 103, 102, 101, 100], S k = true) (hf : ∀ f, fr h' f k = fr h f k) (hi : ∀ f, f ≠ 48 → f ≠ 38 → fi h' f k = fi h f k) (hk : kc h' k = 4) (h38 : fi h' 38 k = nI ab) (h48 : fi h' 48 k = nI at') : KbX e F h' k num sort ab at' nm [] := by
  obtain ⟨k0, n31, n32, n33, n34, n35, n36, n37, n38, n39, n40, n41, n42, n43, n44, n45, n46, n47, n48⟩ := x
  refine ⟨hk, (hi _ (by decide) (by decide)).trans n31, (hf _).trans n32, ?_, (hf _).trans n34, (hi _ (by decide) (by decide)).trans n35, ?_, (hf _).trans n37, h38, (hi _ (by decide) (by decide)).trans n39, (hf _).trans n40, ?_, ?_, ?_, ?_, ?_, ?_, (hi _ (by decide) (by decide)).trans n47, h48⟩
  · rw [hf]; exact StrX_fr Fz n33 (hS _ (by decide))
  · rw [hf]; exact StrX_fr Fz n36 (hS _ (by decide))
  · rw [hf]; exact n41.fr0 Fz (by decide) (hS _ (by decide))
  · rw [hf]
    obtain ⟨y1, y2, _⟩ := Fz.at n42.1 (by decide) (hS _ (by decide))
    exact ⟨y1, y2.trans n42.2⟩
  · rw [hf]; exact n43.fr0 Fz (by decide) (hS _ (by decide))
  · rw [hf]; exact n44.fr0 Fz (by decide) (hS _ (by decide))
  · rw [hf]; exact n45.fr0 Fz (by decide) (hS _ (by decide))
  · rw [hf]; exact n46.fr0 Fz (by decide) (hS _ (by decide))
theorem KbX_set {num sort ab at' ab0 at0 : Nat} {nm : List Nat} {Z : List Nat} (x : KbX e F h k num sort ab0 at0 nm []) (f : Fx Z h h') (hZ : ∀ z ∈ Z, kc h z = 13 ∨ kc h z = 4 ∨ kc h z = 108) (hf : ∀ f, fr h' f k = fr h f k) (hi : ∀ f, f ≠ 48 → f ≠ 38 → fi h' f k = fi h f k) (hk : kc h' k = 4) (h38 : fi h' 38 k = nI ab) (h48 : fi h' 48 k = nI at') : KbX e F h' k num sort ab at' nm [] :=
  KbX_setF x (f.fr (S := fun k => decide (k ≠ 13 ∧ k ≠ 4 ∧ k ≠ 108)) (fun z hz => by rcases hZ z hz with y | y | y <;> rw [y] <;> decide)) (by decide) hf hi hk h38 h48
/-- the component's list of declarations and table of kinds -/
def DlX (e : EE) (h : HP) (K kl DL n : Nat) : Prop := fr h 161 e.P = K ∧ kc h K = 3 ∧ fr h 30 K = kl ∧ kc h kl = 120 ∧ cp h kl ≠ RAW ∧ (ls h kl).length = 10 + n ∧ fr h 162 e.P = DL ∧ kc h DL = 108 ∧ cp h DL ≠ RAW ∧ (ls h DL).length = n
noncomputable def bgX (a0 a1 : Nat) (a2 : Int32) (x2 : Int32) (x4 : Nat) (h5 : HP) : Rs Nat :=
  nwO 13 7 h5 fun p6 h7 =>
  ldR 12 161 a0 h7 fun x8 =>
  if kc h7 x8 = 3 then
  bd (f_X2_add x8 a1 x4 h7) (fun x9 h10 =>
  if kc h10 p6 = 13 then
  bd (f_X12_init p6 x9 h10) (fun _ h11 =>
  ldR 13 163 p6 h11 fun x12 =>
  stI 4 48 x12 x2 h11 fun h13 =>
  ldR 13 163 p6 h13 fun x14 =>
  stZ 4 38 x14 a2 h13 fun h15 =>
  ldR 12 162 a0 h15 fun x16 =>
  lsAdd x16 p6 h15 fun h17 =>
  rok p6 h17)
  else none)
  else none
theorem begin_x {K kl DL n s form ab at' : Nat} {nm : List Nat} (p : PX e h i TY QU) (cl : kc h e.cl = 129) (kP : kc h e.P = 12) (A : DlX e h K kl DL n) (hn : n ≤ 60) (hs : StrX h s nm) (hl : nm.length ≤ 100) (hab : ab ≤ 1) (hf : 1 ≤ form ∧ form ≤ 4) (hnm : nm ∉ PW) :
    ∃ a h', bgX e.P (900 + srt form) (nI (if form = 2 then 1 else ab)) (nI at') s h = rok a h' ∧ St [] [kl, DL] 90 h h' ∧ PX e h' i TY QU ∧ Kq e h h' ∧ DlX e h' K kl DL (n + 1) ∧ ls h' DL = ls h DL ++ [a] ∧ ls h' kl = ls h kl ++ [fr h' 163 a] ∧ (kc h a = 0 ∧ nx h ≤ a) ∧ DX e (Fb (nx h) (nx h')) h' a (10 + n, fr h' 163 a) (form, (nm, at'), ab, none, [], [], []) := by
  obtain ⟨f161, kK, f30, kkl, ckl, lkl, f162, kDL, cDL, lDL⟩ := A
  have w := p.1
  have hnew : kc h (nx h) = 0 := w.new
  have s1 : St [] [] (0 + 1) h (nO h 13 7) := (St.refl w [] []).nO (by omega) (by omega)
  have kq : kc (nO h 13 7) (nx h) = 13 := kc_nO_n
  have F1 := s1.fr (S := fun _ => true) (by simp) (by simp)
  have K1 : kc (nO h 13 7) K = 3 := kc_nO_o w kK (by decide)
  have kl1 : kc (nO h 13 7) kl = 120 := kc_nO_o w kkl (by decide)
  have P1 : kc (nO h 13 7) e.P = 12 := kc_nO_o w kP (by decide)
  obtain ⟨kd, hB, e2, s2, g1, g2, g3, KB⟩ := kind_new (e := e) (sort := srt form) s1.1 K1 f30 kl1 ckl lkl (by omega) (StrX_fr F1 hs rfl) hl
  have hn1 : nx (nO h 13 7) = nx h + 1 := rfl
  have kqB : kc hB (nx h) = 13 := s2.2.kk kq (by decide)
  obtain ⟨hC, e3, s3, n3, c0, c1, c2, c3, c4, f164, f165, f166, f167, f168, f169, f163, a1, b1, a2, b2, a3, b3, a4, b4, oth⟩ := mk_dcl s2.1 kqB (k := kd)
  have kkB : kc hB kd = 4 := KB.1
  have qk : nx h ≠ kd := fun z => by rw [← z, kqB] at kkB; exact absurd kkB (by decide)
  have kkC : kc hC kd = 4 := s3.2.kk kkB (by decide)
  have kkD : kc (sI hC 48 kd (nI at')) kd = 4 := kkC
  have s38 : nI (if form = 2 then 1 else ab) = 0 ∨ nI (if form = 2 then 1 else ab) = 1 := by
    by_cases z : form = 2
    · rw [if_pos z]; exact .inr rfl
    · rw [if_neg z]
      have : ab = 0 ∨ ab = 1 := by omega
      rcases this with y | y <;> rw [y]
      · exact .inl rfl
      · exact .inr rfl
  have nxA : nx h < nx hC := by have := s2.2.1; omega
  have kDC : kc hC DL = 108 := s3.2.kk (s2.2.kk (kc_nO_o w kDL (by decide)) (by decide)) (by decide)
  have q1DL : DL ≠ kl := fun z => by rw [z, kkl] at kDL; exact absurd kDL (by decide)
  have qqDL : DL ≠ nx h := fun z => by rw [z, hnew] at kDL; exact absurd kDL (by decide)
  have EB := s2.2.eq (kc_nO_o w kDL (by decide)) (by decide) (by simp) (by simpa using q1DL)
  have EC := s3.2.eq (s2.2.kk (kc_nO_o w kDL (by decide)) (by decide)) (by decide) (by simp) (by simpa using qqDL)
  have lDC : ls hC DL = ls h DL := EC.2.2.2.2.2.2.1.trans EB.2.2.2.2.2.2.1
  have cDC : cp hC DL ≠ RAW := by rw [EC.2.2.2.2.2.2.2.2, EB.2.2.2.2.2.2.2.2]; exact cDL
  have KLs : lsK (sI (sI hC 48 kd (nI at')) 38 kd (nI (if form = 2 then 1 else ab))) DL := ⟨by show 100 ≤ kc hC DL; rw [kDC]; decide, by show kc hC DL < 200; rw [kDC]; decide, cDC⟩
  have KK := lad_K (v := nx h) KLs (by show (ls hC DL).length ≤ _; rw [lDC]; omega)
  have kPC : kc hC e.P = 12 := s3.2.kk (s2.2.kk P1 (by decide)) (by decide)
  have qP : e.P ≠ nx h := fun z => by rw [z, hnew] at kP; exact absurd kP (by decide)
  have lP : e.P ≠ kl := fun z => by rw [z, kkl] at kP; exact absurd kP (by decide)
  have EPB := s2.2.eq P1 (by decide) (by simp) (by simpa using lP)
  have EPC := s3.2.eq (s2.2.kk P1 (by decide)) (by decide) (by simp) (by simpa using qP)
  have f162C : fr hC 162 e.P = DL := (EPC.2.2.1 162).trans ((EPB.2.2.1 162).trans f162)
  have f161C : fr hC 161 e.P = K := (EPC.2.2.1 161).trans ((EPB.2.2.1 161).trans f161)
  have ev : bgX e.P (900 + srt form) (nI (if form = 2 then 1 else ab)) (nI at') s h = rok (nx h) (lad (sI (sI hC 48 kd (nI at')) 38 kd (nI (if form = 2 then 1 else ab))) DL (nx h)) := by
    unfold bgX
    rw [nwO_e, ldR_e P1, show fr (nO h 13 7) 161 e.P = K from f161, if_pos K1, e2, if_pos kqB, e3, ldR_e c0, f163, stI_e kkC, ldR_e (show kc (sI hC 48 kd (nI at')) (nx h) = 13 from c0), show fr (sI hC 48 kd (nI at')) 163 (nx h) = kd from f163, stZ_b s38 kkD, ldR_e (show kc (sI (sI hC 48 kd (nI at')) 38 kd (nI (if form = 2 then 1 else ab))) e.P = 12 from kPC), show fr (sI (sI hC 48 kd (nI at')) 38 kd (nI (if form = 2 then 1 else ab))) 162 e.P = DL from f162C, lsAdd_e KLs (.inr (.inr (.inr (by rw [show kc (sI (sI hC 48 kd (nI at')) 38 kd (nI (if form = 2 then 1 else ab))) (nx h) = 13 from c0]; decide)))) (by show (ls hC DL).length ≤ _; rw [lDC]; omega)]
  have zkd : kc h kd = 0 := s1.zero g3
  have t1 : St [] [kd] 0 hC (sI (sI hC 48 kd (nI at')) 38 kd (nI (if form = 2 then 1 else ab))) := ((St.refl s3.1 [] [kd]).sI kkC (by decide) (.inr (.inr (by simp)))).sI kkD (by decide) (.inr (.inr (by simp)))
  have lD5 : (ls (sI (sI hC 48 kd (nI at')) 38 kd (nI (if form = 2 then 1 else ab))) DL).length = n := by show (ls hC DL).length = n; rw [lDC]; exact lDL
  have t2 : St [] [kd, DL] (0 + 10) hC (lad (sI (sI hC 48 kd (nI at')) 38 kd (nI (if form = 2 then 1 else ab))) DL (nx h)) := (t1.wk (X2 := [kd, DL]) (fun _ z => z) (fun x hx => .inl (by rw [List.mem_singleton.mp hx]; simp)) (Nat.le_refl _)).ladd (show kc (sI (sI hC 48 kd (nI at')) 38 kd (nI (if form = 2 then 1 else ab))) DL = 108 from kDC) (by decide) (.inr (.inr (by simp))) (by omega) (by omega)
  have t3 : St [] [nx h, kd, DL] (8 + (0 + 10)) hB (lad (sI (sI hC 48 kd (nI at')) 38 kd (nI (if form = 2 then 1 else ab))) DL (nx h)) := (s3.wk (X2 := [nx h, kd, DL]) (fun _ z => z) (fun x hx => .inl (by rw [List.mem_singleton.mp hx]; simp)) (Nat.le_refl _)).cat t2 (fun _ z => z) (fun x hx => .inl (List.mem_cons_of_mem _ hx))
  have sF : St [] [kl, DL] (0 + 1 + 60 + (8 + (0 + 10))) h (lad (sI (sI hC 48 kd (nI at')) 38 kd (nI (if form = 2 then 1 else ab))) DL (nx h)) := ((s1.wk (X2 := [kl, DL]) (fun _ z => z) (fun x hx => by simp at hx) (Nat.le_refl _)).cat s2 (fun _ z => z) (fun x hx => .inl (by rw [List.mem_singleton.mp hx]; simp))).cat t3 (fun _ z => z) (fun x hx => by
    simp only [List.mem_cons, List.not_mem_nil, or_false] at hx
    rcases hx with z | z | z <;> rw [z]
    · exact .inr (.inl hnew)
    · exact .inr (.inl zkd)
    · exact .inl (by simp))
  have hi5 : ∀ f, f ≠ 48 → f ≠ 38 → fi (lad (sI (sI hC 48 kd (nI at')) 38 kd (nI (if form = 2 then 1 else ab))) DL (nx h)) f kd = fi hC f kd := fun f y1 y2 => by
    show fi (sI (sI hC 48 kd (nI at')) 38 kd (nI (if form = 2 then 1 else ab))) f kd = _
    rw [fi_sI, if_neg (fun y => y2 y.1), fi_sI, if_neg (fun y => y1 y.1)]
  have v38 : fi (lad (sI (sI hC 48 kd (nI at')) 38 kd (nI (if form = 2 then 1 else ab))) DL (nx h)) 38 kd = nI (if form = 2 then 1 else ab) := by
    show fi (sI (sI hC 48 kd (nI at')) 38 kd (nI (if form = 2 then 1 else ab))) 38 kd = _
    rw [fi_sI, if_pos ⟨rfl, rfl⟩]
  have v48 : fi (lad (sI (sI hC 48 kd (nI at')) 38 kd (nI (if form = 2 then 1 else ab))) DL (nx h)) 48 kd = nI at' := by
    show fi (sI (sI hC 48 kd (nI at')) 38 kd (nI (if form = 2 then 1 else ab))) 48 kd = _
    rw [fi_sI, if_neg (fun y => absurd y.1 (by decide)), fi_sI, if_pos ⟨rfl, rfl⟩]
  have v165 : fi (lad (sI (sI hC 48 kd (nI at')) 38 kd (nI (if form = 2 then 1 else ab))) DL (nx h)) 165 (nx h) = -1 := by
    show fi (sI (sI hC 48 kd (nI at')) 38 kd (nI (if form = 2 then 1 else ab))) 165 (nx h) = _
    rw [fi_sI, if_neg (fun y => absurd y.1 (by decide)), fi_sI, if_neg (fun y => absurd y.1 (by decide))]; exact f165
  have lsD : ls (lad (sI (sI hC 48 kd (nI at')) 38 kd (nI (if form = 2 then 1 else ab))) DL (nx h)) DL = ls h DL ++ [nx h] := by
    rw [lad_ls]; show ls hC DL ++ [nx h] = _; rw [lDC]
  have EKC := s3.2.eq (s2.2.kk kl1 (by decide)) (by decide) (by simp) (by simpa using fun z : kl = nx h => by rw [z, hnew] at kkl; exact absurd kkl (by decide))
  have lsK' : ls (lad (sI (sI hC 48 kd (nI at')) 38 kd (nI (if form = 2 then 1 else ab))) DL (nx h)) kl = ls h kl ++ [kd] := by
    unfold lad
    rw [ls_sLc, if_neg (fun z => q1DL z.symm)]
    show ls hC kl = _
    rw [EKC.2.2.2.2.2.2.1, g1]; rfl
  have cpK' : cp (lad (sI (sI hC 48 kd (nI at')) 38 kd (nI (if form = 2 then 1 else ab))) DL (nx h)) kl ≠ RAW := by
    unfold lad
    rw [cp_sLc, if_neg (fun z => q1DL z.symm)]
    show cp hC kl ≠ RAW
    rw [EKC.2.2.2.2.2.2.2.2]; exact g2
  have nxF : nx (lad (sI (sI hC 48 kd (nI at')) 38 kd (nI (if form = 2 then 1 else ab))) DL (nx h)) = nx hC := rfl
  have frF : ∀ f q, fr (lad (sI (sI hC 48 kd (nI at')) 38 kd (nI (if form = 2 then 1 else ab))) DL (nx h)) f q = fr hC f q := fun _ _ => rfl
  have kcF : ∀ q, kc (lad (sI (sI hC 48 kd (nI at')) 38 kd (nI (if form = 2 then 1 else ab))) DL (nx h)) q = kc hC q := fun _ => rfl
  have cDF : cp (lad (sI (sI hC 48 kd (nI at')) 38 kd (nI (if form = 2 then 1 else ab))) DL (nx h)) DL ≠ RAW := KK.2.2
  generalize lad (sI (sI hC 48 kd (nI at')) 38 kd (nI (if form = 2 then 1 else ab))) DL (nx h) = hF at *
  have hkd : ∀ x ∈ [kl, DL], kdX (kc h x) = true := fun x hx => by
    rcases List.mem_cons.mp hx with z | z
    · rw [z, kkl]; decide
    · rw [List.mem_singleton.mp z, kDL]; decide
  have KF : kc hF K = 3 := sF.2.kk kK (by decide)
  have EKF := sF.2.eq kK (by decide) (by simp) (by
    simp only [List.mem_cons, List.not_mem_nil, or_false]
    intro z
    rcases z with z | z
    · rw [z, kkl] at kK; exact absurd kK (by decide)
    · rw [z, kDL] at kK; exact absurd kK (by decide))
  have F2 : Fr (fun k => decide (k ≠ 4 ∧ k ≠ 108)) hC hF := t2.fx.fr (fun z hz => by
    rcases List.mem_cons.mp hz with y | y
    · rw [y, kkC]; decide
    · rw [List.mem_singleton.mp y, kDC]; decide)
  have nB : nx h ≤ nx hB := by have := s2.2.1; omega
  have up : ∀ l, Fb (nx (nO h 13 7)) (nx hB) l → Fb (nx h) (nx hF) l := fun l z => ⟨by have := z.1; omega, by have := z.2; omega⟩
  have ka : kc hF (nx h) = 13 := (kcF _).trans c0
  refine ⟨nx h, hF, ev, sF.le (by omega), p.dec sF.1 sF.fx hkd cl, p.keep sF.fx hkd, ⟨(frF _ _).trans f161C, KF, (EKF.2.2.1 30).trans f30, sF.2.kk kkl (by decide), cpK', by rw [lsK']; simp; omega, (frF _ _).trans f162C, (kcF _).trans kDC, cDF, by rw [lsD]; simp; omega⟩, lsD, by rw [lsK', frF, f163], ⟨hnew, Nat.le_refl _⟩, ka, ?_, ?_, ⟨v165, fun t ht => by cases ht⟩, ?_, ?_, ?_, ?_, rfl, ⟨hnm, hl⟩, ⟨by simp, by simp, by simp⟩, hf.1, hf.2, hab, fun _ => rfl⟩
  · rw [frF, f163]
    exact KbX_set (KbX_wk up KB) t3.fx (fun z hz => by
      simp only [List.mem_cons, List.not_mem_nil, or_false] at hz
      rcases hz with y | y | y <;> rw [y]
      · exact .inl kqB
      · exact .inr (.inl kkB)
      · exact .inr (.inr (s2.2.kk (kc_nO_o w kDL (by decide)) (by decide)))) (fun f => (frF f kd).trans ((s3.2.eq kkB (by decide) (by simp) (by simpa using fun z : kd = nx h => qk z.symm)).2.2.1 f)) (fun f y1 y2 => (hi5 f y1 y2).trans ((s3.2.eq kkB (by decide) (by simp) (by simpa using fun z : kd = nx h => qk z.symm)).1 f)) ((kcF _).trans kkC) v38 v48
  · rw [frF, f164]; exact str1 sF.1
  · rw [frF, f166]; exact (list_at (F := Fb (nx h) (nx hF)) ⟨by omega, by omega⟩ c1 a1 b1).fr0 F2 (by decide) (by decide)
  · rw [frF, f167]; exact (list_at (F := Fb (nx h) (nx hF)) ⟨by omega, by omega⟩ c2 a2 b2).fr0 F2 (by decide) (by decide)
  · rw [frF, f168]; exact ((list_at (P := StrX) (F := Fb (nx h) (nx hF)) ⟨by omega, by omega⟩ c3 a3 b3).fr0 F2 (by decide) (by decide)).r0
  · rw [frF, f169]; exact (list_at (F := Fb (nx h) (nx hF)) ⟨by omega, by omega⟩ c4 a4 b4).fr0 F2 (by decide) (by decide)
