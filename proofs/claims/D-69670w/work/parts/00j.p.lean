/-! PHASE B declarations 15: an expression as a body -/
set_option maxRecDepth 100000
variable {e : EE} {Zx Zm : List Nat} {hx hm h h1 h2 h' hx0 hm0 hxA hmA : HP} {i j a b k X Y bx bm l1 l2 l3 : Nat} {IT : List It} {TY : List Ty} {QU : List (List Nat)} {F G : Nat → Prop} {KL : List Nat} {d : DC} {TY' : List Ty} {QU' : List (List Nat)} {num : Nat × Nat}
theorem Nd_wil {l : Nat} {F : Nat → Prop} : ∀ d : Nat, Nd (e.wil l) F d = Nd e F d
  | 0 => rfl
  | d + 1 => by
    funext h n its H
    simp only [Nd, Nd_wil d]
    rfl
noncomputable def boM (Q p : Nat) (KM : HP → Rs Unit) (h : HP) : Rs Unit := nwC 133 3 h fun p10 h11 => lsInit p10 h11 fun h12 => stR 50 392 p p10 h12 fun h13 => ldR 50 392 p h13 fun x14 => if kc h13 Q = 46 then bd (f_X48_expression Q x14 h13) (fun _ h15 => KM h15) else none
theorem bdy_pair {iA : Nat} {ITA : List It} {TYA : List Ty} {QUA : List (List Nat)} {p kk wd pl rp : Nat} {vt : Vr} {vs : List Vr} (C : Dc e Zx Zm hx0 hm0) (M0 : Mb0 hx0 hm0 hxA hmA) (qA : PM e hmA iA ITA TYA QUA) (W : Mw e Zx Zm hx0 hm0 hxA hmA bx bm X Y hx hm i TY QU []) (Mm : MeB (Fb (nx hmA) (nx hm)) hm p kk vt wd pl vs) (z393 : fi hm 393 p = nI rp) (hp0 : kc hmA p = 0) {KX : Nat → HP → Rs Nat} {KM : HP → Rs Unit} (hK : ∀ P N il h', PN (e.wil il) h' P N → MF (e.wil il) h' P 0 1 (KM h')) :
    (∃ n hx' hm' j its H TY' QU', bd (f_X10_expression 520 e.P (1 : Int32) hx) KX = KX n hx' ∧ boM e.Q p KM hm = KM hm' ∧ i < j ∧ Mw e Zx Zm hx0 hm0 hxA hmA bx bm (X + 88 * (j - i)) (Y + 2 + 88 * (j - i)) hx' hm' j TY' QU' [] ∧ Nx e (Fb (nx hxA) (nx hx')) hx' n its H ∧ n ≠ 0 ∧ MeM (Fb (nx hmA) (nx hm')) hm' p kk (vt, (wd, pl, vs, some (rp, its, H))) ∧ XS e (88 * (j - i)) hx hx') ∨
    DF e Zx Zm hx0 hm0 (X + 88 * (e.TS.length - i)) (Y + 2 + (88 * (e.TS.length - i) + 1)) (bd (f_X10_expression 520 e.P (1 : Int32) hx) KX) (boM e.Q p KM hm) := by
  have S := W.1
  have p0 := S.2.2.1.1
  have q0 := S.2.2.2
  have kp := Mm.1
  have nl := (S.cl C).2.2
  have hi := q0.jj.1
  have zl : kc hm (nx hm) = 0 := q0.1.new
  have zlA : kc hmA (nx hm) = 0 := (qA.1.2.1 _ W.2.2.2.2).1
  have l0 : nx hm ≠ 0 := by have := q0.1.1; omega
  have k1 : kc (nC hm 133 3) (nx hm) = 133 := kc_nC_n
  have c1 : cp (nC hm 133 3) (nx hm) = RAW := by rw [cp_nC, if_pos rfl]
  have s2 : St [] [] (0 + 1 + 1) hm (sLc (nC hm 133 3) (nx hm) [] 0 0 0) := ((St.refl q0.1 [] []).nC (b := 1) (by omega) (by omega)).sLc k1 (by decide) (.inl zl) (by omega) (by omega)
  have kp2 : kc (sLc (nC hm 133 3) (nx hm) [] 0 0 0) p = 50 := s2.2.kk kp (by decide)
  have s3 : St [] [p] (0 + 1 + 1) hm (sR (sLc (nC hm 133 3) (nx hm) [] 0 0 0) 392 p (nx hm)) := (s2.wk (X2 := [p]) (fun _ z => z) (fun x hx => by simp at hx) (Nat.le_refl _)).sR kp2 (by decide) (.inr (.inr (by simp)))
  have q3 := q0.dec s3.1 s3.fx (fun x hx => by rw [List.mem_singleton.mp hx, kp]; decide) nl
  have kl : kc (sR (sLc (nC hm 133 3) (nx hm) [] 0 0 0) 392 p (nx hm)) (nx hm) = 133 := k1
  have cl : cp (sR (sLc (nC hm 133 3) (nx hm) [] 0 0 0) 392 p (nx hm)) (nx hm) ≠ RAW := by
    show cp (sLc (nC hm 133 3) (nx hm) [] 0 0 0) (nx hm) ≠ RAW
    rw [cp_sLc, if_pos rfl]; decide
  have ll : ls (sR (sLc (nC hm 133 3) (nx hm) [] 0 0 0) 392 p (nx hm)) (nx hm) = [] := by
    show ls (sLc (nC hm 133 3) (nx hm) [] 0 0 0) (nx hm) = []
    rw [ls_sLc, if_pos rfl]
  obtain ⟨s4, q4⟩ := q3.il kl cl ll
  have pQ : p ≠ e.Q := fun z => by rw [z, q0.kQ] at kp; exact absurd kp (by decide)
  have r392 : fr (sR (sLc (nC hm 133 3) (nx hm) [] 0 0 0) 392 p (nx hm)) 392 p = nx hm := by rw [fr_sR, if_pos ⟨rfl, rfl⟩]
  have z392 : fr (sR (sR (sLc (nC hm 133 3) (nx hm) [] 0 0 0) 392 p (nx hm)) 359 e.Q (nx hm)) 392 p = nx hm := by rw [fr_sR, if_neg (fun y => absurd y.1 (by decide))]; exact r392
  have hf : ∀ f, f ≠ 392 → fr (sR (sR (sLc (nC hm 133 3) (nx hm) [] 0 0 0) 392 p (nx hm)) 359 e.Q (nx hm)) f p = fr hm f p := fun f hf => by
    rw [fr_sR, if_neg (fun y => pQ y.2), fr_sR, if_neg (fun y => hf y.1)]; rfl
  have z393' : fi (sR (sR (sLc (nC hm 133 3) (nx hm) [] 0 0 0) 392 p (nx hm)) 359 e.Q (nx hm)) 393 p = nI rp := z393
  have s34 : St [] [p, e.Q] (0 + 1 + 1 + 0) hm (sR (sR (sLc (nC hm 133 3) (nx hm) [] 0 0 0) 392 p (nx hm)) 359 e.Q (nx hm)) := (s3.wk (X2 := [p, e.Q]) (fun _ z => z) (fun x hx => .inl (by rw [List.mem_singleton.mp hx]; simp)) (Nat.le_refl _)).cat s4 (fun _ z => z) (fun x hx => .inl (by rw [List.mem_singleton.mp hx]; simp))
  have Mm4 : MeB (Fb (nx hmA) (nx hm)) (sR (sR (sLc (nC hm 133 3) (nx hm) [] 0 0 0) 392 p (nx hm)) 359 e.Q (nx hm)) p kk vt wd pl vs := MeB_set Mm s34.fx (fun z hz => by
    rcases List.mem_cons.mp hz with y | y
    · rw [y]; exact .inl kp
    · rw [List.mem_singleton.mp y]; exact .inr q0.kQ) hf (fun f _ => rfl) kp2
  have n4 : nx (sR (sR (sLc (nC hm 133 3) (nx hm) [] 0 0 0) 392 p (nx hm)) 359 e.Q (nx hm)) = nx hm + 1 := rfl
  have kp3 : kc (sR (sLc (nC hm 133 3) (nx hm) [] 0 0 0) 392 p (nx hm)) p = 50 := kp2
  have lr : lrK (nC hm 133 3) (nx hm) := ⟨by rw [k1]; decide, by rw [k1]; decide, c1⟩
  have kq4 : kc (sR (sR (sLc (nC hm 133 3) (nx hm) [] 0 0 0) 392 p (nx hm)) 359 e.Q (nx hm)) e.Q = 46 := q4.kQ
  have kl4 : kc (sR (sR (sLc (nC hm 133 3) (nx hm) [] 0 0 0) 392 p (nx hm)) 359 e.Q (nx hm)) (nx hm) = 133 := k1
  have hTS : (e.wil (nx hm)).TS.length = e.TS.length := rfl
  have eM : boM e.Q p KM hm = bd (f_X48_expression_2 520 e.Q (1 : Int32) (sR (sR (sLc (nC hm 133 3) (nx hm) [] 0 0 0) 392 p (nx hm)) 359 e.Q (nx hm))) (fun _ h15 => KM h15) := by
    unfold boM
    rw [nwC_e, lsInit_e lr, stR_e kp2, ldR_e kp3, r392, m46_e q3]
    unfold f_X48_expression
    rw [stR_e q3.kQ, if_pos kq4, bd_u]
  have Sm : St [] Zm (Y + (0 + 1 + 1 + 0)) hm0 (sR (sR (sLc (nC hm 133 3) (nx hm) [] 0 0 0) 392 p (nx hm)) 359 e.Q (nx hm)) := S.2.1.cat s34 (fun _ z => z) (fun x hx => by
    rcases List.mem_cons.mp hx with y | y
    · rw [y]; exact .inr (.inl (M0.2 _ hp0))
    · rcases C.2.2.2.2.2.2.2 x (by rw [List.mem_singleton.mp y]; simp) with z | z
      · exact .inl z
      · exact .inr (.inl z))
  have fm4 : FxM (Fb bm (nx hmA)) ALLM hmA (sR (sR (sLc (nC hm 133 3) (nx hm) [] 0 0 0) 392 p (nx hm)) 359 e.Q (nx hm)) := W.2.2.1.newz s34.fx (fun x hx => by
    rcases List.mem_cons.mp hx with y | y
    · rw [y]; exact .inl hp0
    · exact qA.mmK C.1 x (by rw [List.mem_singleton.mp y]; simp)) (by decide)
  have P := GE1 (e.wil (nx hm)) 520 520 hx _ i TY QU [] (by decide) (by decide) p0 q4 ⟨by simp, l0⟩
  rw [eM]
  generalize hh4 : sR (sR (sLc (nC hm 133 3) (nx hm) [] 0 0 0) 392 p (nx hm)) 359 e.Q (nx hm) = h4 at *
  have mmZ : ∀ {hB hC : HP} {c : Nat}, St [] Zm (Y + (0 + 1 + 1 + 0)) hm0 hB → MS (e.wil (nx hm)) c hB hC → St [] Zm (Y + (0 + 1 + 1 + 0) + c) hm0 hC := fun s t => s.cat t (fun _ z => z) (fun x hx => by
    rcases wil_mm hx with y | y
    · rw [y]; exact .inr (.inl (M0.2 _ zlA))
    · rcases C.2.2.2.2.2.2.2 x y with z | z
      · exact .inl z
      · exact .inr (.inl z))
  rcases P with ⟨n, hx', hm', j, ty, qu, its, H, dd, e1, e2, u1, u2, u3, u4, u5, u6, u7, u8, u9⟩ | f
  · have e1' : f_X10_expression 520 e.P (1 : Int32) hx = rok n hx' := e1
    have e2' : f_X48_expression_2 520 e.Q (1 : Int32) h4 = rok () hm' := e2
    have hj := u5.jj.1
    rw [e1', e2', bd_ok, bd_ok]
    have wA' := W.2.2.2.1
    have nd : Nx e (Fb (nx hxA) (nx hx')) hx' n its H := ⟨dd, by
      have := Nd_F' (G := Fb (nx hxA) (nx hx')) (fun q z y => ⟨Nat.le_trans wA' z.2, u4.1.lt y⟩) u6
      rw [Nd_wil] at this; exact this⟩
    have n0 : n ≠ 0 := fun z => by
      have := (Nd_k u6).1
      rw [z, (u4.1.2.2 0 (by omega)).1] at this; exact absurd this (by decide)
    have fmm : ∀ (G : Nat → Prop), FxM G [132] h4 hm' := fun G => ⟨_, u3.fx, fun x hx => by
      rcases wil_mm hx with y | y
      · rw [y, kl4]; exact ⟨by decide, fun z => absurd z (by decide)⟩
      · rcases (q4.unw C.1).mmK C.1 x y with z | z
        · rw [z]; exact ⟨by decide, fun z => absurd z (by decide)⟩
        · exact ⟨z.1, fun y => absurd (by rw [List.mem_singleton.mp y]; decide) z.2⟩⟩
    have nm' := u3.2.1
    have Mm5 := MeB_wk (G := Fb (nx hmA) (nx hm')) (fun l z => Fb_m z (by omega)) (MeB_fx (fmm _) (by simp) Mm4)
    have kp4 : kc h4 p = 50 := Mm4.1
    have E5 := (fmm (fun _ => False)).ob kp4 (by decide) (by decide)
    have x392 : fr hm' 392 p = nx hm := (E5.2.2.2.2.1 392).trans z392
    obtain ⟨o1, o2⟩ := u5.ilo l0
    have pxx : PX e hx' j (TY ++ ty) (QU ++ qu) := u4
    have xss : XS e (88 * (j - i)) hx hx' := XS.le (show XS e (60 * (j - i)) hx hx' from u2) (by omega)
    refine .inl ⟨n, hx', hm', j, its, H, _, _, rfl, rfl, u1, ⟨⟨S.1.cat xss.1 (fun _ z => z) (fun x hx => ?_), (mmZ Sm u3).le (by omega), ⟨pxx, S.2.2.1.2.trans (XS.kq p0 xss)⟩, u5.unw C.1⟩, W.2.1.stp p0 xss (by decide), ?_, Nat.le_trans W.2.2.2.1 xss.nx, ?_⟩, nd, n0, MeB_m Mm5 ?_, xss⟩
    · rcases C.2.2.2.2.2.2.1 x hx with z | z
      · exact .inl z
      · exact .inr (.inl z)
    · exact fm4.newz u3.fx (fun x hx => by
        rcases wil_mm hx with y | y
        · rw [y]; exact .inl zlA
        · exact qA.mmK C.1 x y) (by decide)
    · have := W.2.2.2.2; omega
    · refine ⟨by rw [x392]; exact l0, (E5.2.2.1 393).trans z393', ?_⟩
      rw [x392]
      exact ⟨⟨W.2.2.2.2, by omega⟩, u3.2.kk kl4 (by decide), o1, o2⟩
  · obtain ⟨P, hx', e1, s1, f1, m⟩ := Fail.bd (K1 := KX) (K2 := fun _ h15 => KM h15) f (fun P v h5 n => hK P _ (nx hm) h5 n)
    have e1' : bd (f_X10_expression 520 e.P (1 : Int32) hx) KX = rex hx' := e1
    refine .inr ⟨P, hx', e1', S.1.cat (s1.1.le (show 60 * ((e.wil (nx hm)).TS.length - i) ≤ 88 * (e.TS.length - i) from Nat.mul_le_mul (by decide) (Nat.le_refl _))) (fun _ z => z) (fun x hx => ?_), f1, ?_⟩
    · rcases C.2.2.2.2.2.2.1 x hx with z | z
      · exact .inl z
      · exact .inr (.inl z)
    · rcases m with ⟨h5, a1, a2, a3⟩ | ⟨v, h5, a1, a2, a3⟩
      · exact .inl ⟨h5, a1, (mmZ Sm a2).le (by omega), a3⟩
      · exact .inr ⟨v, h5, nx hm, 0, a1, (mmZ Sm a2).le (by omega), a3, M0.2 _ zlA⟩
