/-! PHASE B declarations 17: a method behind its parameters -/
set_option maxRecDepth 100000
variable {e : EE} {Zx Zm : List Nat} {hx hm h h1 h2 h' hx0 hm0 hxA hmA : HP} {i j a b k X Y bx bm l1 l2 l3 : Nat} {IT : List It} {TY : List Ty} {QU : List (List Nat)} {F G : Nat → Prop} {KL : List Nat} {d : DC} {TY' : List Ty} {QU' : List (List Nat)} {num : Nat × Nat}
theorem tlM_no {p : Nat} : ∀ P N il h', PN (e.wil il) h' P N → MF (e.wil il) h' P 0 1 (tlM e.Q k p h') := fun P N il h' n => by
  unfold tlM
  exact v46 n (vSgn n (by decide) (by decide))
theorem tail_pair {p t7 s9 wd pl np iA : Nat} {ITA : List It} {TYA : List Ty} {QUA : List (List Nat)} {a4 a5 : Int32} {T : Ty} {nm : List Nat} {vs : List Vr} (C : Dc e Zx Zm hx0 hm0) (M0 : Mb0 hx0 hm0 hxA hmA) (wA : WG hxA) (Cu : Cur e bx bm hxA hmA a k num d) (hl : d.2.2.2.2.2.1.length ≤ 300) (hbx : bx ≤ nx hxA) (hbm : bm ≤ nx hmA) (Bb : Bx Zx Zm hx0 hm0 bx bm) (qA : PM e hmA iA ITA TYA QUA) (hp0 : kc hmA p = 0)
    {i0 : Nat} {QU0 : List (List Nat)} {X0 Y0 : Nat} (W : Mw e Zx Zm hx0 hm0 hxA hmA bx bm X Y hx hm i TY QU []) (hi0 : i0 ≤ i) (hX : X ≤ X0 + 88 * (i - i0)) (hY : Y ≤ Y0 + 88 * (i - i0)) (h8 : vs.length ≤ 8) (ht : TyE e hx t7 T) (hs : StrX hx s9 nm) (h4 : a4 = if wd = 1 then 1 else 0) (h5 : a5 = if wd = 2 then 1 else 0) (Mx : MhV e G hx l1 l2 l3 vs) (Mm : MeM (Fb (nx hmA) (nx hm)) hm p k ((T, (nm, np)), (wd, pl, vs, none))) :
    MDone e Zx Zm hx0 hm0 hxA hmA bx bm X0 Y0 a k num d i0 T (nm, np) wd pl vs QU0 (tlX e.P a (nI pl) a4 a5 t7 (nI np) s9 l1 l2 l3 hx) (f_X48_member_b341 e.Q k p hm) ∨
    DF e Zx Zm hx0 hm0 (X0 + 88 * (e.TS.length - i0)) (Y0 + 88 * (e.TS.length - i0)) (tlX e.P a (nI pl) a4 a5 t7 (nI np) s9 l1 l2 l3 hx) (f_X48_member_b341 e.Q k p hm) := by
  have S := W.1
  have p0 := S.2.2.1.1
  have q0 := S.2.2.2
  have kP := (S.cl C).2.1
  have hi := q0.jj.1
  have up : ∀ {x y l : Nat}, x ≤ y → Fb (nx hmA) x l → Fb bm y l := fun hxy z => ⟨by have := z.1; omega, by have := z.2; omega⟩
  rw [b341_e]
  unfold tlX
  rw [xt12_e kP p0, x10_e p0, m46_e q0]
  have w10 : codes (cStr.getD (10 - 1) "") ∈ SW := by decide
  have w18 : codes (cStr.getD (18 - 1) "") ∈ SW := by decide
  have w72 : codes (cStr.getD (72 - 1) "") ∈ SW := by decide
  have w76 : codes (cStr.getD (76 - 1) "") ∈ SW := by decide
  have w66 : codes (cStr.getD (66 - 1) "") ∈ KW := by decide
  by_cases c1 : isX (tk e.TS i) (codes (cStr.getD (10 - 1) ""))
  case neg =>
    obtain ⟨hx9, e9, s9', f9⟩ := xexpN p0 (by decide) (by decide) rfl c1
    obtain ⟨hm9, ea, sa, fa⟩ := msgnN q0 (by decide) (by decide) rfl (fun z => c1 ((isX_S p0.V w10).mpr z))
    rw [e9, ea]
    exact .inr ((Dq.err C S s9' f9 sa fa).le (by omega) (by omega))
  have d1 := (isX_S p0.V w10).mp c1
  rw [xexpY p0 (by decide) (by decide) rfl c1, msgnY q0 (by decide) (by decide) rfl d1]
  rcases adv p0 q0 (go_of d1) with ⟨hx1, e1, s1, p1, q1, t1⟩ | ⟨hx1, P, e1, s1, f1, n1, t1⟩
  case inr =>
    have := (mfwd_s q0 (go_of d1)).2.jj.1
    rw [e1]
    exact .inr ((Dq.none C S s1 f1 t1 (v46 n1 (vG n1 (by decide) (by decide) (by rw [if_pos y00]; exact v46 n1 (vSgn (N2 := 0) n1 (by decide) (by decide)))))).le (by omega) (by omega))
  have W1 := W.tr C s1 t1 p1 q1
  have hi1 := q1.jj.1
  have ht1 := TyE_st p0 s1 ht
  have hs1 := StrX_st p0 s1 hs
  have Mx1 := MhX_st p0 s1 Mx
  have n1' : nx hm ≤ nx (fwd e hm i) := t1.2.1
  have Mm1 := MeM_wk (e := e) (G := Fb (nx hmA) (nx (fwd e hm i))) (fun l z => Fb_m z n1') (MeM_st q0 C.1 t1 Mm)
  have kP1 := (W1.1.cl C).2.1
  rw [e1, xt12_e kP1 p1, x10_e p1, m46_e q1, mgone_e q1 (by decide) (by decide) rfl]
  generalize fwd e hm i = hm1 at *
  by_cases c2 : isX (tk e.TS (i + 1)) (codes (cStr.getD (18 - 1) ""))
  case pos =>
    have d2 := (isX_S p1.V w18).mp c2
    rw [xaccY p1 (by decide) (by decide) rfl c2, if_pos d2]
    rcases adv p1 q1 (go_of d2) with ⟨hx2, e2, s2, p2, q2, t2⟩ | ⟨hx2, P, e2, s2, f2, n2, t2⟩
    · have W2 := W1.tr C s2 t2 p2 q2
      have n2' : nx hm1 ≤ nx (fwd e hm1 (i + 1)) := t2.2.1
      rw [e2, if_neg z10, if_neg z10]
      exact .inl (fin_pair (body := none) C M0 wA Cu hl hbx hbm Bb W2 (by omega) (by omega) (by omega) h8 (TyE_st p1 s2 ht1) (StrX_st p1 s2 hs1) h4 h5 ⟨rfl, rfl⟩ (MhX_st p1 s2 Mx1) (MeM_wk (e := e) (fun l z => Fb_m z n2') (MeM_st q1 C.1 t2 Mm1)))
    · have q2 := (mfwd_s q1 (go_of d2)).2
      have := q2.jj.1
      have N2 := PN_at n2 q2
      have n2' : nx hm1 ≤ nx (fwd e hm1 (i + 1)) := t2.2.1
      rw [e2, if_neg z10]
      have K2 := KdM_up (G := Fb bm (nx (fwd e hm1 (i + 1)))) (MS.fxm q1 C.1 t2 (by decide)) (W1.cur Cu).2 (fun l z => Fb_m z n2')
      exact .inr ((fin_none C Bb W1.1 s2 f2 t2 q2 ⟨_, _, _, _, q2, N2.1, N2.2, Nat.le_refl _⟩ K2 hl (MeM_wk (e := e) (fun l z => up n2' z) (MeM_st q1 C.1 t2 Mm1))).le (by omega) (by omega))
  rw [xaccN p1 (by decide) (by decide) rfl c2, if_neg (fun z => c2 ((isX_S p1.V w18).mpr z)), if_pos y00, if_pos y00, xt12_e kP1 p1, x10_e p1, m46_e q1]
  by_cases c3 : isX (tk e.TS (i + 1)) (codes (cStr.getD (72 - 1) ""))
  case neg =>
    obtain ⟨hx9, e9, s9', f9⟩ := xexpN p1 (by decide) (by decide) rfl c3
    obtain ⟨hm9, ea, sa, fa⟩ := msgnN q1 (by decide) (by decide) rfl (fun z => c3 ((isX_S p1.V w72).mpr z))
    rw [e9, ea]
    exact .inr ((Dq.err C W1.1 s9' f9 sa fa).le (by omega) (by omega))
  have d3 := (isX_S p1.V w72).mp c3
  rw [xexpY p1 (by decide) (by decide) rfl c3, msgnY q1 (by decide) (by decide) rfl d3]
  have q2 := (mfwd_s q1 (go_of d3)).2
  have hi2 := q2.jj.1
  obtain ⟨m1, m2, m3, m4, m5, m6⟩ := q2.mt0
  have V2 := q2.V
  have t2 : MS e 0 hm1 (fwd e hm1 (i + 1)) := MS.Q (mfwd_s q1 (go_of d3)).1
  have n2' : nx hm1 ≤ nx (fwd e hm1 (i + 1)) := t2.2.1
  have Mm2 := MeM_wk (e := e) (G := Fb (nx hmA) (nx (fwd e hm1 (i + 1)))) (fun l z => Fb_m z n2') (MeM_st q1 C.1 t2 Mm1)
  have kp2 : kc (fwd e hm1 (i + 1)) p = 50 := Mm2.1
  have nl2 : kc (fwd e hm1 (i + 1)) e.nl = 168 := t2.2.kk (W1.1.cl C).2.2 (by decide)
  -- the place of return
  have s393 : St [] [p] 0 (fwd e hm1 (i + 1)) (sI (fwd e hm1 (i + 1)) 393 p (nI (tk e.TS (i + 1 + 1)).2.1)) := (St.refl q2.1 [] [p]).sI kp2 (by decide) (.inr (.inr (by simp)))
  have hz : ∀ x ∈ [p], kc hmA x = 0 ∧ kdM (kc (fwd e hm1 (i + 1)) x) = true := fun x hx => by rw [List.mem_singleton.mp hx, kp2]; exact ⟨hp0, by decide⟩
  have q3 := q2.dec s393.1 s393.fx (fun x hx => (hz x hx).2) nl2
  have z393 : fi (sI (fwd e hm1 (i + 1)) 393 p (nI (tk e.TS (i + 1 + 1)).2.1)) 393 p = nI (tk e.TS (i + 1 + 1)).2.1 := by rw [fi_sI, if_pos ⟨rfl, rfl⟩]
  have n3' : nx (sI (fwd e hm1 (i + 1)) 393 p (nI (tk e.TS (i + 1 + 1)).2.1)) = nx (fwd e hm1 (i + 1)) := rfl
  have Mb3 : MeB (Fb (nx hmA) (nx (sI (fwd e hm1 (i + 1)) 393 p (nI (tk e.TS (i + 1 + 1)).2.1)))) (sI (fwd e hm1 (i + 1)) 393 p (nI (tk e.TS (i + 1 + 1)).2.1)) p k (T, (nm, np)) wd pl vs := by
    rw [n3']
    exact MeB_set (MeM_b Mm2) s393.fx (fun z hz => .inl (by rw [List.mem_singleton.mp hz]; exact kp2)) (fun f _ => rfl) (fun f hf => by rw [fi_sI, if_neg (fun y => hf y.1)]) kp2
  have kp3 : kc (sI (fwd e hm1 (i + 1)) 393 p (nI (tk e.TS (i + 1 + 1)).2.1)) p = 50 := kp2
  rw [m46_e q2, mtok_e q2, ldI_e m1, m3, stI_e kp2, m46_e q3]
  have hp00 : kc hm0 p = 0 := M0.2 _ hp0
  rcases adv p1 q1 (go_of d3) with ⟨hx2, e2, s2, p2, q2', t2'⟩ | ⟨hx2, P, e2, s2, f2, n2, t2'⟩
  case inr =>
    have N2 := PN_at n2 q2
    rw [e2]
    exact .inr ((Dq.far C W1.1 s2 f2 t2 s393 (fun x hx => .inr (M0.2 _ (hz x hx).1)) (vKey (N2 := 0) (⟨_, _, _, _, q3, N2.1, N2.2, Nat.le_refl _⟩ : PN e _ P ([] : List It).length) (by decide) (by decide))).le (by omega) (by omega))
  have W2 := W1.tr C s2 t2 p2 q2
  have W3 := W2.chM C M0 s393 hz
  have kP2 := (W3.1.cl C).2.1
  rw [e2, xt12_e kP2 p2, xplc_e p2, xt12_e kP2 p2, x10_e p2]
  have ht2 := TyE_st p1 s2 ht1
  have hs2 := StrX_st p1 s2 hs1
  have Mx2 := MhX_st p1 s2 Mx1
  generalize sI (fwd e hm1 (i + 1)) 393 p (nI (tk e.TS (i + 1 + 1)).2.1) = hm3 at *
  by_cases c4 : isX (tk e.TS (i + 1 + 1)) (codes (cStr.getD (66 - 1) ""))
  case neg =>
    obtain ⟨hx9, e9, s9', f9⟩ := xexpN p2 (by decide) (by decide) rfl c4
    obtain ⟨hm9, ea, sa, fa⟩ := mkeyN q3 (by decide) (by decide) rfl (fun z => c4 ((isX_W p2.V w66).mpr z))
    rw [e9, ea]
    exact .inr ((Dq.err C W3.1 s9' f9 sa fa).le (by omega) (by omega))
  have d4 := (isX_W p2.V w66).mp c4
  rw [xexpY p2 (by decide) (by decide) rfl c4, mkeyY q3 (by decide) (by decide) rfl d4]
  rcases adv p2 q3 (go_w d4) with ⟨hx4, e4, s4, p4, q4, t4⟩ | ⟨hx4, P, e4, s4, f4, n4, t4⟩
  case inr =>
    have q4 := (mfwd_s q3 (go_w d4)).2
    have := q4.jj.1
    have N4 := PN_at n4 q4
    rw [e4]
    obtain ⟨y1, y2⟩ := W3.1.up C s4 t4
    exact .inr ((bdy_none C y1 f4 y2 q4 ⟨_, _, _, _, q4, N4.1, N4.2, Nat.le_refl _⟩ (t4.2.kk (W3.1.cl C).2.2 (by decide)) (t4.2.kk kp3 (by decide)) hp00 tlM_no).le (by omega) (by omega))
  have W4 := W3.tr C s4 t4 p4 q4
  have n4' : nx hm3 ≤ nx (fwd e hm3 (i + 1 + 1)) := t4.2.1
  have fm4 : FxM (Fb 0 0) [132] hm3 (fwd e hm3 (i + 1 + 1)) := MS.fxm q3 C.1 t4 (by decide)
  have Mb4 := MeB_wk (G := Fb (nx hmA) (nx (fwd e hm3 (i + 1 + 1)))) (fun l z => Fb_m z n4') (MeB_fx (MS.fxm (KL := [132]) q3 C.1 t4 (by decide)) (by simp) Mb3)
  have z393b : fi (fwd e hm3 (i + 1 + 1)) 393 p = nI (tk e.TS (i + 1 + 1)).2.1 := ((fm4.ob kp3 (by decide) (by decide)).2.2.1 393).trans z393
  have ht4 := TyE_st p2 s4 ht2
  have hs4 := StrX_st p2 s4 hs2
  have Mx4 := MhX_st p2 s4 Mx2
  have kP4 := (W4.1.cl C).2.1
  have hi4 := q4.jj.1
  have B := bdy_pair C M0 qA W4 Mb4 z393b hp0 (KX := fun x19 h20 => tlK e.P a (nI pl) a4 a5 t7 (nI np) s9 l1 l2 l3 (nI (tk e.TS (i + 1 + 1)).2.1) x19 h20) (KM := tlM e.Q k p) tlM_no
  rw [e4, if_pos (by rw [kP4]; simp)]
  generalize fwd e hm3 (i + 1 + 1) = hm4 at *
  rcases B with ⟨n, hx5, hm5, j5, its, H, TY5, QU5, e5, e6, hij, W5, nd, n0, Mm5, xs5⟩ | f
  case inr => exact .inr (f.le (by omega) (by omega))
  have p5 := W5.1.2.2.1.1
  have q5 := W5.1.2.2.2
  have hi5 := q5.jj.1
  have kP5 := (W5.1.cl C).2.1
  have ht5 := TyE_st p4 xs5 ht4
  have hs5 := StrX_st p4 xs5 hs4
  have Mx5 := MhX_st p4 xs5 Mx4
  rw [e5, e6]
  unfold tlK tlM
  rw [xt12_e kP5 p5, x10_e p5, m46_e q5]
  by_cases c5 : isX (tk e.TS j5) (codes (cStr.getD (18 - 1) ""))
  case neg =>
    obtain ⟨hx9, e9, s9', f9⟩ := xexpN p5 (by decide) (by decide) rfl c5
    obtain ⟨hm9, ea, sa, fa⟩ := msgnN q5 (by decide) (by decide) rfl (fun z => c5 ((isX_S p5.V w18).mpr z))
    rw [e9, ea]
    exact .inr ((Dq.err C W5.1 s9' f9 sa fa).le (by omega) (by omega))
  have d5 := (isX_S p5.V w18).mp c5
  rw [xexpY p5 (by decide) (by decide) rfl c5, msgnY q5 (by decide) (by decide) rfl d5]
  rcases adv p5 q5 (go_of d5) with ⟨hx6, e7, s6, p6, q6, t6⟩ | ⟨hx6, P, e7, s6, f6, n6, t6⟩
  case inr =>
    have := (mfwd_s q5 (go_of d5)).2.jj.1
    rw [e7]
    exact .inr ((Dq.none C W5.1 s6 f6 t6 (v46 n6 (vSgn (N2 := 0) n6 (by decide) (by decide)))).le (by omega) (by omega))
  have W6 := W5.tr C s6 t6 p6 q6
  have hi6 := q6.jj.1
  have kP6 := (W6.1.cl C).2.1
  have n6' : nx hm5 ≤ nx (fwd e hm5 j5) := t6.2.1
  have Mm6 := MeM_wk (e := e) (G := Fb (nx hmA) (nx (fwd e hm5 j5))) (fun l z => Fb_m z n6') (MeM_st q5 C.1 t6 Mm5)
  have nd6 : Nx e (Fb (nx hxA) (nx hx6)) hx6 n its H := by
    obtain ⟨_, _, _, _, ZN⟩ := XS.fxx (F := Fb 0 0) (KL := []) p5 s6 (by decide)
    exact ZN _ _ _ _ (Nx_F (fun q z => Fb_m z s6.nx) nd)
  have ht6 := TyE_st p5 s6 ht5
  have hs6 := StrX_st p5 s6 hs5
  have Mx6 := MhX_st p5 s6 Mx5
  rw [e7, xt12_e kP6 p6, x10_e p6, m46_e q6]
  generalize fwd e hm5 j5 = hm6 at *
  by_cases c6 : isX (tk e.TS (j5 + 1)) (codes (cStr.getD (76 - 1) ""))
  case neg =>
    obtain ⟨hx9, e9, s9', f9⟩ := xexpN p6 (by decide) (by decide) rfl c6
    obtain ⟨hm9, ea, sa, fa⟩ := msgnN q6 (by decide) (by decide) rfl (fun z => c6 ((isX_S p6.V w76).mpr z))
    rw [e9, ea]
    exact .inr ((Dq.err C W6.1 s9' f9 sa fa).le (by omega) (by omega))
  have d6 := (isX_S p6.V w76).mp c6
  rw [xexpY p6 (by decide) (by decide) rfl c6, msgnY q6 (by decide) (by decide) rfl d6]
  rcases adv p6 q6 (go_of d6) with ⟨hx7, e8, s7, p7, q7, t7'⟩ | ⟨hx7, P, e8, s7, f7, n7, t7'⟩
  · have W7 := W6.tr C s7 t7' p7 q7
    have n7' : nx hm6 ≤ nx (fwd e hm6 (j5 + 1)) := t7'.2.1
    have nd7 : Nx e (Fb (nx hxA) (nx hx7)) hx7 n its H := by
      obtain ⟨_, _, _, _, ZN⟩ := XS.fxx (F := Fb 0 0) (KL := []) p6 s7 (by decide)
      exact ZN _ _ _ _ (Nx_F (fun q z => Fb_m z s7.nx) nd6)
    rw [e8]
    exact .inl (fin_pair (body := some ((tk e.TS (i + 1 + 1)).2.1, its, H)) C M0 wA Cu hl hbx hbm Bb W7 (by omega) (by omega) (by omega) h8 (TyE_st p6 s7 ht6) (StrX_st p6 s7 hs6) h4 h5 ⟨rfl, n0, nd7, by have := V2.2.2.2.2.2.1; omega⟩ (MhX_st p6 s7 Mx6) (MeM_wk (e := e) (fun l z => Fb_m z n7') (MeM_st q6 C.1 t7' Mm6)))
  · have q7 := (mfwd_s q6 (go_of d6)).2
    have := q7.jj.1
    have N7 := PN_at n7 q7
    have n7' : nx hm6 ≤ nx (fwd e hm6 (j5 + 1)) := t7'.2.1
    rw [e8]
    have K7 := KdM_up (G := Fb bm (nx (fwd e hm6 (j5 + 1)))) (MS.fxm q6 C.1 t7' (by decide)) (W6.cur Cu).2 (fun l z => Fb_m z n7')
    exact .inr ((fin_none C Bb W6.1 s7 f7 t7' q7 ⟨_, _, _, _, q7, N7.1, N7.2, Nat.le_refl _⟩ K7 hl (MeM_wk (e := e) (fun l z => up n7' z) (MeM_st q6 C.1 t7' Mm6))).le (by omega) (by omega))
