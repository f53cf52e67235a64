/-! PHASE B declarations 20: a member from its type on -/
set_option maxRecDepth 100000
variable {e : EE} {Zx Zm : List Nat} {hx hm h h1 h2 h' hx0 hm0 hxA hmA : HP} {i j a b k X Y bx bm l1 l2 l3 : Nat} {IT : List It} {TY : List Ty} {QU : List (List Nat)} {F G : Nat → Prop} {KL : List Nat} {d : DC} {TY' : List Ty} {QU' : List (List Nat)} {num : Nat × Nat}
theorem MDon_le {X0 Y0 i0 : Nat} {rX : Rs Nat} {rM : Rs Unit} (x : MDon e Zx Zm hx0 hm0 bx bm X Y a k num d i rX rM) (hi : i0 ≤ i) (hX : X ≤ X0 + 88 * (i - i0)) (hY : Y ≤ Y0 + 88 * (i - i0)) : MDon e Zx Zm hx0 hm0 bx bm X0 Y0 a k num d i0 rX rM := by
  obtain ⟨x, hx', hm', j, b, TY', QU', nA, e1, e2, h1, S, r⟩ := x
  exact ⟨x, hx', hm', j, _, TY', QU', nA, e1, e2, by omega, ⟨S.1.le (by omega), S.2.1.le (by omega), S.2.2⟩, r⟩
theorem wd_e {β : Type} {A B : Rs β} {wd : Nat} {a4 a5 : Int32} (D : DX e F h a num d) (h4 : a4 = if wd = 1 then 1 else 0) (h5 : a5 = if wd = 2 then 1 else 0) (hwd : wd ≤ 2) : (if a4 = 0 then (if a5 = 0 then (ldR 13 163 a h fun x8 => ldR 4 32 x8 h fun x9 => eqS x9 903 A B) else B) else B) = if wd = 0 ∧ d.1 = 1 then A else B := by
  have k4 : kc h (fr h 163 a) = 4 := D.2.1.1
  have f32 : fr h 32 (fr h 163 a) = 900 + srt d.1 := D.2.1.2.2.1
  have : wd = 0 ∨ wd = 1 ∨ wd = 2 := by omega
  rcases this with z | z | z
  · rw [h4, h5, z, if_neg (show ¬ (0 : Nat) = 1 by decide), if_neg (show ¬ (0 : Nat) = 2 by decide), if_pos rfl, if_pos rfl, ldR_e D.1, ldR_e k4, f32, eqS_f]
    by_cases c : d.1 = 1
    · rw [if_pos c, if_pos ⟨rfl, c⟩]
    · rw [if_neg c, if_neg (fun y => c y.2)]
  · rw [h4, z, if_pos (show (1 : Nat) = 1 from rfl), if_neg z10, if_neg (show ¬ ((1 : Nat) = 0 ∧ d.1 = 1) from fun y => absurd y.1 (by decide))]
  · rw [h4, h5, z, if_neg (show ¬ (2 : Nat) = 1 by decide), if_pos (show (2 : Nat) = 2 from rfl), if_pos (show (0 : Int32) = 0 from rfl), if_neg z10, if_neg (show ¬ ((2 : Nat) = 0 ∧ d.1 = 1) from fun y => absurd y.1 (by decide))]
theorem md_e {β : Type} {A B : Rs β} {wd : Nat} {a3 : Int32} (D : KdM F h k num.1 d) (h3 : a3 = if wd = 0 then 0 else 1) (hf : d.1 ≤ 4) : (if a3 = 0 then (ldI 47 363 k h fun x7 => if x7 = (1 : Int32) then A else B) else B) = if wd = 0 ∧ d.1 = 1 then A else B := by
  by_cases z : wd = 0
  · rw [h3, if_pos z, if_pos rfl, ldI_e D.1, D.2.2.1]
    by_cases c : d.1 = 1
    · rw [if_pos ((nk _ (c := 1) (C := (1 : Int32)) rfl (by omega) (by omega)).mpr c), if_pos ⟨z, c⟩]
    · rw [if_neg (fun y => c ((nk _ (c := 1) (C := (1 : Int32)) rfl (by omega) (by omega)).mp y)), if_neg (fun y => c y.2)]
  · rw [h3, if_neg z, if_neg z10, if_neg (fun y => z y.1)]
/-- a field in the twin -/
theorem fldM {p np : Nat} {T : Ty} {nm : List Nat} (q1 : PM e hm i IT TY QU) (nl : kc hm e.nl = 168) (KM1 : KdM (Fb bm (nx hm)) hm k num.1 d) (hl : d.2.2.2.2.2.1.length ≤ 300) (kp : kc hm p = 50) (tm : TyM hm (fr hm 389 p) T) (nmM : ToM hm (fr hm 390 p) (nm, np)) :
    ∃ hm', (ldR 47 371 k hm fun x10 => nwO 49 2 hm fun p11 h12 => ldR 50 389 p h12 fun x13 => ldR 50 390 p h12 fun x14 => if kc h12 p11 = 49 then bd (f_X51_init p11 x13 x14 h12) (fun _ h15 => lsAdd x10 p11 h15 fun h16 => ldR 47 374 k h16 fun x17 => ivOf (0 : Int32) h16 fun x18 h19 => lsAdd x17 x18 h19 fun h20 => rok () h20) else none) = rok () hm' ∧ St [] [fr hm 371 k, fr hm 374 k] 22 hm hm' ∧ PM e hm' i IT TY QU ∧ Fb bm (nx hm) (fr hm 371 k) ∧ Fb bm (nx hm) (fr hm 374 k) := by
  have kk : kc hm k = 47 := KM1.1
  have sm2 : St [] [] (0 + 1) hm (nO hm 49 2) := (St.refl q1.1 [] []).nO (by omega) (by omega)
  have q2 := q1.new sm2
  have d0 : kc hm (nx hm) = 0 := q1.1.new
  have d49 : kc (nO hm 49 2) (nx hm) = 49 := kc_nO_n
  have fm2 : FxM (Fb bm (nx hm)) ALLM hm (nO hm 49 2) := FxM.nw sm2
  have kp2 : kc (nO hm 49 2) p = 50 := sm2.2.kk kp (by decide)
  have r389 : fr (nO hm 49 2) 389 p = fr hm 389 p := rfl
  have r390 : fr (nO hm 49 2) 390 p = fr hm 390 p := rfl
  obtain ⟨hm4, g2, t4, f4, k4, n4, VM⟩ := varM_new q2.1 d49 (TyM_fx fm2 tm) (ToM_fx fm2 nmM)
  have nl2 := sm2.2.kk nl (by decide)
  have q4 := q2.dec t4.1 f4 (fun x hx => by rw [List.mem_singleton.mp hx, d49]; decide) nl2
  have fm4 := fm2.newo f4 (fun x hx => by rw [List.mem_singleton.mp hx]; exact d0) (by decide)
  have nm4 : nx hm ≤ nx hm4 := by rw [n4]; exact sm2.2.1
  have KM4 := KdM_up (G := Fb bm (nx hm4)) fm4 KM1 (fun l z => Fb_m z nm4)
  obtain ⟨hm5, g3, t5, q5, KM5, F371, F374, nm5⟩ := ownM_add (v := (T, (nm, np))) q4 (t4.2.kk nl2 (by decide)) KM4 hl k4 (VM _)
  have a371 : fr hm4 371 k = fr hm 371 k := (fm4.ob kk (by decide) (by decide)).2.2.2.2.1 371
  have a374 : fr hm4 374 k = fr hm 374 k := (fm4.ob kk (by decide) (by decide)).2.2.2.2.1 374
  rw [a371, a374] at t5
  have F1 : Fb bm (nx hm) (fr hm 371 k) := by
    obtain ⟨_, _, _, _, _, _, _, _, _, _, y, _⟩ := KM1; exact y.1
  have F2 : Fb bm (nx hm) (fr hm 374 k) := by
    obtain ⟨_, _, _, _, _, _, _, _, _, _, _, _, _, y, _⟩ := KM1; exact y.1
  refine ⟨hm5, ?_, ?_, q5, F1, F2⟩
  · rw [ldR_e kk, nwO_e, ldR_e kp2, ldR_e kp2, r389, r390, if_pos d49, g2, ← a371, g3]
  · exact (((sm2.wk (X2 := [fr hm 371 k, fr hm 374 k]) (fun _ z => z) (fun x hx => by simp at hx) (Nat.le_refl _)).cat t4 (fun _ z => z) (fun x hx => .inr (.inl (by rw [List.mem_singleton.mp hx]; exact d0)))).cat t5 (fun _ z => z) (fun x hx => .inl hx)).le (by omega)
theorem tn_pair {p wd pl iA tA : Nat} {ITA : List It} {TYA : List Ty} {QUA : List (List Nat)} {a3 a4 a5 : Int32} (C : Dc e Zx Zm hx0 hm0) (M0 : Mb0 hx0 hm0 hxA hmA) (wA : WG hxA) (Cu : Cur e bx bm hxA hmA a k num d) (hl : d.2.2.2.2.2.1.length ≤ 300) (hbx : bx ≤ nx hxA) (hbm : bm ≤ nx hmA) (Bb : Bx Zx Zm hx0 hm0 bx bm) (qA : PM e hmA iA ITA TYA QUA) (hp0 : kc hmA p = 0) (hform : d.1 ≤ 4)
    (W : Mw e Zx Zm hx0 hm0 hxA hmA bx bm X Y hx hm i TY QU []) (hwd : wd ≤ 2) (h4 : a4 = if wd = 1 then 1 else 0) (h5 : a5 = if wd = 2 then 1 else 0) (h3 : a3 = if wd = 0 then 0 else 1) (Mp : MeP (Fb (nx hmA) (nx hm)) hm p k wd pl) (kt : kc hm tA = 44) (ft : fi hm 350 tA = nI pl) {Y0 : Nat} (hY0 : Y ≤ Y0 + 10) :
    MDon e Zx Zm hx0 hm0 bx bm X Y0 a k num d i (f_X11_member_b90 e.P a (nI d.met.length) (nI pl) a4 a5 hx) (f_X48_member_b144 e.Q k tA a3 p hm) ∨
    DF e Zx Zm hx0 hm0 (X + 88 * (e.TS.length - i)) (Y0 + 88 * (e.TS.length - i)) (f_X11_member_b90 e.P a (nI d.met.length) (nI pl) a4 a5 hx) (f_X48_member_b144 e.Q k tA a3 p hm) := by
  have S := W.1
  have p0 := S.2.2.1.1
  have q0 := S.2.2.2
  have kP := (S.cl C).2.1
  have nl := (S.cl C).2.2
  have hi := q0.jj.1
  have kp := Mp.1
  have w18 : codes (cStr.getD (18 - 1) "") ∈ SW := by decide
  have hz : ∀ {hB : HP}, kc hB p = 50 → ∀ x ∈ [p], kc hmA x = 0 ∧ kdM (kc hB x) = true := fun y x hx => by rw [List.mem_singleton.mp hx, y]; exact ⟨hp0, by decide⟩
  have hZp : ∀ x ∈ [p], x ∈ Zm ∨ kc hm0 x = 0 ∨ kc hm0 x ∈ ([] : List Nat) := fun x hx => .inr (.inl (by rw [List.mem_singleton.mp hx]; exact M0.2 _ hp0))
  unfold f_X11_member_b90 f_X48_member_b144
  rw [if_pos (by rw [kP]; simp), m46_e q0]
  rcases ty_pair p0 q0 with ⟨n, m, hx1, hm1, j, T, e1, e2, hij, s1, t1, p1, q1, Tn, nt, Tm, n0, n173⟩ | ⟨f, V⟩
  case inr =>
    obtain ⟨P, hx', e1, s1, f1, mm⟩ := f
    rw [e1, bd_ex]
    refine .inr ⟨P, hx', rfl, (C.xxZ S.1 s1).le (by omega), f1, .inl ?_⟩
    rcases mm with ⟨hm', a1, a2, a3'⟩ | ⟨v, hm', a1, a2, a3'⟩
    · rw [a1, bd_ex]
      exact ⟨hm', rfl, (C.mmZ S.2.1 a2).le (by omega), a3'⟩
    · obtain ⟨jn, ITn, TYn, QUn, z1, z2, z3, z4⟩ := a3'
      have kp' : kc hm' p = 50 := a2.2.kk kp (by decide)
      have s3 : St [] [p] 0 hm' (sR hm' 389 p v) := (St.refl z1.1 [] [p]).sR kp' (by decide) (.inr (.inr (by simp)))
      have q3 := z1.dec s3.1 s3.fx (fun x hx => (hz kp' x hx).2) (a2.2.kk nl (by decide))
      obtain ⟨h5', e5, s5, f5⟩ := mnameN q3 (by omega)
      rw [a1, bd_ok, stR_e kp', m46_e q3, e5]
      exact ⟨h5', rfl, (C.trZ ((C.mmZ S.2.1 a2).cat s3 (fun _ z => z) hZp) s5).le (by omega), z3 ▸ f5⟩
  have hj := q1.jj.1
  have W1 := W.tr C s1 t1 p1 q1
  have nm1 : nx hm ≤ nx hm1 := t1.2.1
  have Mp1 := MeP_wk (G := Fb (nx hmA) (nx hm1)) (fun l z => Fb_m z nm1) (MeP_fx (MS.fxm (KL := [132]) q0 C.1 t1 (by decide)) (by simp) Mp)
  have kp1 := Mp1.1
  have kP1 := (W1.1.cl C).2.1
  have A1 := (q0.fr0 t1).at kt (by decide) (by decide)
  have V1 := p1.V
  have s2 : St [] [p] 0 hm1 (sR hm1 389 p m) := (St.refl q1.1 [] [p]).sR kp1 (by decide) (.inr (.inr (by simp)))
  have W2 := W1.chM C M0 s2 (hz kp1)
  have q2 := W2.1.2.2.2
  have Mp2 : MeP (Fb (nx hmA) (nx (sR hm1 389 p m))) (sR hm1 389 p m) p k wd pl := MeP_set Mp1 (.inl rfl)
  have tm2 : TyM (sR hm1 389 p m) (fr (sR hm1 389 p m) 389 p) T := by
    rw [show fr (sR hm1 389 p m) 389 p = m by rw [fr_sR, if_pos ⟨rfl, rfl⟩]]
    exact TyM_fr (s2.fx.fr (S := fun k => decide (k ≠ 50)) (fun x hx => by rw [List.mem_singleton.mp hx, kp1]; decide)) Tm (by decide) (by decide)
  have kt2 : kc (sR hm1 389 p m) tA = 44 := A1.1
  have ft2 : fi (sR hm1 389 p m) 350 tA = nI pl := (A1.2.2.1 350).trans ft
  rw [e1, e2, bd_ok, bd_ok, xt12_e kP1 p1, xplc_e p1, xt12_e kP1 p1, x10_e p1, stR_e kp1, m46_e q2]
  generalize sR hm1 389 p m = hm2 at *
  by_cases c : (tk e.TS j).1 = 1
  case neg =>
    obtain ⟨hx7, e7, s7, f7⟩ := xnameN p1 c
    obtain ⟨hm7, e8, s8, f8⟩ := mnameN q2 c
    rw [e7, e8]
    exact .inr ((Dq.err C W2.1 s7 f7 s8 f8).le (by omega) (by omega))
  obtain ⟨n', hm3, g1, t3, To, n0', q3, r⟩ := nam p1 q2 c
  have wd1 := p1.wrd
  have hj3 := q3.jj.1
  have nm3 : nx hm2 ≤ nx hm3 := t3.2.1
  have Z3 : FxM (Fb (nx hmA) (nx hm2)) [132] hm2 hm3 := MS.fxm q2 C.1 t3 (by decide)
  have Mp3 := MeP_wk (G := Fb (nx hmA) (nx hm3)) (fun l z => Fb_m z nm3) (MeP_fx Z3 (by simp) Mp2)
  have kp3 := Mp3.1
  have a389 : fr hm3 389 p = fr hm2 389 p := (Z3.ob Mp2.1 (by decide) (by decide)).2.2.2.2.1 389
  have tm3 : TyM hm3 (fr hm3 389 p) T := by rw [a389]; exact TyM_fx Z3 tm2
  have A3 := (q2.fr0 t3).at kt2 (by decide) (by decide)
  have s4 : St [] [p] 0 hm3 (sR hm3 390 p n') := (St.refl q3.1 [] [p]).sR kp3 (by decide) (.inr (.inr (by simp)))
  have Fr4 : Fr (fun k => decide (k ≠ 50)) hm3 (sR hm3 390 p n') := s4.fx.fr (fun x hx => by rw [List.mem_singleton.mp hx, kp3]; decide)
  have Mp4 : MeP (Fb (nx hmA) (nx (sR hm3 390 p n'))) (sR hm3 390 p n') p k wd pl := MeP_set Mp3 (.inr rfl)
  have tm4 : TyM (sR hm3 390 p n') (fr (sR hm3 390 p n') 389 p) T := by
    rw [show fr (sR hm3 390 p n') 389 p = fr hm3 389 p by rw [fr_sR, if_neg (fun y => absurd y.1 (by decide))]]
    exact TyM_fr Fr4 tm3 (by decide) (by decide)
  have to4 : ToM (sR hm3 390 p n') (fr (sR hm3 390 p n') 390 p) ((tk e.TS j).2.2.1, (tk e.TS j).2.1) := by
    rw [show fr (sR hm3 390 p n') 390 p = n' by rw [fr_sR, if_pos ⟨rfl, rfl⟩]]
    exact ToM_fr Fr4 To (by decide) (by decide)
  have kt4 : kc (sR hm3 390 p n') tA = 44 := A3.1
  have ft4 : fi (sR hm3 390 p n') 350 tA = nI pl := (A3.2.2.1 350).trans ft2
  have q4 := q3.dec s4.1 s4.fx (fun x hx => (hz kp3 x hx).2) (t3.2.kk (W2.1.cl C).2.2 (by decide))
  have kp4 : kc (sR hm3 390 p n') p = 50 := kp3
  have n4' : nx (sR hm3 390 p n') = nx hm3 := rfl
  rw [xnameY p1 c, g1, stR_e kp3]
  rcases r with ⟨hx3, e3, s3, p3⟩ | ⟨hx3, P, e3, s3, f3, n3⟩
  case inr =>
    have N7 := PN_at n3 q3
    have K3 : KdM (Fb bm (nx (sR hm3 390 p n'))) (sR hm3 390 p n') k num.1 d := by
      have z := (W2.2.2.1.stp q2 C.1 t3 (by decide)).newo s4.fx (fun x hx => (hz kp3 x hx).1) (by decide)
      exact KdM_up z Cu.2 (fun l y => Fb_m y (Nat.le_trans W2.2.2.2.2 nm3))
    rw [e3, md_e K3 h3 hform]
    obtain ⟨h5', e5, s5, f5⟩ := b221_no (k := k) (tA := tA) (p := p) q4 N7
    have eM : (if wd = 0 ∧ d.1 = 1 then (if kc (sR hm3 390 p n') e.Q = 46 then bd (f_X48_gone e.Q 18 (sR hm3 390 p n')) (fun x8 h9 => if x8 = 0 then f_X48_member_b221 e.Q k tA p h9 else (ldR 47 371 k h9 fun x10 => nwO 49 2 h9 fun p11 h12 => ldR 50 389 p h12 fun x13 => ldR 50 390 p h12 fun x14 => if kc h12 p11 = 49 then bd (f_X51_init p11 x13 x14 h12) (fun _ h15 => lsAdd x10 p11 h15 fun h16 => ldR 47 374 k h16 fun x17 => ivOf (0 : Int32) h16 fun x18 h19 => lsAdd x17 x18 h19 fun h20 => rok () h20) else none)) else none) else f_X48_member_b221 e.Q k tA p (sR hm3 390 p n')) = rex h5' := by
      split
      · rw [m46_e q4, mgone_e q4 (by decide) (by decide) rfl, if_neg (fun z => by have := z.1; omega), if_pos y00]; exact e5
      · exact e5
    exact .inr ⟨P, hx3, rfl, (C.xxZ W2.1.1 s3).le (by omega), f3, .inl ⟨h5', eM, (C.trZ ((C.mmZ W2.1.2.1 t3).cat s4 (fun _ z => z) hZp) s5).le (by omega), f5⟩⟩
  have W3 := W2.tr C s3 t3 p3 q3
  have W4 := W3.chM C M0 s4 (hz kp3)
  have Cu4 := W4.cur Cu
  have kP3 := (W4.1.cl C).2.1
  have ht3 : TyE e hx3 n T := TyE_st p1 s3 ⟨Tn, nt⟩
  have hs3 : StrX hx3 (fr hx1 154 e.t) (tk e.TS j).2.2.1 := StrX_st p1 s3 wd1
  have Mm4 := MeP_m Mp4 tm4 to4
  rw [e3, wd_e Cu4.1 h4 h5 hwd, md_e Cu4.2 h3 hform]
  generalize sR hm3 390 p n' = hm4 at *
  by_cases cf : wd = 0 ∧ d.1 = 1
  case neg =>
    rw [if_neg cf, if_neg cf]
    unfold f_X11_member_b141 f_X11_member_b142
    rw [if_pos y00]
    rcases sig_pair (tA := tA) C M0 wA Cu hl hbx hbm Bb qA hp0 W4 ht3 hs3 h4 h5 Mm4 kt4 ft4 with r | r
    · exact .inl (MDon_le r (by omega) (by omega) (by omega))
    · exact .inr (r.le (by omega) (by omega))
  rw [if_pos cf, if_pos cf]
  unfold f_X11_member_b142
  rw [if_neg z10, xt12_e kP3 p3, x10_e p3, m46_e q4, mgone_e q4 (by decide) (by decide) rfl]
  by_cases c2 : isX (tk e.TS (j + 1)) (codes (cStr.getD (18 - 1) ""))
  case neg =>
    rw [xaccN p3 (by decide) (by decide) rfl c2, if_neg (fun z => c2 ((isX_S p3.V w18).mpr z)), if_pos y00, if_pos y00]
    rcases sig_pair (tA := tA) C M0 wA Cu hl hbx hbm Bb qA hp0 W4 ht3 hs3 h4 h5 Mm4 kt4 ft4 with r | r
    · exact .inl (MDon_le r (by omega) (by omega) (by omega))
    · exact .inr (r.le (by omega) (by omega))
  have d2 := (isX_S p3.V w18).mp c2
  rw [xaccY p3 (by decide) (by decide) rfl c2, if_pos d2]
  have q5 := (mfwd_s q4 (go_of d2)).2
  have hj5 := q5.jj.1
  have t5 : MS e 0 hm4 (fwd e hm4 (j + 1)) := MS.Q (mfwd_s q4 (go_of d2)).1
  have Z5 : FxM (Fb bm (nx hm4)) [132] hm4 (fwd e hm4 (j + 1)) := MS.fxm q4 C.1 t5 (by decide)
  have kp5 : kc (fwd e hm4 (j + 1)) p = 50 := kp4
  have n5' : nx hm4 ≤ nx (fwd e hm4 (j + 1)) := t5.2.1
  have b389 : fr (fwd e hm4 (j + 1)) 389 p = fr hm4 389 p := (Z5.ob kp4 (by decide) (by decide)).2.2.2.2.1 389
  have b390 : fr (fwd e hm4 (j + 1)) 390 p = fr hm4 390 p := (Z5.ob kp4 (by decide) (by decide)).2.2.2.2.1 390
  have tm5 : TyM (fwd e hm4 (j + 1)) (fr (fwd e hm4 (j + 1)) 389 p) T := by rw [b389]; exact TyM_fx Z5 tm4
  have to5 : ToM (fwd e hm4 (j + 1)) (fr (fwd e hm4 (j + 1)) 390 p) ((tk e.TS j).2.2.1, (tk e.TS j).2.1) := by rw [b390]; exact ToM_fx Z5 to4
  rcases adv p3 q4 (go_of d2) with ⟨hx5, e5, s5, p5, _, _⟩ | ⟨hx5, P, e5, s5, f5, n5, _⟩
  · have W5 := W4.tr C s5 t5 p5 q5
    rw [e5, if_neg z10, if_neg z10]
    exact .inl (fld_pair C M0 Cu hl hbx hbm Bb W5 (by omega) (by omega) (by omega) (TyE_st p3 s5 ht3) (StrX_st p3 s5 hs3) kp5 tm5 to5 (fun z => (V1.2.2.1 c).1 (PWK _ z)))
  · have N5 := PN_at n5 q5
    have K5 := KdM_up (G := Fb bm (nx (fwd e hm4 (j + 1)))) (MS.fxm q4 C.1 t5 (by decide)) Cu4.2 (fun l z => Fb_m z n5')
    obtain ⟨hm6, e6, s6, q6, F1, F2⟩ := fldM q5 (t5.2.kk (W4.1.cl C).2.2 (by decide)) K5 hl kp5 tm5 to5
    rw [e5, if_neg z10, e6]
    exact .inr ((Dq.end' C W4.1 s5 f5 t5 s6 (fun x hx => by
      rcases List.mem_cons.mp hx with z | z
      · rw [z]; exact Bb.2 _ F1.1
      · rw [List.mem_singleton.mp z]; exact Bb.2 _ F2.1) (⟨_, _, _, _, q6, N5.1, N5.2, Nat.le_refl _⟩ : PN e hm6 P ([] : List It).length)).le (by omega) (by omega))
