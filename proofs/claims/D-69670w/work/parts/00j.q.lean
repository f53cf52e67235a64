/-! PHASE B declarations 16: the end of a method -/
set_option maxRecDepth 100000
variable {e : EE} {Zx Zm : List Nat} {hx hm h h1 h2 h' hx0 hm0 hxA hmA : HP} {i j a b k X Y bx bm l1 l2 l3 : Nat} {IT : List It} {TY : List Ty} {QU : List (List Nat)} {F G : Nat → Prop} {KL : List Nat} {d : DC} {TY' : List Ty} {QU' : List (List Nat)} {num : Nat × Nat}
theorem go_w {w : List Nat} {T : Tk} (c : isW T w) : tkGo T := ⟨by have := c.1; omega, by have := c.1; omega⟩
noncomputable def tlK (a0 a1 : Nat) (a3 a4 a5 : Int32) (a7 : Nat) (a8 : Int32) (a9 a11 a12 a13 : Nat) (x16 : Int32) (x19 : Nat) (h20 : HP) : Rs Nat :=
  ldR 12 156 a0 h20 fun x21 =>
  if kc h20 x21 = 10 then
  bd (f_X9_expect x21 18 h20) (fun _ h22 =>
  ldR 12 156 a0 h22 fun x23 =>
  if kc h22 x23 = 10 then
  bd (f_X9_expect x23 76 h22) (fun _ h24 =>
  f_X11_member_b423  a1 a3 a4 a5 a7 a8 a9 a11 a12 a13 x16 x19 h24)
  else none)
  else none
noncomputable def tlM (Q k p : Nat) (h15 : HP) : Rs Unit := if kc h15 Q = 46 then bd (f_X48_sign Q 18 h15) (fun _ h16 => if kc h16 Q = 46 then bd (f_X48_sign Q 76 h16) (fun _ h17 => f_X48_member_b413 k p h17) else none) else none
theorem b341_e {a0 a1 a4 : Nat} {h : HP} : f_X48_member_b341 a0 a1 a4 h = (if kc h a0 = 46 then bd (f_X48_sign a0 10 h) (fun _ h1 => if kc h1 a0 = 46 then bd (f_X48_gone a0 18 h1) (fun x2 h3 => if x2 = 0 then (if kc h3 a0 = 46 then bd (f_X48_sign a0 72 h3) (fun _ h4 => if kc h4 a0 = 46 then bd (f_X48_token a0 h4) (fun x5 h6 => ldI 44 350 x5 h6 fun x7 => stI 50 393 a4 x7 h6 fun h8 => if kc h8 a0 = 46 then bd (f_X48_key a0 66 h8) (fun _ h9 => boM a0 a4 (tlM a0 a1 a4) h9) else none) else none) else none) else f_X48_member_b413 a1 a4 h3) else none) else none) := rfl
theorem TyE_st {t : Nat} {T : Ty} (p : PX e h i TY QU) (s : XS e a h h') (x : TyE e h t T) : TyE e h' t T := TyE_fx (XS.fxx (F := Fb 0 0) (KL := []) p s (by decide)) x
theorem StrX_st {t : Nat} {s0 : List Nat} (p : PX e h i TY QU) (s : XS e a h h') (x : StrX h t s0) : StrX h' t s0 := StrX_fx (XS.fxx (F := Fb 0 0) (KL := []) p s (by decide)) x
/-- the component behind the parameters -/
noncomputable def tlX (a0 a1 : Nat) (a3 a4 a5 : Int32) (a7 : Nat) (a8 : Int32) (a9 a11 a12 a13 : Nat) (h7 : HP) : Rs Nat :=
  ldR 12 156 a0 h7 fun x8 =>
  if kc h7 x8 = 10 then
  bd (f_X9_expect x8 10 h7) (fun _ h9 =>
  ldR 12 156 a0 h9 fun x10 =>
  if kc h9 x10 = 10 then
  bd (f_X9_accept x10 18 h9) (fun x11 h12 =>
  if x11 = 0 then
  (ldR 12 156 a0 h12 fun x13 =>
  if kc h12 x13 = 10 then
  bd (f_X9_expect x13 72 h12) (fun _ h14 =>
  ldR 12 156 a0 h14 fun x15 =>
  ldI 10 152 x15 h14 fun x16 =>
  ldR 12 156 a0 h14 fun x17 =>
  if kc h14 x17 = 10 then
  bd (f_X9_expect x17 66 h14) (fun _ h18 =>
  if kc h18 a0 ∈ [12] then
  bd (f_X10_expression 520 a0 (1 : Int32) h18) (fun x19 h20 => tlK a0 a1 a3 a4 a5 a7 a8 a9 a11 a12 a13 x16 x19 h20)
  else none)
  else none)
  else none)
  else
  (f_X11_member_b423  a1 a3 a4 a5 a7 a8 a9 a11 a12 a13 (-1 : Int32) 0 h12))
  else none)
  else none
/-- what both have when a method is read -/
def MDone (e : EE) (Zx Zm : List Nat) (hx0 hm0 hxA hmA : HP) (bx bm X Y : Nat) (a k : Nat) (num : Nat × Nat) (d : DC) (i : Nat) (T : Ty) (nm : Td) (wd pl : Nat) (vs : List Vr) (QU0 : List (List Nat)) (rX : Rs Nat) (rM : Rs Unit) : Prop :=
  ∃ x hx' hm' j b TY' QU' nA, rX = rok x hx' ∧ rM = rok () hm' ∧ i < j ∧ Dq e Zx Zm hx0 hm0 (X + 88 * (j - i) + 30 * vs.length) (Y + 88 * (j - i)) hx' hm' j TY' QU' [] ∧ DX e (Fb bx nA) hx' a num d ∧ KdM (Fb bm (nx hm')) hm' k num.1 (addB d [((T, nm), some (wd, pl, vs, b))]) ∧
    kc hx' x = 15 ∧ fr hx' 177 x ≠ 0 ∧ MbX e (Fb nA (nx hx')) hx' x (fr hx' 163 a) ((T, nm), some (wd, pl, vs, b)) ∧ bx ≤ nA ∧ nA ≤ nx hx'
/-- both make the method -/
theorem fin_pair {p t7 s9 wd pl np n16 : Nat} {a4 a5 v15 : Int32} {T : Ty} {nm : List Nat} {vs : List Vr} {body : Option Bd} (C : Dc e Zx Zm hx0 hm0) (M0 : Mb0 hx0 hm0 hxA hmA) (wA : WG hxA) (Cu : Cur e bx bm hxA hmA a k num d) (hl : d.2.2.2.2.2.1.length ≤ 300) (hbx : bx ≤ nx hxA) (hbm : bm ≤ nx hmA) (Bb : Bx Zx Zm hx0 hm0 bx bm)
    {i0 : Nat} {QU0 : List (List Nat)} {X0 Y0 : Nat} (W : Mw e Zx Zm hx0 hm0 hxA hmA bx bm X Y hx hm i TY QU []) (hi0 : i0 < i) (hX : X + 12 ≤ X0 + 88 * (i - i0)) (hY : Y + 21 ≤ Y0 + 88 * (i - i0)) (h8 : vs.length ≤ 8) (ht : TyE e hx t7 T) (hs : StrX hx s9 nm) (h4 : a4 = if wd = 1 then 1 else 0) (h5 : a5 = if wd = 2 then 1 else 0) (hb : BdA e (Fb (nx hxA) (nx hx)) hx v15 n16 body) (Mx : MhV e G hx l1 l2 l3 vs) (Mm : MeM (Fb (nx hmA) (nx hm)) hm p k ((T, (nm, np)), (wd, pl, vs, body))) :
    MDone e Zx Zm hx0 hm0 hxA hmA bx bm X0 Y0 a k num d i0 T (nm, np) wd pl vs QU0 (f_X11_member_b423 a (nI pl) a4 a5 t7 (nI np) s9 l1 l2 l3 v15 n16 hx) (f_X48_member_b413 k p hm) := by
  have S := W.1
  have Cu1 := W.cur Cu
  obtain ⟨x, hx', e1, s1, p1, k1, z1, f1, MB⟩ := mth_new S.2.2.1.1 (S.cl C).1 Cu1.1.1 (pl := pl) (np := np) h8 ht hs h4 h5 hb Mx
  obtain ⟨hm', e2, s2, q2, K2, F1, F2, n2⟩ := metM_add S.2.2.2 (S.cl C).2.2 Cu1.2 hl (MeM_wk (e := e) (fun l z => ⟨by have := z.1; omega, z.2⟩) Mm)
  have n1 : nx hx ≤ nx hx' := s1.2.1
  have Z1 : FxX e (Fb bx (nx hx)) ALLX hx hx' := FxX.nw S.2.2.1.1 s1
  have D1 := DX_up (G := Fb bx (nx hxA)) (Z1.wk (fun l z => Fb_m z W.2.2.2.1) (fun _ z => z)) (DX_up (G := Fb bx (nx hxA)) W.2.1 Cu.1 (fun l z => z)) (fun l z => z)
  have e163 : fr hx' 163 a = fr hx 163 a := (Z1.ob Cu1.1.1 (by decide) (by decide)).2.2.2.2.1 163
  have S2 := (S.chX s1 (by simp) p1 (S.2.2.1.1.keep (Z := []) s1.fx (by simp))).chM s2 (fun x hx => by
    rcases List.mem_cons.mp hx with z | z
    · rw [z]; exact Bb.2 _ F1.1
    · rw [List.mem_singleton.mp z]; exact Bb.2 _ F2.1) q2
  refine ⟨x, hx', hm', i, body, TY, QU, nx hxA, e1, e2, hi0, ⟨S2.1.le (by omega), S2.2.1.le (by omega), S2.2.2⟩, D1, K2, k1, f1, ?_, hbx, Nat.le_trans W.2.2.2.1 n1⟩
  rw [e163]; exact MB (nx hxA) W.2.2.2.1 (fun q z => z)
/-- the component has failed onto no token; the twin makes the method and is there -/
theorem fin_none {P p : Nat} {v : Vr × Mt} {hmF : HP} (C : Dc e Zx Zm hx0 hm0) (Bb : Bx Zx Zm hx0 hm0 bx bm) (S : Dq e Zx Zm hx0 hm0 X Y hx hm i TY QU IT) {hx' : HP} (s1 : XS e a hx hx') (f1 : StopX e hx' P) (t : MS e b hm hmF) (q2 : PM e hmF j [] TY' QU') (n : PN e hmF P 0) (x : KdM (Fb bm (nx hmF)) hmF k num.1 d) (hl : d.2.2.2.2.2.1.length ≤ 300) (Mm : MeM (Fb bm (nx hmF)) hmF p k v) : DF e Zx Zm hx0 hm0 (X + a) (Y + b + 21) (rex hx' : Rs Nat) (f_X48_member_b413 k p hmF) := by
  obtain ⟨hm', e2, s2, q3, K2, F1, F2, n2⟩ := metM_add q2 (t.2.kk (S.cl C).2.2 (by decide)) x hl Mm
  rw [e2]
  have N := PN_at n q2
  exact Dq.end' C S s1 f1 t s2 (fun x hx => by
    rcases List.mem_cons.mp hx with z | z
    · rw [z]; exact Bb.2 _ F1.1
    · rw [List.mem_singleton.mp z]; exact Bb.2 _ F2.1) (⟨_, _, _, _, q3, N.1, N.2, Nat.le_refl _⟩ : PN e hm' P ([] : List It).length)
theorem boM_e {p : Nat} {KM : HP → Rs Unit} (q0 : PM e hm i [] TY QU) (nl : kc hm e.nl = 168) (kp : kc hm p = 50) : ∃ h4, boM e.Q p KM hm = bd (f_X48_expression_2 520 e.Q (1 : Int32) h4) (fun _ h15 => KM h15) ∧ St [] [p, e.Q] 2 hm h4 ∧ PM (e.wil (nx hm)) h4 i [] TY QU := by
  have zl : kc hm (nx hm) = 0 := q0.1.new
  have k1 : kc (nC hm 133 3) (nx hm) = 133 := kc_nC_n
  have c1 : cp (nC hm 133 3) (nx hm) = RAW := by rw [cp_nC, if_pos rfl]
  have s2 : St [] [] (0 + 1 + 1) hm (sLc (nC hm 133 3) (nx hm) [] 0 0 0) := ((St.refl q0.1 [] []).nC (b := 1) (by omega) (by omega)).sLc k1 (by decide) (.inl zl) (by omega) (by omega)
  have kp2 : kc (sLc (nC hm 133 3) (nx hm) [] 0 0 0) p = 50 := s2.2.kk kp (by decide)
  have s3 : St [] [p] (0 + 1 + 1) hm (sR (sLc (nC hm 133 3) (nx hm) [] 0 0 0) 392 p (nx hm)) := (s2.wk (X2 := [p]) (fun _ z => z) (fun x hx => by simp at hx) (Nat.le_refl _)).sR kp2 (by decide) (.inr (.inr (by simp)))
  have q3 := q0.dec s3.1 s3.fx (fun x hx => by rw [List.mem_singleton.mp hx, kp]; decide) nl
  have kl : kc (sR (sLc (nC hm 133 3) (nx hm) [] 0 0 0) 392 p (nx hm)) (nx hm) = 133 := k1
  have cl : cp (sR (sLc (nC hm 133 3) (nx hm) [] 0 0 0) 392 p (nx hm)) (nx hm) ≠ RAW := by
    show cp (sLc (nC hm 133 3) (nx hm) [] 0 0 0) (nx hm) ≠ RAW
    rw [cp_sLc, if_pos rfl]; decide
  have ll : ls (sR (sLc (nC hm 133 3) (nx hm) [] 0 0 0) 392 p (nx hm)) (nx hm) = [] := by
    show ls (sLc (nC hm 133 3) (nx hm) [] 0 0 0) (nx hm) = []
    rw [ls_sLc, if_pos rfl]
  obtain ⟨s4, q4⟩ := q3.il kl cl ll
  have r392 : fr (sR (sLc (nC hm 133 3) (nx hm) [] 0 0 0) 392 p (nx hm)) 392 p = nx hm := by rw [fr_sR, if_pos ⟨rfl, rfl⟩]
  have kp3 : kc (sR (sLc (nC hm 133 3) (nx hm) [] 0 0 0) 392 p (nx hm)) p = 50 := kp2
  have lr : lrK (nC hm 133 3) (nx hm) := ⟨by rw [k1]; decide, by rw [k1]; decide, c1⟩
  have kq4 : kc (sR (sR (sLc (nC hm 133 3) (nx hm) [] 0 0 0) 392 p (nx hm)) 359 e.Q (nx hm)) e.Q = 46 := q4.kQ
  refine ⟨_, ?_, ((s3.wk (X2 := [p, e.Q]) (fun _ z => z) (fun x hx => .inl (by rw [List.mem_singleton.mp hx]; simp)) (Nat.le_refl _)).cat s4 (fun _ z => z) (fun x hx => .inl (by rw [List.mem_singleton.mp hx]; simp))).le (by omega), q4⟩
  unfold boM
  rw [nwC_e, lsInit_e lr, stR_e kp2, ldR_e kp3, r392, m46_e q3]
  unfold f_X48_expression
  rw [stR_e q3.kQ, if_pos kq4, bd_u]
/-- the component has failed onto no token; the twin begins the body there, and fails -/
theorem bdy_none {P p : Nat} {KM : HP → Rs Unit} {hx' : HP} (C : Dc e Zx Zm hx0 hm0) (sx : St [] Zx X hx0 hx') (f1 : StopX e hx' P) (sm : St [] Zm Y hm0 hm) (q0 : PM e hm i [] TY QU) (n : PN e hm P 0) (nl : kc hm e.nl = 168) (kp : kc hm p = 50) (hp0 : kc hm0 p = 0) (hK : ∀ P N il h', PN (e.wil il) h' P N → MF (e.wil il) h' P 0 1 (KM h')) : DF e Zx Zm hx0 hm0 X (Y + 2 + (1 + 1)) (rex hx' : Rs Nat) (boM e.Q p KM hm) := by
  obtain ⟨h4, e4, s4, q4⟩ := boM_e (KM := KM) q0 nl kp
  have N := PN_at n q0
  have n4 : PN (e.wil (nx hm)) h4 P 0 := ⟨_, _, _, _, q4, N.1, N.2, Nat.le_refl _⟩
  have M : MF (e.wil (nx hm)) h4 P 0 (1 + 1) (bd (f_X48_expression_2 520 e.Q (1 : Int32) h4) (fun _ h15 => KM h15)) := MF.bd (vExp (m := 505) (d := 1) n4 (Nat.le_refl _)) (fun v h5 n5 => hK P _ (nx hm) h5 n5)
  rw [e4]
  have zl : kc hm0 (nx hm) = 0 := (C.2.2.1.2.1 _ sm.2.1).1
  have s5 : St [] Zm (Y + 2) hm0 h4 := sm.cat s4 (fun _ z => z) (fun x hx => by
    rcases List.mem_cons.mp hx with y | y
    · rw [y]; exact .inr (.inl hp0)
    · rcases C.2.2.2.2.2.2.2 x (by rw [List.mem_singleton.mp y]; simp) with z | z
      · exact .inl z
      · exact .inr (.inl z))
  have mmZ : ∀ {hB : HP} {c : Nat}, MS (e.wil (nx hm)) c h4 hB → St [] Zm (Y + 2 + c) hm0 hB := fun t => s5.cat t (fun _ z => z) (fun x hx => by
    rcases wil_mm hx with y | y
    · rw [y]; exact .inr (.inl zl)
    · rcases C.2.2.2.2.2.2.2 x y with z | z
      · exact .inl z
      · exact .inr (.inl z))
  refine ⟨P, hx', rfl, sx, f1, ?_⟩
  rcases M with ⟨h5, a1, a2, a3⟩ | ⟨v, h5, a1, a2, a3⟩
  · exact .inl ⟨h5, a1, mmZ a2, a3⟩
  · exact .inr ⟨v, h5, nx hm, 0, a1, mmZ a2, a3, zl⟩
