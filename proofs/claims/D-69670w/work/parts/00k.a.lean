/-! PHASE B declarations 26: both begin a declaration -/
set_option maxRecDepth 100000
variable {e : EE} {Zx Zm : List Nat} {hx hm h h1 h2 h' hx0 hm0 hxA hmA : HP} {i j a b k X Y bx bm l1 l2 l3 : Nat} {IT : List It} {TY : List Ty} {QU : List (List Nat)} {F G : Nat → Prop} {KL : List Nat} {d : DC} {TY' : List Ty} {QU' : List (List Nat)} {num : Nat × Nat}
theorem begin_e {a0 a1 : Nat} {a2 : Int32} {h : HP} : f_X11_begin a0 a1 a2 h = (ldR 12 156 a0 h fun x1 => ldI 10 152 x1 h fun x2 => ldR 12 156 a0 h fun x3 => if kc h x3 = 10 then bd (f_X9_name x3 h) (fun x4 h5 => bgX a0 a1 a2 x2 x4 h5) else none) := rfl
noncomputable def nmM (Q k : Nat) (KM : HP → Rs Nat) (h : HP) : Rs Nat := if kc h Q = 46 then bd (f_X48_name Q h) (fun x4 h5 => ldR 45 353 x4 h5 fun x6 => stR 47 365 k x6 h5 fun h7 => ldI 45 354 x4 h7 fun x8 => stI 47 366 k x8 h7 fun h9 => KM h9) else none
theorem bg_pair {K kl DL n form ab : Nat} {KX : Nat → HP → Rs Unit} {KM : HP → Rs Nat} (C : Dc e Zx Zm hx0 hm0) (S : Dq e Zx Zm hx0 hm0 X Y hx hm i TY QU []) (A : DlX e hx K kl DL n) (hn : n ≤ 60) (hab : ab ≤ 1) (hf : 1 ≤ form ∧ form ≤ 4) (hZ : kl ∈ Zx ∧ DL ∈ Zx) (k0 : k ∈ Zm ∨ kc hm0 k = 0) (Kd : KdP (Fb bm (nx hm)) hm k (10 + n)) (f363 : fi hm 363 k = nI form) (f364 : fi hm 364 k = nI ab)
    (hK : ∀ P h', PM e h' (i + 1) [] TY QU → (tk e.TS (i + 1)).1 = 9 ∧ (tk e.TS (i + 1)).2.1 = P → kc h' k = 47 → fi h' 363 k = nI form → ∃ h5, KM h' = rex h5 ∧ St [] [e.tr] 1 h' h5 ∧ StopM e h5 P) :
    (∃ a bx hx' hm', bd (f_X11_begin e.P (900 + srt form) (nI (if form = 2 then 1 else ab)) hx) KX = KX a hx' ∧ nmM e.Q k KM hm = KM hm' ∧ (nx hx0 ≤ bx ∧ nx hx ≤ bx) ∧ Dq e Zx Zm hx0 hm0 (X + 110) (Y + 1) hx' hm' (i + 1) TY QU [] ∧ Cur e bx bm hx' hm' a k (10 + n, fr hx' 163 a) (form, ((tk e.TS i).2.2.1, (tk e.TS i).2.1), ab, none, [], [], []) ∧ DlX e hx' K kl DL (n + 1) ∧ ls hx' DL = ls hx DL ++ [a] ∧ ls hx' kl = ls hx kl ++ [fr hx' 163 a] ∧ (tk e.TS i).1 = 1 ∧ bx ≤ a) ∨
    DFx e Zx Zm hx0 hm0 (X + 88 * (e.TS.length - i)) (Y + 88 * (e.TS.length - i)) (bd (f_X11_begin e.P (900 + srt form) (nI (if form = 2 then 1 else ab)) hx) KX) (nmM e.Q k KM hm) := by
  have p := S.2.2.1.1
  have q := S.2.2.2
  obtain ⟨cl, kP, nl⟩ := S.cl C
  have hi := q.jj.1
  have V := p.V
  rw [begin_e, xt12_e kP p, xplc_e p, xt12_e kP p, x10_e p]
  unfold nmM
  rw [m46_e q]
  by_cases c : (tk e.TS i).1 = 1
  case neg =>
    obtain ⟨hx7, e7, s7, f7⟩ := xnameN p c
    obtain ⟨hm7, e8, s8, f8⟩ := mnameN q c
    rw [e7, e8, bd_ex]
    exact .inr ⟨_, hx7, hm7, rfl, (C.xxZ S.1 (XS.tok p s7)).le (by omega), f7, rfl, (C.trZ S.2.1 s8).le (by omega), f8⟩
  obtain ⟨n', hm1, g1, t1, To, n0', q1, r⟩ := nam p q c
  have wd := p.wrd
  have hj1 := q1.jj.1
  have nm1 : nx hm ≤ nx hm1 := t1.2.1
  have Z1 : FxM (Fb bm (nx hm)) [139, 138, 137, 136, 135, 134] hm hm1 := MS.fxm q C.1 t1 (by decide)
  have Kd1 := KdP_wk (e := e) (G := Fb bm (nx hm1)) (fun l z => Fb_m z nm1) (KdP_fx (e := e) Z1 (fun _ z => z) Kd)
  have kk1 : kc hm1 k = 47 := Kd1.1
  have E1 := Z1.ob Kd.1 (by decide) (by decide)
  have s3 : St [] [k] 0 hm1 (sI (sR hm1 365 k (fr hm1 353 n')) 366 k (nI (tk e.TS i).2.1)) := ((St.refl q1.1 [] [k]).sR kk1 (by decide) (.inr (.inr (by simp)))).sI kk1 (by decide) (.inr (.inr (by simp)))
  have Kd3 : KdP (Fb bm (nx hm1)) (sI (sR hm1 365 k (fr hm1 353 n')) 366 k (nI (tk e.TS i).2.1)) k (10 + n) := KdP_wI (KdP_wR Kd1) (by omega)
  have F3 : Fr (fun k => decide (k ≠ 47)) hm1 (sI (sR hm1 365 k (fr hm1 353 n')) 366 k (nI (tk e.TS i).2.1)) := s3.fx.fr (fun x hx => by rw [List.mem_singleton.mp hx, kk1]; decide)
  have q3 := q1.dec s3.1 s3.fx (fun x hx => by rw [List.mem_singleton.mp hx, kk1]; decide) (t1.2.kk nl (by decide))
  have v363 : fi (sI (sR hm1 365 k (fr hm1 353 n')) 366 k (nI (tk e.TS i).2.1)) 363 k = nI form := by
    rw [fi_sI, if_neg (fun y => absurd y.1 (by decide))]; exact (E1.2.2.1 363).trans f363
  have v364 : fi (sI (sR hm1 365 k (fr hm1 353 n')) 366 k (nI (tk e.TS i).2.1)) 364 k = nI ab := by
    rw [fi_sI, if_neg (fun y => absurd y.1 (by decide))]; exact (E1.2.2.1 364).trans f364
  have v366 : fi (sI (sR hm1 365 k (fr hm1 353 n')) 366 k (nI (tk e.TS i).2.1)) 366 k = nI (tk e.TS i).2.1 := by rw [fi_sI, if_pos ⟨rfl, rfl⟩]
  have v365 : StrX (sI (sR hm1 365 k (fr hm1 353 n')) 366 k (nI (tk e.TS i).2.1)) (fr (sI (sR hm1 365 k (fr hm1 353 n')) 366 k (nI (tk e.TS i).2.1)) 365 k) (tk e.TS i).2.2.1 := by
    rw [show fr (sI (sR hm1 365 k (fr hm1 353 n')) 366 k (nI (tk e.TS i).2.1)) 365 k = fr hm1 353 n' from by
      show fr (sR hm1 365 k (fr hm1 353 n')) 365 k = _
      rw [fr_sR, if_pos ⟨rfl, rfl⟩]]
    exact StrX_fr F3 To.2.1 (by decide)
  have kk3 : kc (sI (sR hm1 365 k (fr hm1 353 n')) 366 k (nI (tk e.TS i).2.1)) k = 47 := kk1
  have KM3 := KdM_of Kd3 v363 v364 v365 v366
  have eM : ∀ (K : HP → Rs Nat), (ldR 45 353 n' hm1 fun x6 => stR 47 365 k x6 hm1 fun h7 => ldI 45 354 n' h7 fun x8 => stI 47 366 k x8 h7 fun h9 => K h9) = K (sI (sR hm1 365 k (fr hm1 353 n')) 366 k (nI (tk e.TS i).2.1)) := fun K => by
    rw [ldR_e To.1, stR_e kk1, ldI_e (show kc (sR hm1 365 k (fr hm1 353 n')) n' = 45 from To.1), show fi (sR hm1 365 k (fr hm1 353 n')) 354 n' = nI (tk e.TS i).2.1 from To.2.2, stI_e (show kc (sR hm1 365 k (fr hm1 353 n')) k = 47 from kk1)]
  have n3' : nx (sI (sR hm1 365 k (fr hm1 353 n')) 366 k (nI (tk e.TS i).2.1)) = nx hm1 := rfl
  rw [xnameY p c, g1, eM]
  rw [← n3'] at KM3
  have Sm : St [] Zm (Y + 1 + 0) hm0 (sI (sR hm1 365 k (fr hm1 353 n')) 366 k (nI (tk e.TS i).2.1)) := (C.mmZ S.2.1 t1).cat s3 (fun _ z => z) (fun x hx => (by rw [List.mem_singleton.mp hx]; exact Or.imp id Or.inl k0))
  generalize sI (sR hm1 365 k (fr hm1 353 n')) 366 k (nI (tk e.TS i).2.1) = hm3 at *
  rcases r with ⟨hx1, e1, s1, p1⟩ | ⟨hx1, P, e1, s1, f1, n1⟩
  case inr =>
    obtain ⟨h5, e5, s5, f5⟩ := hK P hm3 q3 (PN_at n1 q1) kk3 v363
    rw [e1, bd_ex, e5]
    exact .inr ⟨P, hx1, h5, rfl, (C.xxZ S.1 s1).le (by omega), f1, rfl, (C.trZ Sm s5).le (by omega), f5⟩
  have cl1 : kc hx1 e.cl = 129 := s1.1.2.kk cl (by decide)
  have kP1 : kc hx1 e.P = 12 := s1.1.2.kk kP (by decide)
  have Z2 : FxX e (Fb 0 0) [120, 108] hx hx1 := XS.fxx p s1 (by decide)
  have Fx0 := p.fr0 s1.1
  obtain ⟨f161, kK, f30, kkl, ckl, lkl, f162, kDL, cDL, lDL⟩ := A
  have EP := Fx0.at kP (by decide) (by decide)
  have EK := Fx0.at kK (by decide) (by decide)
  have El := Fx0.at kkl (by decide) (by decide)
  have ED := Fx0.at kDL (by decide) (by decide)
  have A1 : DlX e hx1 K kl DL n := ⟨(EP.2.2.2.2.1 161).trans f161, EK.1, (EK.2.2.2.2.1 30).trans f30, El.1, by rw [El.2.2.2.2.2.2.2.2.2.2]; exact ckl, by rw [El.2.2.2.2.2.2.2.2.1]; exact lkl, (EP.2.2.2.2.1 162).trans f162, ED.1, by rw [ED.2.2.2.2.2.2.2.2.2.2]; exact cDL, by rw [ED.2.2.2.2.2.2.2.2.1]; exact lDL⟩
  have lw : (tk e.TS i).2.2.1.length ≤ 100 := V.2.2.2.1
  obtain ⟨a, hx2, e2, s2, p2, kq, A2', l1, l2, a0, D⟩ := begin_x (form := form) (ab := ab) (at' := (tk e.TS i).2.1) p1 cl1 kP1 A1 hn (StrX_fr Fx0 wd (by decide)) lw hab hf (fun z => (V.2.2.1 c).1 (PWK _ z))
  rw [e1, e2, bd_ok]
  have S1 : Dq e Zx Zm hx0 hm0 (X + 20) (Y + 1 + 0) hx1 hm3 (i + 1) TY QU [] := ⟨C.xxZ S.1 s1, Sm, ⟨p1, S.2.2.1.2.trans (XS.kq p s1)⟩, q3⟩
  have S2 := S1.chX s2 (fun x hx => by
    rcases List.mem_cons.mp hx with z | z
    · rw [z]; exact .inl hZ.1
    · rw [List.mem_singleton.mp z]; exact .inl hZ.2) p2 kq
  exact .inl ⟨a, nx hx1, hx2, hm3, rfl, rfl, ⟨S1.1.2.1, s1.nx⟩, ⟨S2.1.le (by omega), S2.2.1.le (by omega), S2.2.2⟩, ⟨D, KM3⟩, A2', by rw [l1, ED.2.2.2.2.2.2.2.2.1], by rw [l2, El.2.2.2.2.2.2.2.2.1], c, a0.2⟩
