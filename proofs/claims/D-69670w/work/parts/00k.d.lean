/-! PHASE B declarations 29: a class's extends, faces, body -/
set_option maxRecDepth 100000
variable {e : EE} {Zx Zm : List Nat} {hx hm h h1 h2 h' hx0 hm0 hxA hmA : HP} {i j a b k X Y bx bm l1 l2 l3 : Nat} {IT : List It} {TY : List Ty} {QU : List (List Nat)} {F G : Nat → Prop} {KL : List Nat} {d : DC} {TY' : List Ty} {QU' : List (List Nat)} {num : Nat × Nat}
theorem KdM_ext {fm ab n' : Nat} {nm t : Td} (w : WG h) (D : KdM F h k num.1 (fm, nm, ab, none, [], [], [])) (To : ToM h n' t) : KdM F (sR h 369 k n') k num.1 (fm, nm, ab, some t, [], [], []) := by
  obtain ⟨k0, m0, m1, m2, m3, m4, m5, m6, m7, m8, m9, ma, mb, mc, md, me, mf, mg, mh⟩ := D
  have s : St [] [k] 0 h (sR h 369 k n') := (St.refl w [] [k]).sR k0 (by decide) (.inr (.inr (by simp)))
  have Fz : Fr (fun k => decide (k ≠ 47)) h (sR h 369 k n') := s.fx.fr (fun x hx => by rw [List.mem_singleton.mp hx, k0]; decide)
  have g : ∀ f, f ≠ 369 → fr (sR h 369 k n') f k = fr h f k := fun f hf => by rw [fr_sR, if_neg (fun y => hf y.1)]
  refine ⟨k0, m0, m1, m2, ?_, m4, m5, m6, ?_, ?_, ?_, ?_, ?_, ?_, (g _ (by decide)).trans md, ?_, (g _ (by decide)).trans mf, mg, (g _ (by decide)).trans mh⟩
  · rw [g _ (by decide)]; exact StrX_fr Fz m3 (by decide)
  · show ToM (sR h 369 k n') (fr (sR h 369 k n') 369 k) t
    rw [show fr (sR h 369 k n') 369 k = n' by rw [fr_sR, if_pos ⟨rfl, rfl⟩]]
    exact ToM_fr Fz To (by decide) (by decide)
  · rw [g _ (by decide)]; exact m8.nilc rfl rfl rfl
  · rw [g _ (by decide)]; exact m9.nilc rfl rfl rfl
  · rw [g _ (by decide)]; exact ma.nilc rfl rfl rfl
  · rw [g _ (by decide)]; exact mb.nilc rfl rfl rfl
  · rw [g _ (by decide)]; exact mc.nilc rfl rfl rfl
  · rw [g _ (by decide)]; exact me.nilc rfl rfl rfl
noncomputable def exX (a0 x15 : Nat) (h16 : HP) : Rs Unit :=
  ldR 12 156 a0 h16 fun x17 =>
  if kc h16 x17 = 10 then
  bd (f_X9_accept x17 50 h16) (fun x18 h19 =>
  if x18 = 0 then
  (f_X11_declaration_b186  a0 x15 h19)
  else
  (ldR 12 156 a0 h19 fun x20 =>
  ldI 10 152 x20 h19 fun x21 =>
  stI 13 165 x15 x21 h19 fun h22 =>
  ldR 12 156 a0 h22 fun x23 =>
  if kc h22 x23 = 10 then
  bd (f_X9_name x23 h22) (fun x24 h25 =>
  stR 13 164 x15 x24 h25 fun h26 =>
  f_X11_declaration_b186  a0 x15 h26)
  else none))
  else none
theorem b189_no {P s : Nat} (s1 : 1 ≤ s) (s2 : s ≤ nStr) (q : PM e h j IT TY QU) (n : (tk e.TS j).1 = 9 ∧ (tk e.TS j).2.1 = P) : ∃ h', f_X48_declaration_b189 e.Q k e.Q s h = rex h' ∧ St [] [e.tr] 1 h h' ∧ StopM e h' P := by
  obtain ⟨h', e1, t1, f1⟩ := msgnN q (s := 72) (by decide) (by decide) rfl (fun z => by have := z.1; omega)
  refine ⟨h', ?_, t1, n.2 ▸ f1⟩
  unfold f_X48_declaration_b189 f_X48_declaration_b221
  rw [m46_e q, misK_e q s1 s2 rfl, if_neg (fun z => by have := z.1; omega), if_pos y00, m46_e q, e1]
theorem ex_pair {ab : Nat} {nm : Td} (C : Dc e Zx Zm hx0 hm0) (Bb : Bx Zx Zm hx0 hm0 bx bm) (a0 : a ∈ Zx ∨ kc hx0 a = 0) (k0 : k ∈ Zm ∨ kc hm0 k = 0) (S : Dq e Zx Zm hx0 hm0 X Y hx hm i TY QU []) (Cu : Cur e bx bm hx hm a k num (1, nm, ab, none, [], [], [])) :
    BOut e Zx Zm hx0 hm0 bx bm X Y a k num i 0 (fun d' => ∃ ex ts ms, d' = addB (addI (1, nm, ab, ex, [], [], []) ts) ms) (exX e.P a hx) (f_X48_declaration_b138 e.Q k hm) := by
  have p := S.2.2.1.1
  have q := S.2.2.2
  obtain ⟨cl, kP, nl⟩ := S.cl C
  have hi := q.jj.1
  have w50 : codes (cStr.getD (50 - 1) "") ∈ KW := by decide
  have w55 : codes (cStr.getD (55 - 1) "") ∈ KW := by decide
  have b173 : ∀ {hB : HP} {ex : Option Td} {G : Nat → Prop}, KdM G hB k num.1 (1, nm, ab, ex, [], [], []) → f_X48_declaration_b173 e.Q k hB = f_X48_declaration_b189 e.Q k e.Q 55 hB := fun {hB ex G} K => by
    unfold f_X48_declaration_b173
    rw [ldI_e K.1, K.2.2.1, if_neg (show ¬ nI 1 = (2 : Int32) by decide)]
  unfold exX f_X48_declaration_b138
  rw [xt12_e kP p, x10_e p, ldI_e Cu.2.1, Cu.2.2.2.1, if_pos (show nI 1 = (1 : Int32) from rfl), m46_e q, misK_e q (by decide) (by decide) rfl]
  by_cases c : isX (tk e.TS i) (codes (cStr.getD (50 - 1) ""))
  case neg =>
    have d1 : ¬ isW (tk e.TS i) (codes (cStr.getD (50 - 1) "")) := fun z => c ((isX_W p.V w50).mpr z)
    rw [xaccN p (by decide) (by decide) rfl c, if_neg d1, if_pos y00, if_pos y00, b173 Cu.2, b186_e]
    exact BOut_le (fa_pair (by decide) (by decide) w55 C Bb (by simp) rfl rfl (show (1 : Nat) ≤ 4 ∧ (1 : Nat) ≠ 3 by decide) S Cu) (Nat.le_refl _) hi (by omega) (by omega) (fun d' ⟨ts, ms, z⟩ => ⟨none, ts, ms, z⟩) (by simp [sz])
  have d1 := (isX_W p.V w50).mp c
  have q1 := (mfwd_s q (go_w d1)).2
  have hi1 := q1.jj.1
  have t1 : MS e 0 hm (fwd e hm i) := MS.Q (mfwd_s q (go_w d1)).1
  have K1 : KdM (Fb bm (nx (fwd e hm i))) (fwd e hm i) k num.1 (1, nm, ab, none, [], [], []) := KdM_up (MS.fxm q C.1 t1 (by decide)) Cu.2 (fun l z => Fb_m z t1.2.1)
  rw [xaccY p (by decide) (by decide) rfl c, if_pos d1, if_neg z10, mfwd_e q, m46_e q1]
  rcases adv p q (go_w d1) with ⟨hx1, e1, s1, p1, _, _⟩ | ⟨hx1, P, e1, s1, f1, n1, _⟩
  case inr =>
    have N1 := PN_at n1 q1
    obtain ⟨hm7, e8, s8, f8⟩ := mnameN q1 (by omega)
    rw [e1, e8]
    exact .inr ⟨P, hx1, rfl, (C.xxZ S.1 s1).le (by omega), f1, .inl ⟨hm7, rfl, (C.trZ (C.mmZ S.2.1 t1) s8).le (by omega), N1.2 ▸ f8⟩⟩
  have S1 := S.tr C s1 t1 p1 q1
  have Cu1 := Cu.st p q C.1 s1 t1
  have kP1 := (S1.cl C).2.1
  have ka1 : kc hx1 a = 13 := Cu1.1.1
  have s2 : St [] [a] 0 hx1 (sI hx1 165 a (nI (tk e.TS (i + 1)).2.1)) := (St.refl p1.1 [] [a]).sI ka1 (by decide) (.inr (.inr (by simp)))
  have hkd : ∀ x ∈ [a], kdX (kc hx1 x) = true := fun x hx => by rw [List.mem_singleton.mp hx, ka1]; decide
  have p2 := p1.dec s2.1 s2.fx hkd (S1.cl C).1
  have S2 := S1.chX s2 (fun x hx => (by rw [List.mem_singleton.mp hx]; exact a0)) p2 (p1.keep s2.fx hkd)
  have kP2 := (S2.cl C).2.1
  have ka2 : kc (sI hx1 165 a (nI (tk e.TS (i + 1)).2.1)) a = 13 := ka1
  have v165 : fi (sI hx1 165 a (nI (tk e.TS (i + 1)).2.1)) 165 a = nI (tk e.TS (i + 1)).2.1 := by rw [fi_sI, if_pos ⟨rfl, rfl⟩]
  have frI : ∀ f, fr (sI hx1 165 a (nI (tk e.TS (i + 1)).2.1)) f a = fr hx1 f a := fun _ => rfl
  have nI2 : nx (sI hx1 165 a (nI (tk e.TS (i + 1)).2.1)) = nx hx1 := rfl
  rw [e1, if_neg z10, xt12_e kP1 p1, xplc_e p1, stI_e ka1, xt12_e kP2 p2, x10_e p2]
  generalize sI hx1 165 a (nI (tk e.TS (i + 1)).2.1) = hx2 at *
  by_cases c2 : (tk e.TS (i + 1)).1 = 1
  case neg =>
    obtain ⟨hx7, e7, s7, f7⟩ := xnameN p2 c2
    obtain ⟨hm7, e8, s8, f8⟩ := mnameN q1 c2
    rw [e7, e8]
    exact .inr ((Dq.err C S2 s7 f7 s8 f8).le (by omega) (by omega))
  obtain ⟨n', hm2, g1, t2, To, n0', q2, r⟩ := nam p2 q1 c2
  have wd := p2.wrd
  have hj2 := q2.jj.1
  have nm2 : nx (fwd e hm i) ≤ nx hm2 := t2.2.1
  have K2 : KdM (Fb bm (nx hm2)) hm2 k num.1 (1, nm, ab, none, [], [], []) := KdM_up (MS.fxm q1 C.1 t2 (by decide)) K1 (fun l z => Fb_m z nm2)
  have kk2 : kc hm2 k = 47 := K2.1
  have s3 : St [] [k] 0 hm2 (sR hm2 369 k n') := (St.refl q2.1 [] [k]).sR kk2 (by decide) (.inr (.inr (by simp)))
  have K3 := KdM_ext q2.1 K2 To
  have nl2 : kc hm2 e.nl = 168 := t2.2.kk (t1.2.kk nl (by decide)) (by decide)
  have q3 := q2.dec s3.1 s3.fx (fun x hx => by rw [List.mem_singleton.mp hx, kk2]; decide) nl2
  have n3' : nx (sR hm2 369 k n') = nx hm2 := rfl
  rw [← n3'] at K3
  rw [xnameY p2 c2, g1, stR_e kk2, b173 K3]
  have Sm : St [] Zm (Y + 0 + 1 + 0) hm0 (sR hm2 369 k n') := (C.mmZ S2.2.1 t2).cat s3 (fun _ z => z) (fun x hx => (by rw [List.mem_singleton.mp hx]; exact Or.imp id Or.inl k0))
  generalize sR hm2 369 k n' = hm3 at *
  rcases r with ⟨hx3, e3, s4, p3⟩ | ⟨hx3, P, e3, s4, f3, n3⟩
  case inr =>
    obtain ⟨h5, e5, s5, f5⟩ := b189_no (k := k) (s := 55) (by decide) (by decide) q3 (PN_at n3 q2)
    rw [e3, e5]
    exact .inr ⟨P, hx3, rfl, (C.xxZ S2.1 s4).le (by omega), f3, .inl ⟨h5, rfl, (C.trZ Sm s5).le (by omega), f5⟩⟩
  have F4 := p2.fr0 s4.1
  have A3 := F4.at ka2 (by decide) (by decide)
  have ka3 : kc hx3 a = 13 := A3.1
  have s5 : St [] [a] 0 hx3 (sR hx3 164 a (fr hx2 154 e.t)) := (St.refl p3.1 [] [a]).sR ka3 (by decide) (.inr (.inr (by simp)))
  have hkd3 : ∀ x ∈ [a], kdX (kc hx3 x) = true := fun x hx => by rw [List.mem_singleton.mp hx, ka3]; decide
  have S3 : Dq e Zx Zm hx0 hm0 (X + 20 + 0 + 20) (Y + 0 + 1 + 0) hx3 hm3 (i + 1 + 1) TY QU [] := ⟨C.xxZ S2.1 s4, Sm, ⟨p3, S2.2.2.1.2.trans (XS.kq p2 s4)⟩, q3⟩
  have p4 := p3.dec s5.1 s5.fx hkd3 (S3.cl C).1
  have S4 := S3.chX s5 (fun x hx => (by rw [List.mem_singleton.mp hx]; exact a0)) p4 (p3.keep s5.fx hkd3)
  have s25 : St [] (a :: e.xx) (0 + 20 + 0) hx1 (sR hx3 164 a (fr hx2 154 e.t)) := ((s2.wk (X2 := a :: e.xx) (fun _ z => z) (fun x hx => .inl (by rw [List.mem_singleton.mp hx]; simp)) (Nat.le_refl _)).cat s4.1 (fun _ z => z) (fun x hx => .inl (List.mem_cons_of_mem _ hx))).cat s5 (fun _ z => z) (fun x hx => .inl (by rw [List.mem_singleton.mp hx]; simp))
  have Fz : Fr (fun k => decide (k ≠ 13 ∧ k ≠ 10 ∧ k ≠ 2 ∧ k ≠ 105 ∧ k ≠ 106)) hx1 (sR hx3 164 a (fr hx2 154 e.t)) := s25.fr (by simp) (fun x hx => .inr (by
    rcases List.mem_cons.mp hx with z | z
    · rw [z, ka1]; decide
    · rcases p1.ks x z with y | y | y | y <;> rw [y] <;> decide))
  have nx4 : nx hx1 ≤ nx (sR hx3 164 a (fr hx2 154 e.t)) := s25.2.1
  have D4 := DX_ext (pl := (tk e.TS (i + 1)).2.1) (w := (tk e.TS (i + 1)).2.2.1) Cu1.1 Fz (by decide) (fun f hf => by
    rw [fr_sR, if_neg (fun y => hf y.1)]; exact (A3.2.2.2.2.1 f).trans (frI f)) ka3 (by
    rw [show fr (sR hx3 164 a (fr hx2 154 e.t)) 164 a = fr hx2 154 e.t by rw [fr_sR, if_pos ⟨rfl, rfl⟩]]
    exact StrX_fr (s5.fx.fr (S := fun k => decide (k ≠ 13)) (fun x hx => by rw [List.mem_singleton.mp hx, ka3]; decide)) (StrX_fr F4 wd (by decide)) (by decide)) ((A3.2.2.1 165).trans v165) (p1.2.2.1.2.2.2.2.2.2.2.2.1 (i + 1)).2.2.2.2.2.1 rfl
  have D5 := DXg_wk (G := Fb bx (nx (sR hx3 164 a (fr hx2 154 e.t)))) (fun l z => Fb_m z nx4) D4
  rw [e3, stR_e ka3, b186_e]
  exact BOut_le (fa_pair (by decide) (by decide) w55 C Bb (by simp) rfl rfl (show (1 : Nat) ≤ 4 ∧ (1 : Nat) ≠ 3 by decide) S4 ⟨D5, K3⟩) (by omega) (by omega) (by omega) (by omega) (fun d' ⟨ts, ms, z⟩ => ⟨_, ts, ms, z⟩) (by simp [sz]; omega)
