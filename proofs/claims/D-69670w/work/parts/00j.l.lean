/-! PHASE B declarations 11: parameters -/
set_option maxRecDepth 100000
variable {e : EE} {Zx Zm : List Nat} {hx hm h h1 h2 h' hx0 hm0 hxA hmA : HP} {i j a b k X Y bx bm l1 l2 l3 : Nat} {IT : List It} {TY : List Ty} {QU : List (List Nat)} {F G : Nat → Prop} {KL : List Nat} {d : DC} {TY' : List Ty} {QU' : List (List Nat)} {num : Nat × Nat}
abbrev MhV (e : EE) (F : Nat → Prop) (h : HP) (l1 l2 l3 : Nat) (vs : List Vr) : Prop := MhX e F h l1 l2 l3 (vs.map fun v => v.1) (vs.map fun v => v.2.1) (vs.map fun v => v.2.2)
/-- what the twin does with too many parameters -/
noncomputable def wrK (Q : Nat) (KM : Unit → HP → Rs Unit) : Unit ⊕ Unit → HP → Rs Unit := Sum.elim (fun _ => fun h10 => if kc h10 Q = 46 then bd (f_X48_wrong Q h10) (fun x11 h12 => if kc h12 x11 = 69 then rex h12 else none) else none) KM
theorem FxX.ld {l c : Nat} (p : PX e h i TY QU) (u : St [] [l] a h h') (r : kc h l = c) (hc : c = 117 ∨ c = 118 ∨ c = 119) : FxX e F [] h h' := p.decF u.fx (fun x hx => by rw [List.mem_singleton.mp hx, r]; rcases hc with z | z | z <;> rw [z] <;> decide) (fun x hx => by rw [List.mem_singleton.mp hx, r]; rcases hc with z | z | z <;> rw [z] <;> exact ⟨by decide, fun y => absurd y (by decide)⟩)
theorem par_l (C : Dc e Zx Zm hx0 hm0) (M0 : Mb0 hx0 hm0 hxA hmA) (wA : WG hxA) (wB : WG hmA) {v3 v4 v5 v8 : Int32} {v7 v9 p kk : Nat} {T : Ty} {nm : Td} {wd pl : Nat} (hp0 : kc hmA p = 0) (N : Nat) : ∀ (hx hm : HP) (i X Y : Nat) (vs : List Vr) (TY : List Ty) (NX NM : Nat), N < NX → N < NM → e.TS.length - i < N → vs.length ≤ 8 → Mw e Zx Zm hx0 hm0 hxA hmA bx bm X Y hx hm i TY QU [] → MhV e (Fb (nx hxA) (nx hx)) hx l1 l2 l3 vs → MeM (Fb (nx hmA) (nx hm)) hm p kk ((T, nm), (wd, pl, vs, none)) →
    (∃ hx' hm' j us TY', f_X11_member_l268 e.P a v3 v4 v5 v7 v8 v9 l1 l2 l3 NX 1 hx = rok (Sum.inr ()) hx' ∧ f_X48_member_l279 e.Q k p NM hm = rok (Sum.inr ()) hm' ∧ i < j ∧ Mw e Zx Zm hx0 hm0 hxA hmA bx bm (X + 70 * (j - i)) (Y + 70 * (j - i)) hx' hm' j TY' QU [] ∧ MhV e (Fb (nx hxA) (nx hx')) hx' l1 l2 l3 (vs ++ us) ∧ MeM (Fb (nx hmA) (nx hm')) hm' p kk ((T, nm), (wd, pl, vs ++ us, none)) ∧ (vs ++ us).length ≤ 8 ∧ 2 * us.length ≤ j - i ∧ FxX e (fun _ => False) [] hx hx') ∨
    (∃ hx' hm' j TY', f_X11_member_l268 e.P a v3 v4 v5 v7 v8 v9 l1 l2 l3 NX 1 hx = rok (Sum.inl ()) hx' ∧ (∀ KM, bd (f_X48_member_l279 e.Q k p NM hm) (wrK e.Q KM) = rex hm') ∧ i ≤ j ∧ j ≤ e.TS.length ∧ St [] Zx (X + 70 * (j - i)) hx0 hx' ∧ St [] Zm (Y + 70 * (j - i) + 1) hm0 hm' ∧ PX e hx' j TY' QU ∧ StopM e hm' (tk e.TS j).2.1) ∨
    DF e Zx Zm hx0 hm0 (X + 70 * (e.TS.length - i)) (Y + 70 * (e.TS.length - i)) (f_X11_member_l268 e.P a v3 v4 v5 v7 v8 v9 l1 l2 l3 NX 1 hx) (f_X48_member_l279 e.Q k p NM hm) := by
  induction N with
  | zero => intro hx hm i X Y vs TY NX NM _ _ h1; omega
  | succ N ih =>
    intro hx hm i X Y vs TY NX NM hNX hNM h1 hvs W Mx Mm
    obtain ⟨NX, rfl⟩ : ∃ k, NX = k + 1 := ⟨NX - 1, by omega⟩
    obtain ⟨NM, rfl⟩ : ∃ k, NM = k + 1 := ⟨NM - 1, by omega⟩
    have S := W.1
    obtain ⟨cl, kP, nl⟩ := S.cl C
    have p0 := S.2.2.1.1
    have q0 := S.2.2.2
    have hi := q0.jj.1
    have h3 := q0.jj.2.2.2
    have kp : kc hm p = 50 := Mm.1
    have L391 : LsX (Fb (nx hmA) (nx hm)) hm (fr hm 391 p) 132 (fun h a v => VarM (Fb (nx hmA) (nx hm)) h a v) vs := by
      obtain ⟨_, _, _, _, _, _, x, _⟩ := Mm; exact x
    have z1 : lsK hx l1 := ⟨by rw [Mx.1.2.1]; decide, by rw [Mx.1.2.1]; decide, Mx.1.2.2.1⟩
    have z2 : lsK hm (fr hm 391 p) := ⟨by rw [L391.2.1]; decide, by rw [L391.2.1]; decide, L391.2.2.1⟩
    have y1 : (ls hx l1).length = vs.length := by rw [Mx.1.2.2.2.len, List.length_map]
    have y2 : (ls hm (fr hm 391 p)).length = vs.length := L391.2.2.2.len
    rw [f_X11_member_l268_s, f_X48_member_l279_s]
    unfold b_X11_member_l268 b_X48_member_l279
    rw [if_neg z10, lsSize_e z1, y1, ldR_e kp, lsSize_e z2, y2]
    by_cases s8 : vs.length = 8
    · have e8 : nI vs.length = (8 : Int32) := by rw [s8]; rfl
      rw [if_pos e8, if_pos e8, m46_e q0, mbeg_e q0]
      refine .inr (.inl ?_)
      by_cases c : (tk e.TS i).1 = 1 ∨ plT (tk e.TS i)
      · obtain ⟨hm7, e7, s7, f7⟩ := mwrong q0
        rw [if_pos c, if_neg z10]
        refine ⟨hx, hm7, i, TY, rfl, fun KM => ?_, Nat.le_refl _, by omega, S.1.le (by omega), ?_, p0, f7⟩
        · unfold wrK
          rw [bd_ok, Sum.elim_inl, m46_e q0, e7]
        · exact (S.2.1.cat s7 (fun _ z => z) (fun x hx => by
            rcases C.2.2.2.2.2.2.2 x (by rw [List.mem_singleton.mp hx]; simp) with z | z
            · exact .inl z
            · exact .inr (.inl z))).le (by omega)
      · obtain ⟨hm7, e7, s7, f7⟩ := mtypeN q0 c
        rw [if_neg c, if_pos y00]
        unfold f_X48_member_l279b304
        refine ⟨hx, hm7, i, TY, rfl, fun KM => ?_, Nat.le_refl _, by omega, S.1.le (by omega), ?_, p0, f7⟩
        · rw [m46_e q0, e7, bd_ex]
        · exact (S.2.1.cat s7 (fun _ z => z) (fun x hx => by
            rcases C.2.2.2.2.2.2.2 x (by rw [List.mem_singleton.mp hx]; simp) with z | z
            · exact .inl z
            · exact .inr (.inl z))).le (by omega)
    have n8 : ¬ nI vs.length = (8 : Int32) := fun z => s8 ((nk _ (c := 8) (C := (8 : Int32)) rfl (by omega) (by omega)).mp z)
    rw [if_neg n8, if_neg n8, if_pos (by rw [kP]; simp)]
    unfold f_X48_member_l279b304
    rw [m46_e q0]
    rcases ty_pair p0 q0 with ⟨n, m, hx1, hm1, j, U, e1, e2, h4, s1, t1, p1, q1, Tn, nt, Tm, n0, n173⟩ | ⟨f, V⟩
    · have hj := q1.jj.1
      rw [e1, e2, bd_ok, bd_ok]
      have W1 := W.tr C s1 t1 p1 q1
      have nx1 := s1.nx
      have nm1 : nx hm ≤ nx hm1 := t1.2.1
      have Mx1 := MhX_wk (G := Fb (nx hxA) (nx hx1)) (fun l z => Fb_m z nx1) (MhX_st p0 s1 Mx)
      have Mm1 := MeM_wk (e := e) (G := Fb (nx hmA) (nx hm1)) (fun l z => Fb_m z nm1) (MeM_st q0 C.1 t1 Mm)
      have V1 := p1.V
      -- the type
      have kn : kc hx1 n = 14 := Tn.1
      obtain ⟨g1, u1, r1, F1, Mx2⟩ := Mx1.a1 p1 (by rw [List.length_map]; omega) (v := n) (.inr (.inr (.inr (by rw [kn]; decide)))) ⟨Tn, nt⟩
      have W2 := W1.chX C M0 u1 (fun x hx => by rw [List.mem_singleton.mp hx, r1]; exact ⟨(wA.2.1 _ F1.1).1, by decide⟩)
      have p2 := W2.1.2.2.1.1
      have Y2 : FxX e (fun _ => False) [] hx (lad hx1 l1 n) := (XS.fxx p0 s1 (by decide)).trans (FxX.ld p1 u1 r1 (by omega)) (by decide)
      rw [g1]
      have nx2 : nx (lad hx1 l1 n) = nx hx1 := rfl
      have kP2 := (W2.1.cl C).2.1
      rw [xt12_e kP2 p2, xplc_e p2]
      rw [← nx2] at Mx2
      generalize lad hx1 l1 n = hx2 at *
      -- the place
      obtain ⟨hx3, v, e3, s3, iv, kv⟩ := ivOf_e p2.1 (n := (tk e.TS j).2.1) (by have := V1.2.2.2.2.2.1; omega)
      have W3 := W2.chX C M0 s3 (by simp)
      have p3 := W3.1.2.2.1.1
      have nx3 : nx hx2 ≤ nx hx3 := s3.2.1
      have Mx3 := MhX_wk (G := Fb (nx hxA) (nx hx3)) (fun l z => Fb_m z nx3) (MhX_fx (KL := [119, 118, 117]) (FxX.nw p2 s3) (fun _ z => z) Mx2)
      obtain ⟨g4, u4, r4, F4, Mx4⟩ := Mx3.a3 p3 (by rw [List.length_map]; omega) (v := v) (.inr (.inr (.inl kv))) iv
      have W4 := W3.chX C M0 u4 (fun x hx => by rw [List.mem_singleton.mp hx, r4]; exact ⟨(wA.2.1 _ F4.1).1, by decide⟩)
      have p4 := W4.1.2.2.1.1
      have kP4 := (W4.1.cl C).2.1
      have nx4 : nx (lad hx3 l3 v) = nx hx3 := rfl
      have Y4 : FxX e (fun _ => False) [] hx (lad hx3 l3 v) := (Y2.trans (FxX.nw p2 s3) (by decide)).trans (FxX.ld p3 u4 r4 (by omega)) (by decide)
      rw [e3, g4, xt12_e kP4 p4, x10_e p4]
      rw [← nx4] at Mx4
      generalize lad hx3 l3 v = hx4 at *
      -- the twin's variable
      have kp1 : kc hm1 p = 50 := Mm1.1
      have sm2 : St [] [] (0 + 1) hm1 (nO hm1 49 2) := (St.refl q1.1 [] []).nO (by omega) (by omega)
      have W5 := W4.chM C M0 sm2 (by simp)
      have q2 := W5.1.2.2.2
      have d49 : kc (nO hm1 49 2) (nx hm1) = 49 := kc_nO_n
      have hn3 : nx (nO hm1 49 2) = nx hm1 + 1 := rfl
      have fm2 : FxM (Fb (nx hmA) (nx hm1)) [132, 133] hm1 (nO hm1 49 2) := FxM.nw sm2
      have TM2 : TyM (nO hm1 49 2) m U := TyM_fx fm2 Tm
      have d0 : kc hmA (nx hm1) = 0 := (wB.2.1 _ W1.2.2.2.2).1
      rw [ldR_e kp1, nwO_e, m46_e q2]
      generalize nO hm1 49 2 = hm2 at *
      by_cases c : (tk e.TS j).1 = 1
      · obtain ⟨n', hm3, g5, t3, To, n0', q3, r⟩ := nam p4 q2 c
        rw [xnameY p4 c, g5]
        have wd := p4.wrd
        have k49 : kc hm3 (nx hm1) = 49 := t3.2.kk d49 (by decide)
        have nm3 : nx hm2 ≤ nx hm3 := t3.2.1
        have TM3 : TyM hm3 m U := TyM_fx (MS.fxm (F := Fb bm 0) (KL := []) q2 C.1 t3 (by decide)) TM2
        have fm3 := fm2.stp q2 C.1 t3 (by decide)
        have d1 : kc hm1 (nx hm1) = 0 := q1.1.new
        obtain ⟨hm4, g6, t4, f4, k4, n4, VM⟩ := varM_new q3.1 k49 TM3 To
        have fm4 := fm3.newo f4 (fun x hx => by rw [List.mem_singleton.mp hx]; exact d1) (by decide)
        have Mm4 := MeM_wk (e := e) (G := Fb (nx hmA) (nx hm4)) (fun l z => Fb_m z (by omega)) (MeM_fx (e := e) fm4 (fun _ z => z) Mm1)
        obtain ⟨g7, t5, k132, F5, Mm5⟩ := Mm4.add t4.1 (by omega) (v := nx hm1) (y := (U, ((tk e.TS j).2.2.1, (tk e.TS j).2.1))) (.inr (.inr (.inr (by rw [k4]; decide)))) (VM _)
        have a391 : fr hm4 391 p = fr hm1 391 p := (fm4.ob kp1 (by decide) (by decide)).2.2.2.2.1 391
        rw [if_pos k49, g6, ← a391, g7]
        have hz4 : ∀ x ∈ [nx hm1], kc hmA x = 0 ∧ kdM (kc hm3 x) = true := fun x hx => by rw [List.mem_singleton.mp hx, k49]; exact ⟨d0, by decide⟩
        have hz5 : ∀ x ∈ [fr hm4 391 p], kc hmA x = 0 ∧ kdM (kc hm4 x) = true := fun x hx => by rw [List.mem_singleton.mp hx, k132]; exact ⟨(wB.2.1 _ F5.1).1, by decide⟩
        have nxm5 : nx (lad hm4 (fr hm4 391 p) (nx hm1)) = nx hm4 := rfl
        have h391 : fr (lad hm4 (fr hm4 391 p) (nx hm1)) 391 p = fr hm4 391 p := rfl
        rw [← nxm5] at Mm5
        have hj3 := q3.jj.1
        rcases r with ⟨hx5, e5, s5, p5⟩ | ⟨hx5, P, e5, s5, f5, n5⟩
        · have W6 := W5.tr C s5 t3 p5 q3
          have W8 := (W6.chM C M0 t4 hz4).chM C M0 t5 hz5
          generalize lad hm4 (fr hm4 391 p) (nx hm1) = hm5 at *
          have q5 := W8.1.2.2.2
          have nx5 : nx hx4 ≤ nx hx5 := s5.nx
          have Mx5 := MhX_wk (G := Fb (nx hxA) (nx hx5)) (fun l z => Fb_m z nx5) (MhX_st p4 s5 Mx4)
          have wd5 : StrX hx5 (fr hx4 154 e.t) (tk e.TS j).2.2.1 := StrX_fx (XS.fxx (F := Fb bx 0) (KL := []) p4 s5 (by decide)) wd
          obtain ⟨g8, u8, r8, F8, Mx6⟩ := Mx5.a2 p5 (by rw [List.length_map]; omega) (v := fr hx4 154 e.t) (.inr (.inl wd5.1)) ⟨wd5, fun z => (p1.V.2.2.1 c).1 (PWK _ z)⟩
          have W9 := W8.chX C M0 u8 (fun x hx => by rw [List.mem_singleton.mp hx, r8]; exact ⟨(wA.2.1 _ F8.1).1, by decide⟩)
          have p6 := W9.1.2.2.1.1
          have kP6 := (W9.1.cl C).2.1
          have nx6 : nx (lad hx5 l2 (fr hx4 154 e.t)) = nx hx5 := rfl
          have Y6 : FxX e (fun _ => False) [] hx (lad hx5 l2 (fr hx4 154 e.t)) := (Y4.trans (XS.fxx p4 s5 (by decide)) (by decide)).trans (FxX.ld p5 u8 r8 (by omega)) (by decide)
          rw [← nx6] at Mx6
          rw [e5, g8, xt12_e kP6 p6, x10_e p6, m46_e q5, mgone_e q5 (by decide) (by decide) rfl]
          generalize lad hx5 l2 (fr hx4 154 e.t) = hx6 at *
          have Mx7 : MhV e (Fb (nx hxA) (nx hx6)) hx6 l1 l2 l3 (vs ++ [(U, ((tk e.TS j).2.2.1, (tk e.TS j).2.1))]) := by
            unfold MhV
            rw [List.map_append, List.map_append, List.map_append]; exact Mx6
          have hw : codes (cStr.getD (13 - 1) "") ∈ SW := by decide
          by_cases c2 : isX (tk e.TS (j + 1)) (codes (cStr.getD (13 - 1) ""))
          · have c3 := (isX_S p6.V hw).mp c2
            rw [xaccY p6 (by decide) (by decide) rfl c2, if_pos c3]
            rcases adv p6 q5 (go_of c3) with ⟨hx9, e9, s9, p9, q9, t9⟩ | ⟨hx9, P, e9, s9, f9, n9, t9⟩
            · have Wa := W9.tr C s9 t9 p9 q9
              have hi9 := q9.jj.1
              have nx9 := s9.nx
              have nm9 : nx hm5 ≤ nx (fwd e hm5 (j + 1)) := t9.2.1
              rw [e9, if_neg z10]
              rcases ih hx9 (fwd e hm5 (j + 1)) (j + 1 + 1) _ _ _ _ NX NM (by omega) (by omega) (by omega) (by simp; omega) Wa (MhX_wk (fun l z => Fb_m z nx9) (MhX_st p6 s9 Mx7)) (MeM_wk (e := e) (fun l z => Fb_m z nm9) (MeM_st q5 C.1 t9 Mm5)) with ⟨hxa, hma, j2, us, TY', x1, x2, x3, x4, x5, x6, x7, x8, x9⟩ | ⟨hxa, hma, j2, TY', x1, x2, x3, x3', x4, x5, x6, x7⟩ | f
              · refine .inl ⟨hxa, hma, j2, (U, ((tk e.TS j).2.2.1, (tk e.TS j).2.1)) :: us, TY', x1, x2, by omega, x4.le (by omega) (by omega), ?_, ?_, ?_, ?_, (Y6.trans (XS.fxx p6 s9 (by decide)) (by decide)).trans x9 (by decide)⟩
                · rw [List.append_assoc] at x5; exact x5
                · rw [List.append_assoc] at x6; exact x6
                · rw [List.append_assoc] at x7; exact x7
                · simp only [List.length_cons]; omega
              · exact .inr (.inl ⟨hxa, hma, j2, TY', x1, x2, by omega, x3', x4.le (by omega), x5.le (by omega), x6, x7⟩)
              · exact .inr (.inr (f.le (by omega) (by omega)))
            · rw [e9, if_neg z10]
              have q9 := (mfwd_s q5 (go_of c3)).2
              have N9 := PN_at n9 q9
              obtain ⟨hm7, e8, s8', f8⟩ := mtypeN q9 (fun z => by
                rcases z with z | z
                · omega
                · have := z.1; omega)
              have M : MF e (fwd e hm5 (j + 1)) P 0 1 (f_X48_member_l279 e.Q k p NM (fwd e hm5 (j + 1))) := by
                obtain ⟨NM', rfl⟩ : ∃ k, NM = k + 1 := ⟨NM - 1, by omega⟩
                have Mm9 := MeM_st q5 C.1 t9 Mm5
                have L9 : LsX (Fb (nx hmA) (nx hm5)) (fwd e hm5 (j + 1)) (fr (fwd e hm5 (j + 1)) 391 p) 132 (fun h a v => VarM (Fb (nx hmA) (nx hm5)) h a v) (vs ++ [(U, ((tk e.TS j).2.2.1, (tk e.TS j).2.1))]) := by
                  obtain ⟨_, _, _, _, _, _, x, _⟩ := Mm9; exact x
                have b304 : f_X48_member_l279b304 e.Q k p (f_X48_member_l279 e.Q k p NM') (fwd e hm5 (j + 1)) = rex hm7 := by
                  unfold f_X48_member_l279b304
                  rw [m46_e q9, e8]
                rw [f_X48_member_l279_s]
                unfold b_X48_member_l279
                rw [ldR_e Mm9.1, lsSize_e ⟨by rw [L9.2.1]; decide, by rw [L9.2.1]; decide, L9.2.2.1⟩]
                refine MF.ex (h' := hm7) ?_ s8' (N9.2 ▸ f8)
                split
                · rw [m46_e q9, mbeg_e q9, if_neg (fun z => by
                    rcases z with z | z
                    · omega
                    · have := z.1; omega), if_pos y00, b304]
                · exact b304
              exact .inr (.inr ((Dq.none C W9.1 s9 f9 t9 M).le (by omega) (by omega)))
          · rw [xaccN p6 (by decide) (by decide) rfl c2, if_neg (fun z => c2 ((isX_S p6.V hw).mpr z)), if_pos y00]
            obtain ⟨NX', rfl⟩ : ∃ k, NX = k + 1 := ⟨NX - 1, by omega⟩
            rw [f_X11_member_l268_s]
            unfold b_X11_member_l268
            rw [if_pos y00]
            exact .inl ⟨hx6, hm5, j + 1, [(U, ((tk e.TS j).2.2.1, (tk e.TS j).2.1))], _, rfl, rfl, by omega, W9.le (by omega) (by omega), Mx7, Mm5, by simp; omega, by simp; omega, Y6⟩
        · have N7 : (tk e.TS (j + 1)).1 = 9 ∧ (tk e.TS (j + 1)).2.1 = P := PN_at n5 q3
          have nl3 : kc hm3 e.nl = 168 := t3.2.kk (W5.1.cl C).2.2 (by decide)
          have q4 := q3.dec t4.1 f4 (fun x hx => (hz4 x hx).2) nl3
          have q5 := q4.dec t5.1 t5.fx (fun x hx => (hz5 x hx).2) (t4.2.kk nl3 (by decide))
          rw [e5, m46_e q5, mgone_e q5 (by decide) (by decide) rfl, if_neg (fun z => by have := z.1; omega), if_pos y00]
          have t45 : St [] [nx hm1, fr hm4 391 p] (0 + 10) hm3 (lad hm4 (fr hm4 391 p) (nx hm1)) := (t4.wk (X2 := [nx hm1, fr hm4 391 p]) (fun _ z => z) (fun x hx => .inl (by rw [List.mem_singleton.mp hx]; simp)) (Nat.le_refl _)).cat t5 (fun _ z => z) (fun x hx => .inl (List.mem_cons_of_mem _ hx))
          refine .inr (.inr ((Dq.end' C W5.1 s5 f5 t3 t45 (fun x hx => .inr (M0.2 x ?_)) (⟨_, _, _, _, q5, N7.1, N7.2, Nat.le_refl _⟩ : PN e _ P ([] : List It).length)).le (by omega) (by omega)))
          rcases List.mem_cons.mp hx with z | z
          · rw [z]; exact d0
          · exact (hz5 x z).1
      · obtain ⟨hx7, e7, s7, f7⟩ := xnameN p4 c
        obtain ⟨hm7, e8, s8', f8⟩ := mnameN q2 c
        rw [e7, e8]
        exact .inr (.inr ((Dq.err C W5.1 s7 f7 s8' f8).le (by omega) (by omega)))
    · refine .inr (.inr (DF.le (Dq.fail C S (Fail_bdk (c := 2) (N2 := 0) f (fun P v h5 t n => ?_))) (by omega) (by omega)))
      have kk : kc h5 p = 50 := t.2.kk kp (by decide)
      have sm2 : St [] [] (0 + 1) h5 (nO h5 49 2) := (St.refl n.w [] []).nO (by omega) (by omega)
      rw [ldR_e kk, nwO_e]
      have n2 : PN e (nO h5 49 2) P ([] : List It).length := by
        obtain ⟨j, IT', TY', QU', z, z2⟩ := n
        exact ⟨j, IT', TY', QU', z.new sm2, z2⟩
      exact (MF.pre (MS.new sm2) (v46 n2 (vName (N2 := 0) n2))).le (by omega) (by omega)
