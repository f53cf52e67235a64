/-! PHASE B parser 15: what stands behind a primary -/
set_option maxRecDepth 100000
variable {e : EE} {hx hm h h' : HP} {i j a : Nat} {IT : List It} {TY : List Ty} {QU : List (List Nat)}
theorem post_l {hx0 hm0 : HP} {i0 d n m : Nat} {TY0 : List Ty} {QU0 : List (List Nat)} {IT0 : List It} (hd1 : 1 ≤ d) (hd : d ≤ 30) (hE : d < 30 → GE e (d + 1)) (hn : nE d ≤ n + 15) (hm' : nE d ≤ m + 15) (hI : IT0.length ≤ 3 * i0 ∧ e.il ≠ 0) (N : Nat) :
    ∀ (nd : Nat) (hx hm : HP) (i : Nat) (ty : List Ty) (qu : List (List Nat)) (its : List It) (H dd NX NM : Nat), N < NX → N < NM → e.TS.length - i < N → POk e hx0 hm0 i0 TY0 QU0 IT0 nd hx hm i ty qu its H dd →
    POut e hx0 hm0 i0 TY0 QU0 IT0 (f_X10_postfix_l5 (r_S4 n) e.P (nI d) NX nd 1 hx) (f_X48_postfix_l5 (r_S7 m) e.Q (nI d) NM hm) := by
  induction N with
  | zero => intro nd hx hm i ty qu its H dd NX NM _ _ h1; omega
  | succ N ih =>
    intro nd hx hm i ty qu its H dd NX NM hNX hNM h1 k
    obtain ⟨NX, rfl⟩ : ∃ k, NX = k + 1 := ⟨NX - 1, by omega⟩
    obtain ⟨NM, rfl⟩ : ∃ k, NM = k + 1 := ⟨NM - 1, by omega⟩
    have kk := k
    have S := k.sq
    obtain ⟨k1, k2, k3, p, q, k6, k7, k8, k9⟩ := k
    have hi := q.jj.1
    have h3 := q.jj.2.2.2
    have g3 : nE d = 16 * (31 - d) + 4 := rfl
    have hl : (IT0 ++ its).length = IT0.length + its.length := List.length_append
    have vP : ∀ {p N : Nat} {h : HP}, PN e h p N → MF e h p N 0 (f_X48_postfix_l5 (r_S7 m) e.Q (nI d) NM h) := fun n => by
      obtain ⟨NM', rfl⟩ : ∃ k, NM = k + 1 := ⟨NM - 1, by omega⟩
      exact vPostK NM' n
    rw [f_X10_postfix_l5_s, f_X48_postfix_l5_s]
    unfold b_X10_postfix_l5 b_X48_postfix_l5
    rw [if_neg z10, xt_e p, x10_e p, xis_e p (by decide) (by decide) rfl, m46_e q, misS_e q (by decide) (by decide) rfl]
    have hw1 : codes (cStr.getD (33 - 1) "") ∈ SW := by decide
    have hw2 : codes (cStr.getD (15 - 1) "") ∈ SW := by decide
    obtain ⟨m1, m2, m3, m4, m5, m6⟩ := q.mt0
    by_cases c1 : isX (tk e.TS i) (codes (cStr.getD (33 - 1) ""))
    · have c2 := (isX_S p.V hw1).mp c1
      have c3 : ¬ isS (tk e.TS i) (codes (cStr.getD (15 - 1) "")) := isS_ne c2 (by decide)
      rw [if_pos c1, if_neg c3, if_neg z10, if_pos y00, m46_e q, misS_e q (by decide) (by decide) rfl, if_pos c2, if_neg z10]
      unfold f_X48_postfix_l5b24
      rw [m46_e q, misS_e q (by decide) (by decide) rfl, if_pos c2, if_neg z10, xt_e p, xplc_e p, xP_e p, m46_e q, mtok_e q, ldI_e m1, m3, m46_e q]
      by_cases d30 : d = 30
      · obtain ⟨hx1, e1, s1, f1⟩ := xdeepN p d30
        obtain ⟨hm1, e2, s2, f2⟩ := mdeepN q d30
        rw [e1, e2]
        exact POut.fail (S.err s1 f1 s2 f2) (by omega) (Nat.le_refl _) (by omega)
      have hd' : d < 30 := by omega
      have gE := hE hd'
      have g4 : nE (d + 1) = 16 * (30 - d) + 4 := by unfold nE; omega
      rw [xdeepY hd', mdeepY hd', xt_e p, x10_e p, mfwd_e q]
      rcases S.go (go_of c2) with ⟨hx1, e1, S1, K1, M1⟩ | ⟨hx1, P, e1, n1, M1, F1⟩
      · have p1 := S1.2.2.1
        have q1 := S1.2.2.2
        have hi1 := q1.jj.1
        rw [e1, xP_e p1, m46_e q1]
        rcases gE n m hx1 _ (i + 1) _ _ _ (by omega) (by omega) p1 q1 (by omega) with ⟨nb, hx2, hm2, j, ty2, qu2, its2, H2, d2, e2, e3, k5⟩ | f
        · obtain ⟨hij, S2, K2, M2, N2, hH2, hl2, _⟩ := S1.sub k5
          have p2 := S2.2.2.1
          have q2 := S2.2.2.2
          have hj := q2.jj.1
          rw [e2, e3, bd_ok, bd_ok, xt_e p2, x10_e p2, m46_e q2]
          have hw3 : codes (cStr.getD (34 - 1) "") ∈ SW := by decide
          have hl3 : (IT0 ++ (its ++ its2)).length = IT0.length + (its.length + its2.length) := by rw [List.length_append, List.length_append]
          by_cases c4 : isX (tk e.TS j) (codes (cStr.getD (34 - 1) ""))
          · have c5 := (isX_S p2.V hw3).mp c4
            rw [xexpY p2 (by decide) (by decide) rfl c4, msgnY q2 (by decide) (by decide) rfl c5]
            rcases S2.go (go_of c5) with ⟨hx3, e4, S3, K3, M3⟩ | ⟨hx3, P, e4, n3, M3, F3⟩
            · have p3 := S3.2.2.1
              have q3 := S3.2.2.2
              have hj3 := q3.jj.1
              have A3 := K3.1 (K2.1 (K1.1 k6))
              have B3 := K3.1 N2
              obtain ⟨a1, a2, a3⟩ := Nd_k A3
              obtain ⟨b1, b2, b3⟩ := Nd_k B3
              obtain ⟨hx4, e5, s5, r1, r2, r3, r4, r5, r6⟩ := xk_idx p3.1 (pl := nI (tk e.TS i).2.1) a1 a2 a3 b1 b2 b3
              obtain ⟨S4, K4⟩ := S3.nod s5
              obtain ⟨hm4, e6, S5, M5⟩ := S4.itm (by omega) (op := 8) (at' := (tk e.TS i).2.1) (n := 0) (OP := 8) (NN' := 0) (bits := 0) (o := none) rfl rfl (str1 q3.1) rfl
              rw [e4, e5, m46_e q3, e6]
              refine ih (nx hx3) hx4 hm4 (j + 1) _ _ _ (max (H + 1) (H2 + 1)) (max dd d2 + 1) NX NM (by omega) (by omega) (by omega) (S5.pok (by omega) (by omega) (by omega) ?_ (by omega) (by rw [List.length_append, List.length_append, List.length_singleton]; omega) (n5e (by decide)))
              obtain ⟨⟨D1, D2, D3⟩, DA, DB⟩ := dbl (K1.1 k6) k5.2.2.2.2.2.1 (fun q z => S1.1.1.nwb z) (fun q z => k5.2.1.1.nwb z)
              refine .inr ⟨_, r2, r3, by rw [r4]; congr 1, by omega, (by first | exact S.1.1.nw | exact S1.1.1.nw | exact S2.1.1.nw | exact S3.1.1.nw | exact S4.1.1.nw | exact S5.1.1.nw | exact S6.1.1.nw | exact S7.1.1.nw | exact S8.1.1.nw), ?_⟩
              exact .inr (.inr (.inr (.inr (.inr (.inr (.inr (.inl ⟨r1, its, its2, H, H2, B2 _ _ _ _, by rw [r5, r6]; exact ⟨D1, D2, D3 _ (K3.nw ⟨p3.1.new, Nat.le_refl _⟩)⟩, by rw [r5]; exact Nd_le (Nat.le_max_left _ _) (K4.1 (K3.1 (K2.1 DA))), by rw [r6]; exact Nd_le (Nat.le_max_right _ _) (K4.1 (K3.1 DB)), rfl, rfl⟩)))))))
            · rw [e4]
              exact POut.fail (F3 (v46 n3 (vIt n3 (by omega) (op := 8) (n := 0) (o := none) rfl rfl (str1 (by obtain ⟨_, _, _, _, z, _⟩ := n3; exact z.1)) rfl fun h5 _ n5 => vP n5))) (by omega) (by omega) (by omega)
          · obtain ⟨hx3, e4, s4, f4⟩ := xexpN p2 (by decide) (by decide) rfl c4
            obtain ⟨hm3, e5, s5, f5⟩ := msgnN q2 (by decide) (by decide) rfl (fun z => c4 ((isX_S p2.V hw3).mpr z))
            rw [e4, e5]
            exact POut.fail (S2.err s4 f4 s5 f5) (by omega) (Nat.le_refl _) (by omega)
        · exact POut.fail (S1.fail (f.bd (fun P v h5 n5 => v46 n5 (vSgn (N2 := 0) n5 (by decide) (by decide))))) (by omega) (by omega) (by omega)
      · rw [e1]
        obtain ⟨m', rfl⟩ : ∃ k, m = k + 15 := ⟨m - 15, by omega⟩
        exact POut.fail (F1 (v46 n1 (MF.bd (vExp (m := m') (d := d + 1) n1 (Nat.le_refl _)) fun v h5 n5 => v46 n5 (vSgn (N2 := 0) n5 (by decide) (by decide))))) (by omega) (by omega) (by omega)
    · rw [if_neg c1, if_pos y00, xt_e p, x10_e p]
      have c1' : ¬ isS (tk e.TS i) (codes (cStr.getD (33 - 1) "")) := fun z => c1 ((isX_S p.V hw1).mpr z)
      by_cases c2 : isX (tk e.TS i) (codes (cStr.getD (15 - 1) ""))
      · have c3 := (isX_S p.V hw2).mp c2
        rw [xaccY p (by decide) (by decide) rfl c2, if_pos c3, if_neg z10]
        unfold f_X48_postfix_l5b24
        rw [m46_e q, misS_e q (by decide) (by decide) rfl, if_neg c1', if_pos y00, mfwd_e q]
        rcases S.go (go_of c3) with ⟨hx1, e1, S1, K1, M1⟩ | ⟨hx1, P, e1, n1, M1, F1⟩
        · have p1 := S1.2.2.1
          have q1 := S1.2.2.2
          have hi1 := q1.jj.1
          rw [e1, if_neg z10, xt_e p1, xplc_e p1, xt_e p1, x10_e p1, m46_e q1]
          by_cases c4 : (tk e.TS (i + 1)).1 = 1
          · obtain ⟨nt, hm2, e2, M2, t2, t0, r⟩ := S1.goN c4
            rw [xnameY p1 c4, e2]
            have wd := p1.wrd
            rcases r with ⟨hx2, e3, S2, K2⟩ | ⟨hx2, P, e3, n2, F2⟩
            · have p2 := S2.2.2.1
              have q2 := S2.2.2.2
              have hi2 := q2.jj.1
              have hwp : codes (cStr.getD (9 - 1) "") ∈ SW := by decide
              rw [e3, xt_e p2, x10_e p2, xis_e p2 (by decide) (by decide) rfl, m46_e q2, misS_e q2 (by decide) (by decide) rfl]
              obtain ⟨t1, ⟨ts1, ts2⟩, t3⟩ := t2
              have A2 := K2.1 (K1.1 k6)
              obtain ⟨a1, a2, a3⟩ := Nd_k A2
              have wd2 := K2.2.1 wd
              by_cases c5 : isX (tk e.TS (i + 1 + 1)) (codes (cStr.getD (9 - 1) ""))
              · have c6 := (isX_S p2.V hwp).mp c5
                rw [if_pos c5, if_pos c6, if_neg z10, if_neg z10, xP_e p2, ldI_e t1, ldR_e t1, m46_e q2, t3]
                obtain ⟨n', rfl⟩ : ∃ k, n = k + 1 := ⟨n - 1, by omega⟩
                obtain ⟨m'', rfl⟩ : ∃ k, m = k + 1 := ⟨m - 1, by omega⟩
                have hnd : nd ≠ 0 := fun z => by
                  have := A2; rw [z] at this
                  have k0 := (Nd_k this).1
                  have : kc hx2 0 = 0 := (p2.1.2.2 0 (by omega)).1.trans (by decide)
                  rw [this] at k0; exact absurd k0 (by decide)
                have C := call_pair (s' := fr hm2 353 nt) (at' := (tk e.TS (i + 1)).2.1) (bit := 1) (n := n') (m := m'') hd1 hd hE (by omega) (by omega) (show i0 < i + 1 + 1 by omega) (S2.1.le (by omega)) (S2.2.1.le (by omega)) p2 q2 hI c6 wd2 ⟨ts1, ts2⟩ (.inr ⟨hnd, A2, rfl⟩) (by omega) (by omega)
                show POut e hx0 hm0 i0 TY0 QU0 IT0 (bd (f_X10_call_o (r_S4 n') e.P (nI (tk e.TS (i + 1)).2.1) nd (fr hx1 154 e.t) (nI d) hx2) (fun x20 h21 => f_X10_postfix_l5 (r_S4 (n' + 1)) e.P (nI d) NX x20 1 h21)) (bd (f_X48_arguments_o (r_S7 m'') e.Q (nI d) hm2) (cItm e (tk e.TS (i + 1)).2.1 (fr hm2 353 nt) (Int64.ofNat 1) (fun h16 => f_X48_postfix_l5 (r_S7 (m'' + 1)) e.Q (nI d) NM h16)))
                rcases C with ⟨n5, hx5, hm5, j, ty5, qu5, its5, H5, d5, x1, x2, x3⟩ | ⟨P, hx5, x1, x2, x3, x4⟩
                · have hj := x3.2.2.2.2.2.1.jj.1
                  dsimp only at x2
                  rw [x1, bd_ok, x2]
                  exact ih n5 hx5 hm5 j ty5 qu5 its5 H5 d5 NX NM (by omega) (by omega) (by have := x3.1; omega) x3.2
                · exact .inr ⟨P, hx5, by rw [x1]; rfl, x2, x3, x4 _ _ 0 (fun h5 n5 => vP n5)⟩
              · rw [if_neg c5, if_neg (fun z => c5 ((isX_S p2.V hwp).mpr z)), if_pos y00, if_pos y00, ldI_e t1, ldR_e t1, m46_e q2, t3]
                obtain ⟨hx4, e5, s5, r1, r2, r3, r4, r5, r6, r7, r8⟩ := xk_mem p2.1 (pl := nI (tk e.TS (i + 1)).2.1) (s := fr hx1 154 e.t) a1 a2 a3
                obtain ⟨S4, K4⟩ := S2.nod s5
                obtain ⟨hm4, e6, S5, M5⟩ := S4.itm (by omega) (op := 6) (at' := (tk e.TS (i + 1)).2.1) (n := 0) (OP := 6) (NN' := 0) (bits := 0) (o := none) rfl rfl ⟨ts1, ts2⟩ rfl
                rw [e5, e6]
                refine ih (nx hx2) hx4 hm4 (i + 1 + 1) _ _ _ (max 1 (H + 1)) (dd + 1) NX NM (by omega) (by omega) (by omega) (S5.pok (by omega) (by omega) (by omega) ?_ (by omega) (by rw [List.length_append, List.length_singleton]; omega) (n5e (by decide)))
                refine .inr ⟨_, r2, r3, r4, by omega, (by first | exact S.1.1.nw | exact S1.1.1.nw | exact S2.1.1.nw | exact S3.1.1.nw | exact S4.1.1.nw | exact S5.1.1.nw | exact S6.1.1.nw | exact S7.1.1.nw | exact S8.1.1.nw), ?_⟩
                exact .inr (.inr (.inr (.inr (.inr (.inl ⟨r1, r7, r8, _, its, H, by rw [r6]; exact K4.2.1 wd2, by rw [r5]; exact K4.1 (sgl A2 p2.1.new), by omega, rfl⟩)))))
            · obtain ⟨t1, ⟨ts1, ts2⟩, t3⟩ := t2
              have M : MF e hm2 P ((IT0 ++ its).length + 1) (22 + 0) (if kc hm2 e.Q = 46 then bd (f_X48_isSign e.Q 9 hm2) (fun x7 h8 => if x7 = 0 then (ldI 45 354 nt h8 fun x9 => ldR 45 353 nt h8 fun x10 => if kc h8 e.Q = 46 then bd (f_X48_item e.Q (6 : Int32) x9 x10 (0 : Int64) (0 : Int32) 0 h8) (fun _ h11 => f_X48_postfix_l5b149 (r_S7 m) e.Q (nI d) (f_X48_postfix_l5 (r_S7 m) e.Q (nI d) NM) h11) else none) else (ldI 45 354 nt h8 fun x12 => ldR 45 353 nt h8 fun x13 => if kc h8 e.Q = 46 then bd ((r_S7 m).1 e.Q (nI d) h8) (fun x14 h15 => if kc h15 e.Q = 46 then bd (f_X48_item e.Q (7 : Int32) x12 x13 (1 : Int64) x14 0 h15) (fun _ h16 => f_X48_postfix_l5b149 (r_S7 m) e.Q (nI d) (f_X48_postfix_l5 (r_S7 m) e.Q (nI d) NM) h16) else none) else none)) else none) := by
                refine v46 n2 (vS n2 (by decide) (by decide) ?_)
                rw [if_pos y00, ldI_e t1, ldR_e t1, t3]
                exact v46 n2 (vIt n2 (by omega) (op := 6) (n := 0) (o := none) rfl rfl ⟨ts1, ts2⟩ rfl fun h5 _ n5 => vP n5)
              rw [e3]
              exact POut.fail (F2 M) (by omega) (by omega) (by omega)
          · obtain ⟨hx2, e2, s2, f2⟩ := xnameN p1 c4
            obtain ⟨hm2, e3, s3, f3⟩ := mnameN q1 c4
            rw [e2, e3]
            exact POut.fail (S1.err s2 f2 s3 f3) (by omega) (Nat.le_refl _) (by omega)
        · rw [e1]
          exact POut.fail (F1 (v46 n1 (vName (N2 := 0) n1))) (by omega) (by omega) (by omega)
      · rw [xaccN p (by decide) (by decide) rfl c2, if_neg (fun z => c2 ((isX_S p.V hw2).mpr z)), if_pos y00, if_pos y00, m46_e q, misS_e q (by decide) (by decide) rfl, if_neg c1', if_pos y00]
        obtain ⟨NX', rfl⟩ : ∃ k, NX = k + 1 := ⟨NX - 1, by omega⟩
        rw [f_X10_postfix_l5_s]
        unfold b_X10_postfix_l5
        rw [if_pos y00]
        exact POut.ok kk
