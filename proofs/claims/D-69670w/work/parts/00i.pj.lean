/-! PHASE B parser 19: signs between operands -/
set_option maxRecDepth 100000
theorem PX.f27 {e : EE} {h h' : HP} {i : Nat} {TY : List Ty} {QU : List (List Nat)} (p : PX e h i TY QU) (w' : WG h') (F : Fr (fun k => decide (k ≠ 27)) h h') : PX e h' i TY QU := by
  obtain ⟨w, ⟨k1, f1, f2, f3, f4, f5, k2, k3, c1, c2, c3, c4, c5, c6, c7⟩, ⟨T, X, hi, L⟩, l1, l2, l3, l4, l5, l6⟩ := p
  have kP0 : kc h e.P ≠ 0 := by rcases k1 with z | z <;> rw [z] <;> decide
  have kPs : decide (kc h e.P ≠ 27) = true := by rcases k1 with z | z <;> rw [z] <;> decide
  obtain ⟨q1, q2, q3⟩ := F.at rfl kP0 kPs
  obtain ⟨r1, r2, r3⟩ := F.at (p := e.cl) rfl (by omega) (decide_eq_true (by omega))
  obtain ⟨a1, _, a3⟩ := F.at T.1 (by decide) (by decide)
  obtain ⟨b1, b2, b3⟩ := F.at k2 (by decide) (by decide)
  obtain ⟨d1, d2, d3⟩ := F.at k3 (by decide) (by decide)
  refine ⟨w', ⟨by rw [q1]; exact k1, (q3.2.2.1 156).trans f1, (q3.2.2.1 157).trans f2, (q3.2.2.1 158).trans f3, (q3.2.2.1 159).trans f4, (q3.2.2.1 160).trans f5, b1, d1, by rw [r1]; exact c1, by rw [r1]; exact c2, by rw [r1]; exact c3, by rw [r1]; exact c4, by rw [r3.2.2.2.2.2.2.2.2]; exact c5, ?_, c7⟩, ⟨?_, ?_, hi, L⟩, by rw [b3.2.2.2.2.2.2.2.2]; exact l1, ?_, by rw [d3.2.2.2.2.2.2.2.2]; exact l3, ?_, l5, l6⟩
  · rw [r3.2.2.2.2.2.2.1]; exact c6.imp fun a _ b z => StrX_fr F z (by decide)
  · obtain ⟨t1, t2, t3, t4, t5, t6⟩ := T
    obtain ⟨s1, _, s3⟩ := F.at t5 (by decide) (by decide)
    refine ⟨a1, (a3.1 149).trans t2, ?_, (a3.2.2.1 150).trans t4, s1, ?_⟩
    · rw [a3.2.2.1 148]
      have k200 : 200 ≤ kc h (fr h 148 e.t) := Nat.le_of_not_lt fun z => by
        have := t3.1; unfold tiK at this; rw [if_pos z] at this; omega
      exact ByA_fr F t3 (decide_eq_true (by omega))
    · rw [s3.2.2.1 27]; exact (F.at t6 (by decide) (by decide)).1
  · obtain ⟨x1, x2, x3, x4, x5, x6⟩ := X
    have hs := StrX_fr F (⟨x4, x5⟩ : StrX h (fr h 154 e.t) _) (by decide)
    exact ⟨(a3.1 151).trans x1, (a3.1 152).trans x2, (a3.1 153).trans x3, by rw [a3.2.2.1 154]; exact hs.1, by rw [a3.2.2.1 154]; exact hs.2, fun y z => (a3.2.1 155).trans (x6 y z)⟩
  · rw [b3.2.2.2.2.2.2.1]; exact l2.imp fun a _ b z => TyX_fr F z (by decide) (by decide)
  · rw [d3.2.2.2.2.2.2.1]; exact l4.imp fun a _ b z => QtX_fr F z (by decide) (by decide)
variable {e : EE} {hx hm h h' : HP} {i j a : Nat} {IT : List It} {TY : List Ty} {QU : List (List Nat)}
/-- binary levels -/
def GB (e : EE) (d l : Nat) : Prop := ∀ n m hx hm i TY QU IT, nE d ≤ n + 1 + l → nE d ≤ m + 1 + l → PX e hx i TY QU → PM e hm i IT TY QU → IT.length ≤ 3 * i ∧ e.il ≠ 0 → POut e hx hm i TY QU IT ((r_S4 n).1 e.P (nI l) (nI d) hx) ((r_S7 m).2.2.2.2.1 e.Q (nI l) (nI d) hm)
/-- behind an operand where there is no token -/
theorem vRk {p N N2 d m l k : Nat} (n : PN e h p N) (hk : l + k = 10) (hm : k + 4 ≤ m) (hN : N ≤ N2) : MF e h p N2 1 ((r_S7 m).2.2.2.2.1 e.Q (nI l) (nI d) h) := by
  obtain ⟨m', rfl⟩ : ∃ x, m = x + 4 + k := ⟨m - 4 - k, by omega⟩
  exact vRank k l n hk hN
theorem rank_l {hx0 hm0 : HP} {i0 d l n m : Nat} {TY0 : List Ty} {QU0 : List (List Nat)} {IT0 : List It} (hd1 : 1 ≤ d) (hd : d ≤ 30) (hl9 : l ≤ 9) (hB : GB e d (l + 1)) (hn : nE d ≤ n + 2 + l) (hm' : nE d ≤ m + 2 + l) (hI : IT0.length ≤ 3 * i0 ∧ e.il ≠ 0) (N : Nat) :
    ∀ (nd : Nat) (hx hm : HP) (i : Nat) (ty : List Ty) (qu : List (List Nat)) (its : List It) (H dd NX NM : Nat), N < NX → N < NM → e.TS.length - i < N → POk e hx0 hm0 i0 TY0 QU0 IT0 nd hx hm i ty qu its H dd →
    POut e hx0 hm0 i0 TY0 QU0 IT0 (f_X10_binary_l80 (r_S4 n) e.P (nI l) (nI d) NX nd (nI (tw (tk e.TS i))) hx) (f_X48_ranked_l75 (r_S7 m) e.Q (nI l) (nI d) NM hm) := by
  induction N with
  | zero => intro nd hx hm i ty qu its H dd NX NM _ _ h1; omega
  | succ N ih =>
    intro nd hx hm i ty qu its H dd NX NM hNX hNM h1 k
    obtain ⟨NX, rfl⟩ : ∃ k, NX = k + 1 := ⟨NX - 1, by omega⟩
    obtain ⟨NM, rfl⟩ : ∃ k, NM = k + 1 := ⟨NM - 1, by omega⟩
    have kk := k
    have S := k.sq
    obtain ⟨k1, k2, k3, p, q, k6, k7, k8, k9⟩ := k
    have hi := q.jj.1
    have h3 := q.jj.2.2.2
    have g3 : nE d = 16 * (31 - d) + 4 := rfl
    have hl : (IT0 ++ its).length = IT0.length + its.length := List.length_append
    have mt := q.mt0
    obtain ⟨m1, m2, m3, m4, m5, m6⟩ := q.mt0
    have V := p.V
    have V9 := V.2.2.2.2.2.2.2
    have vP : ∀ {p N : Nat} {h : HP}, PN e h p N → MF e h p N 0 (f_X48_ranked_l75 (r_S7 m) e.Q (nI l) (nI d) NM h) := fun n => by
      obtain ⟨NM', rfl⟩ : ∃ k, NM = k + 1 := ⟨NM - 1, by omega⟩
      exact vRankK NM' n
    rw [f_X10_binary_l80_s, f_X48_ranked_l75_s]
    unfold b_X10_binary_l80 b_X48_ranked_l75
    rw [m46_e q, mtok_e q, ldI_e m1, m2]
    by_cases c8 : (tk e.TS i).1 = 8
    · have hSW := V.2.1 c8
      obtain ⟨r1, r2, r3⟩ := rk_wh _ hSW
      have y8 : nI (tk e.TS i).1 = (8 : Int32) := by rw [c8]; rfl
      have tw8 : tw (tk e.TS i) = wh (tk e.TS i).2.2.1 := if_pos c8
      rw [if_pos y8, m46_e q, mtok_e q, ldR_e m1, mrank_e q.1 ⟨m4, m5⟩ hSW, tw8]
      by_cases w0 : wh (tk e.TS i).2.2.1 = 0
      · rw [w0, if_pos (show nI 0 ≤ (0 : Int32) from by decide), if_pos (r1.mp w0), if_neg (show ¬ (-1 : Int32) = nI l from fun z => by
          have : (-1 : Int32) = nI l ↔ False := by
            have hl' : l = 0 ∨ l = 1 ∨ l = 2 ∨ l = 3 ∨ l = 4 ∨ l = 5 ∨ l = 6 ∨ l = 7 ∨ l = 8 ∨ l = 9 := by omega
            rcases hl' with y | y | y | y | y | y | y | y | y | y <;> rw [y] <;> decide
          exact this.mp z)]
        exact POut.ok kk
      · have r99 : rk (tk e.TS i).2.2.1 ≠ 99 := fun z => w0 (r1.mpr z)
        have rr := r2 w0
        rw [if_neg (show ¬ nI (wh (tk e.TS i).2.2.1) ≤ (0 : Int32) from fun z => w0 (by have := (nI_leI (a := wh (tk e.TS i).2.2.1) (b := 0) (by omega) (by omega)).mp z; omega)), x_level r3, bd_ok, lv_rk _ hSW w0, if_neg r99]
        by_cases cl : rk (tk e.TS i).2.2.1 = l
        · have cl' : nI (rk (tk e.TS i).2.2.1) = nI l := by rw [cl]
          have g : tkGo (tk e.TS i) := ⟨by omega, by omega⟩
          rw [if_pos cl', if_pos cl', xt_e p, xplc_e p, xt_e p, x10_e p, m46_e q, mtok_e q, mfwd_e q]
          -- the twin's last item
          have tl : ∀ {P N : Nat} {h5 : HP}, Km hm h5 → PN e h5 P N → N ≤ 900 ∧ e.il ≠ 0 → MF e h5 P (N + 1) (22 + 0) (if (2 : Int32) ≤ nI l then f_X48_ranked_l75b159 (r_S7 m) e.Q (nI l) (nI d) (f_X48_ranked_l75 (r_S7 m) e.Q (nI l) (nI d) NM) (e.tok hm i) e.Q (11 : Int32) h5 else f_X48_ranked_l75b159 (r_S7 m) e.Q (nI l) (nI d) (f_X48_ranked_l75 (r_S7 m) e.Q (nI l) (nI d) NM) (e.tok hm i) e.Q (14 : Int32) h5) := by
            intro P N h5 M n5 hN
            obtain ⟨w1, w2, w3, w4, w5, w6⟩ := M.2.2.2 mt
            split
            · unfold f_X48_ranked_l75b159
              rw [ldI_e w1, w3, ldR_e w1]
              exact v46 n5 (vIt n5 hN (op := 11) (n := 0) (o := none) rfl rfl ⟨w4, w5⟩ rfl fun h6 _ n6 => vP n6)
            · unfold f_X48_ranked_l75b159
              rw [ldI_e w1, w3, ldR_e w1]
              exact v46 n5 (vIt n5 hN (op := 14) (n := 0) (o := none) rfl rfl ⟨w4, w5⟩ rfl fun h6 _ n6 => vP n6)
          -- both behind the sign (and the twin's first item)
          have beh : ∀ {X Y c : Nat} {hx1 hm1 : HP} {itc : List It}, Sq e hx0 hm0 TY0 QU0 IT0 X Y hx1 hm1 (i + 1) ty qu (its ++ itc) → Kp e hx hx1 → Km hm hm1 → X = 60 * (i - i0) + 20 → Y ≤ 60 * (i - i0) + 22 → itc.length = c → c ≤ 1 →
              (∀ y : List It, (if rk (tk e.TS i).2.2.1 < 2 then its ++ [(13, (tk e.TS i).2.1, (tk e.TS i).2.2.1, 0, 0, none)] ++ y ++ [(14, (tk e.TS i).2.1, (tk e.TS i).2.2.1, 0, 0, none)] else its ++ y ++ [(11, (tk e.TS i).2.1, (tk e.TS i).2.2.1, 0, 0, none)]) = its ++ itc ++ y ++ [(if (2 : Int32) ≤ nI l then 11 else 14, (tk e.TS i).2.1, (tk e.TS i).2.2.1, 0, 0, none)]) →
              POut e hx0 hm0 i0 TY0 QU0 IT0 (if kc hx1 e.P ∈ [11, 12] then bd ((r_S4 n).1 e.P (nI l + (1 : Int32)) (nI d) hx1) (fun x7 h8 => nwO 28 7 h8 fun p9 h10 => if kc h10 p9 = 28 then bd (f_X28_init p9 (nI (tk e.TS i).2.1) (nI (wh (tk e.TS i).2.2.1)) nd x7 h10) (fun _ h11 => if kc h11 p9 ∈ [28] then bd (f_X15_over p9 nd h11) (fun x12 h13 => if kc h13 x12 ∈ [16, 17, 18, 19, 20, 21, 22, 23, 24, 25, 27, 28, 29] then bd (f_X15_over x12 x7 h13) (fun x14 h15 => if kc h15 e.P ∈ [11, 12] then bd (f_X10_sign e.P h15) (fun x16 h17 => f_X10_binary_l80 (r_S4 n) e.P (nI l) (nI d) NX x14 x16 h17) else none) else none) else none) else none) else none) (f_X48_ranked_l75b138 (r_S7 m) e.Q (nI l) (nI d) (f_X48_ranked_l75 (r_S7 m) e.Q (nI l) (nI d) NM) (e.tok hm i) hm1) := by
            intro X Y c hx1 hm1 itc S1 K1 M1 hX hY hc c1 hits
            have p1 := S1.2.2.1
            have q1 := S1.2.2.2
            have hi1 := q1.jj.1
            have hl2 : (IT0 ++ (its ++ itc)).length = IT0.length + (its.length + c) := by rw [List.length_append, List.length_append, hc]
            unfold f_X48_ranked_l75b138
            rw [xP_e p1, m46_e q1, show nI l + (1 : Int32) = nI (l + 1) from nI_1 l]
            rcases hB n m hx1 hm1 (i + 1) _ _ _ (by omega) (by omega) p1 q1 (by omega) with ⟨nb, hx2, hm2, j, ty2, qu2, its2, H2, d2, e2, e3, k5⟩ | f
            · obtain ⟨hij, S2, K2, M2, N2, hH2, hl3, _⟩ := S1.sub k5
              have q2 := S2.2.2.2
              have hj := q2.jj.1
              have hl4 : (IT0 ++ (its ++ itc ++ its2)).length = IT0.length + (its.length + c + its2.length) := by rw [List.length_append, List.length_append, List.length_append, hc]
              have A2 := K2.1 (K1.1 k6)
              obtain ⟨a1, a2, a3⟩ := Nd_k A2
              obtain ⟨b1, b2, b3⟩ := Nd_k N2
              obtain ⟨hx4, e5, s5, x1, x2, x3, x4, x5, x6, x7, x8⟩ := xk_bin S2.2.2.1.1 (pl := nI (tk e.TS i).2.1) (c := nI (wh (tk e.TS i).2.2.1)) a1 a2 a3 b1 b2 b3
              obtain ⟨S4, K4⟩ := S2.nod s5
              have p4 := S4.2.2.1
              obtain ⟨w1, w2, w3, w4, w5, w6⟩ := M2.2.2.2 (M1.2.2.2 mt)
              obtain ⟨hm4, e6, S5, M5⟩ := S4.itm (by omega) (op := if (2 : Int32) ≤ nI l then 11 else 14) (at' := (tk e.TS i).2.1) (n := 0) (OP := if (2 : Int32) ≤ nI l then 11 else 14) (NN' := 0) (bits := 0) (o := none) (by split <;> rfl) rfl (⟨w4, w5⟩ : StrX hm2 _ _) rfl
              rw [e2, e3, bd_ok, bd_ok, e5, xP_e p4, xsign_e p4]
              have tw' : (if (2 : Int32) ≤ nI l then f_X48_ranked_l75b159 (r_S7 m) e.Q (nI l) (nI d) (f_X48_ranked_l75 (r_S7 m) e.Q (nI l) (nI d) NM) (e.tok hm i) e.Q (11 : Int32) hm2 else f_X48_ranked_l75b159 (r_S7 m) e.Q (nI l) (nI d) (f_X48_ranked_l75 (r_S7 m) e.Q (nI l) (nI d) NM) (e.tok hm i) e.Q (14 : Int32) hm2) = f_X48_ranked_l75 (r_S7 m) e.Q (nI l) (nI d) NM hm4 := by
                have : ∀ OP : Int32, f_X48_ranked_l75b159 (r_S7 m) e.Q (nI l) (nI d) (f_X48_ranked_l75 (r_S7 m) e.Q (nI l) (nI d) NM) (e.tok hm i) e.Q OP hm2 = bd (f_X48_item e.Q OP (nI (tk e.TS i).2.1) (fr hm2 351 (e.tok hm i)) 0 0 0 hm2) (fun _ h3 => f_X48_ranked_l75 (r_S7 m) e.Q (nI l) (nI d) NM h3) := fun OP => by
                  unfold f_X48_ranked_l75b159
                  rw [ldI_e w1, w3, ldR_e w1, m46_e q2]
                rw [this, this, ← e6 (K := f_X48_ranked_l75 (r_S7 m) e.Q (nI l) (nI d) NM)]
                split <;> rfl
              rw [tw']
              refine ih (nx hx2) hx4 hm4 j _ _ _ (max (H + 1) (H2 + 1)) (max dd d2 + 1) NX NM (by omega) (by omega) (by omega) (S5.pok (by omega) (by omega) (by omega) ?_ (by omega) (by rw [List.length_append, List.length_append, List.length_append, List.length_singleton, hc]; omega) (n5e (by split <;> decide)))
              obtain ⟨⟨D1, D2, D3⟩, DA, DB⟩ := dbl (K1.1 k6) k5.2.2.2.2.2.1 (fun q z => S1.1.1.nwb z) (fun q z => k5.2.1.1.nwb z)
              refine .inr ⟨_, x2, x3, by rw [x4]; congr 1, by omega, (by first | exact S.1.1.nw | exact S1.1.1.nw | exact S2.1.1.nw | exact S3.1.1.nw | exact S4.1.1.nw | exact S5.1.1.nw | exact S6.1.1.nw | exact S7.1.1.nw | exact S8.1.1.nw), ?_⟩
              exact .inr (.inr (.inr (.inr (.inr (.inr (.inr (.inr (.inr (.inr (.inr (.inl ⟨x1, x5, _, its, its2, H, H2, B2 _ _ _ _, hSW, w0, ⟨x6, by rw [x7, x8]; exact ⟨D1, D2, D3 _ ⟨S2.2.2.1.1.new, Nat.le_refl _⟩⟩⟩, by rw [x7]; exact Nd_le (Nat.le_max_left _ _) (K4.1 (K2.1 DA)), by rw [x8]; exact Nd_le (Nat.le_max_right _ _) (K4.1 DB), rfl, (hits its2).symm⟩)))))))))))
            · exact POut.fail (S1.fail (Fail_bdk f fun P v h5 s5 n5 => tl (M1.trans (q1.km s5)) n5 (by omega))) (by omega) (by omega) (by omega)
          rcases S.go g with ⟨hx1, e1, S1, K1, M1⟩ | ⟨hx1, P, e1, n1, M1, F1⟩
          · have q1 := S1.2.2.2
            rw [e1]
            by_cases c2 : (2 : Int32) ≤ nI l
            · rw [if_pos c2]
              have c2' : ¬ rk (tk e.TS i).2.2.1 < 2 := fun z => by have := (nI_leI (a := 2) (b := l) (by omega) (by omega)).mp c2; omega
              refine beh (c := 0) (itc := []) (by rw [List.append_nil]; exact S1) K1 M1 rfl (by omega) rfl (by omega) fun y => ?_
              rw [if_neg c2', if_pos c2, List.append_nil]
            · rw [if_neg c2]
              have c2' : rk (tk e.TS i).2.2.1 < 2 := by
                refine Nat.lt_of_not_le fun z => c2 ((nI_leI (a := 2) (b := l) (by omega) (by omega)).mpr (by omega))
              obtain ⟨w1, w2, w3, w4, w5, w6⟩ := M1.2.2.2 mt
              obtain ⟨hm4, e6, S5, M5⟩ := S1.itm (by omega) (op := 13) (at' := (tk e.TS i).2.1) (n := 0) (OP := 13) (NN' := 0) (bits := 0) (o := none) rfl rfl (⟨w4, w5⟩ : StrX (fwd e hm i) _ _) rfl
              rw [ldI_e w1, w3, ldR_e w1, m46_e q1, e6]
              refine beh (c := 1) S5 K1 (M1.trans M5) rfl (by omega) rfl (by omega) fun y => ?_
              rw [if_pos c2', if_neg c2]
          · rw [e1]
            by_cases c2 : (2 : Int32) ≤ nI l
            · rw [if_pos c2]
              unfold f_X48_ranked_l75b138
              exact POut.fail (F1 (v46 n1 (MF_bdk (show MF e (fwd e hm i) P (IT0 ++ its).length 1 ((r_S7 m).2.2.2.2.1 e.Q (nI l + (1 : Int32)) (nI d) (fwd e hm i)) from by rw [show nI l + (1 : Int32) = nI (l + 1) from nI_1 l]; exact vRk (k := 9 - l) n1 (by omega) (by omega) (Nat.le_refl _)) fun v h5 s5 n5 => tl (M1.trans (n1.km s5)) n5 (by omega)))) (by omega) (by omega) (by omega)
            · rw [if_neg c2]
              obtain ⟨w1, w2, w3, w4, w5, w6⟩ := M1.2.2.2 mt
              rw [ldI_e w1, w3, ldR_e w1]
              unfold f_X48_ranked_l75b138
              refine POut.fail (F1 (v46 n1 (vIt n1 (by omega) (op := 13) (n := 0) (o := none) rfl rfl ⟨w4, w5⟩ rfl (N2 := (IT0 ++ its).length + 1 + 1) (b := 1 + (22 + 0)) fun h6 M6 n6 => v46 n6 (MF_bdk (show MF e h6 P ((IT0 ++ its).length + 1) 1 ((r_S7 m).2.2.2.2.1 e.Q (nI l + (1 : Int32)) (nI d) h6) from by rw [show nI l + (1 : Int32) = nI (l + 1) from nI_1 l]; exact vRk (k := 9 - l) n6 (by omega) (by omega) (Nat.le_refl _)) fun v h5 s5 n5 => tl (M1.trans (M6.trans (n6.km s5))) n5 (by omega))))) (by omega) (by omega) (by omega)
        · have cl' : ¬ nI (rk (tk e.TS i).2.2.1) = nI l := fun z => cl ((nI_eq (by omega) (by omega)).mp z)
          rw [if_neg cl', if_neg cl']
          exact POut.ok kk
    · have tw0 : tw (tk e.TS i) = 0 := if_neg c8
      rw [tw0, if_pos (show nI 0 ≤ (0 : Int32) from by decide), if_neg (fun z => c8 ((nk _ (c := 8) (C := (8 : Int32)) rfl (by omega) (by omega)).mp z))]
      exact POut.ok kk
