/-! PHASE B parser 18: operands -/
set_option maxRecDepth 100000
variable {e : EE} {hx hm h h' : HP} {i j a : Nat} {IT : List It} {TY : List Ty} {QU : List (List Nat)}
/-- the twin at a bracket -/
theorem mprimB (q : PM e hm i IT TY QU) {R : TY_S7} {d : Int32} (c : isS (tk e.TS i) (codes "(")) : f_X48_primary_o R e.Q d hm = bd (f_X48_deeper e.Q d hm) (fun x21 h22 => ldI 46 358 e.Q h22 fun x23 => stI 46 358 e.Q (x23 + (1 : Int32)) h22 fun h24 => if kc h24 e.Q = 46 then bd (R.2.1 e.Q x21 h24) (fun _ h25 => if kc h25 e.Q = 46 then bd (f_X48_sign e.Q 10 h25) (fun _ h26 => ldI 44 350 (e.tok hm i) h26 fun x27 => if kc h26 e.Q = 46 then bd (f_X48_item e.Q (0 : Int32) x27 1 (0 : Int64) (0 : Int32) 0 h26) (fun _ h28 => rok () h28) else none) else none) else none) := by
  obtain ⟨m1, m2, m3, m4, m5, m6⟩ := q.mt0
  have c8 := c.1
  have kk : ∀ {w : List Nat}, ¬ isW (tk e.TS i) w := fun z => by have := z.1; omega
  unfold f_X48_primary_o
  rw [m46_e q, mtok_e q]
  simp only [ldI_e m1, m2]
  rw [c8, if_neg (by decide), if_neg (by decide), if_neg (by decide), if_neg (by decide), if_neg (by decide), m46_e q, misK_e q (by decide) (by decide) rfl, if_neg kk, if_pos y00, m46_e q, misK_e q (by decide) (by decide) rfl, if_neg kk, if_pos y00, m46_e q, misK_e q (by decide) (by decide) rfl, if_neg kk, if_pos y00, m46_e q, misK_e q (by decide) (by decide) rfl, if_neg kk, if_pos y00]
  simp only [ldI_e m1, m2]
  rw [c8, if_neg (by decide), m46_e q, misS_e q (by decide) (by decide) rfl, if_pos (show isS (tk e.TS i) (codes (cStr.getD (9 - 1) "")) from c), if_neg z10, m46_e q]
theorem un_pair {d : Nat} (hd1 : 1 ≤ d) (hd : d ≤ 30) (hE : d < 30 → GE e (d + 1)) (hU : d < 30 → GU e (d + 1)) : GU e d := by
  intro n m hx hm i TY QU IT hn hm' p q hI
  have hi := q.jj.1
  have h3 := q.jj.2.2.2
  have g3 : nE d = 16 * (31 - d) + 4 := rfl
  obtain ⟨n, rfl⟩ : ∃ k, n = k + 1 := ⟨n - 1, by omega⟩
  obtain ⟨m, rfl⟩ : ∃ k, m = k + 1 := ⟨m - 1, by omega⟩
  show POut e hx hm i TY QU IT (f_X10_unary_o (r_S4 n) e.P (nI d) hx) (f_X48_unary_o (r_S7 m) e.Q (nI d) hm)
  have S := Sq.start p q
  have mt := q.mt0
  have hl : (IT ++ ([] : List It)).length = IT.length := by simp
  have N400 := NN_ge (k := 500) (by omega)
  unfold f_X10_unary_o f_X48_unary_o
  rw [xt_e p, xplc_e p, xt_e p, x10_e p, xis_e p (by decide) (by decide) rfl, m46_e q, mtok_e q, m46_e q, misS_e q (by decide) (by decide) rfl]
  by_cases c1 : isX (tk e.TS i) (codes (cStr.getD (14 - 1) ""))
  · have c2 := (isX_S p.V (by decide)).mp c1
    rw [if_pos c1, if_pos c2, if_neg z10, if_neg z10]
    exact pre_pair hd hU (by omega) (by omega) p q hI (c := 45) (.inl rfl) ⟨c2.1, c2.2.trans (by decide)⟩
  rw [if_neg c1, if_neg (fun z => c1 ((isX_S p.V (by decide)).mpr z)), if_pos y00, if_pos y00, xt_e p, x10_e p, xis_e p (by decide) (by decide) rfl, m46_e q, misS_e q (by decide) (by decide) rfl]
  by_cases c3 : isX (tk e.TS i) (codes (cStr.getD (4 - 1) ""))
  · have c2 := (isX_S p.V (by decide)).mp c3
    rw [if_pos c3, if_pos c2, if_neg z10, if_neg z10]
    exact pre_pair hd hU (by omega) (by omega) p q hI (c := 33) (.inr (.inl rfl)) ⟨c2.1, c2.2.trans (by decide)⟩
  rw [if_neg c3, if_neg (fun z => c3 ((isX_S p.V (by decide)).mpr z)), if_pos y00, if_pos y00, xt_e p, x10_e p, xis_e p (by decide) (by decide) rfl, m46_e q, misS_e q (by decide) (by decide) rfl]
  by_cases c4 : isX (tk e.TS i) (codes (cStr.getD (77 - 1) ""))
  · have c2 := (isX_S p.V (by decide)).mp c4
    rw [if_pos c4, if_pos c2, if_neg z10, if_neg z10]
    exact pre_pair hd hU (by omega) (by omega) p q hI (c := 126) (.inr (.inr rfl)) ⟨c2.1, c2.2.trans (by decide)⟩
  rw [if_neg c4, if_neg (fun z => c4 ((isX_S p.V (by decide)).mpr z)), if_pos y00, if_pos y00, xt_e p, x10_e p, xis_e p (by decide) (by decide) rfl, m46_e q, misS_e q (by decide) (by decide) rfl]
  obtain ⟨n, rfl⟩ : ∃ k, n = k + 1 := ⟨n - 1, by omega⟩
  obtain ⟨m, rfl⟩ : ∃ k, m = k + 1 := ⟨m - 1, by omega⟩
  have ePx : ∀ (x : Nat) (h : HP), (r_S4 (n + 1)).2.2.2.1 e.P x (nI d) h = f_X10_postfix_l5 (r_S4 n) e.P (nI d) NN x 1 h := fun x h => by
    show f_X10_postfix_o (r_S4 n) e.P x (nI d) h = _
    unfold f_X10_postfix_o
    rw [bd_r]
  have ePm : ∀ (h : HP), (r_S7 (m + 1)).2.2.1 e.Q (nI d) h = if kc h e.Q = 46 then bd ((r_S7 m).2.2.2.1 e.Q (nI d) h) (fun _ h1 => f_X48_postfix_l5 (r_S7 m) e.Q (nI d) NN h1) else none := fun h => by
    show f_X48_postfix_o (r_S7 m) e.Q (nI d) h = _
    unfold f_X48_postfix_o
    simp only [bd_u]
  by_cases c5 : isX (tk e.TS i) (codes (cStr.getD (9 - 1) ""))
  · have c6 : isS (tk e.TS i) (codes "(") := (isX_S p.V (by decide)).mp c5
    have g := go_of c6
    have hi1 := q.jj.2.1.go hi g
    rw [if_pos c5, if_pos (show isS (tk e.TS i) (codes (cStr.getD (9 - 1) "")) from c6), if_neg z10, if_neg z10, xP_e p, m46_e q, mcast_e q hi1]
    by_cases d30 : d = 30
    · obtain ⟨hx1, e1, s1, f1⟩ := xdeepN p d30
      obtain ⟨hm1, e2, s2, f2⟩ := mdeepN q d30
      rw [e1]
      by_cases cc : caT e (tk e.TS (i + 1))
      · rw [if_pos cc, if_neg z10, m46_e q, e2]
        exact POut.fail (S.err s1 f1 s2 f2) (by omega) (Nat.le_refl _) (by omega)
      · obtain ⟨m, rfl⟩ : ∃ k, m = k + 1 := ⟨m - 1, by omega⟩
        rw [if_neg cc, if_pos y00, m46_e q, ePm, m46_e q, show (r_S7 (m + 1)).2.2.2.1 e.Q (nI d) hm = f_X48_primary_o (r_S7 m) e.Q (nI d) hm from rfl, mprimB q c6, e2]
        exact POut.fail (S.err s1 f1 s2 f2) (by omega) (Nat.le_refl _) (by omega)
    have hd' : d < 30 := by omega
    have gE := hE hd'
    have g4 : nE (d + 1) = 16 * (30 - d) + 4 := by unfold nE; omega
    rw [xdeepY hd', xt_e p, x10_e p]
    rcases S.go g with ⟨hx1, e1, S1, K1, M1⟩ | ⟨hx1, P, e1, n1, M1, F1⟩
    · have p1 := S1.2.2.1
      have q1 := S1.2.2.2
      rw [e1, xP_e p1]
      unfold f_X10_unary_b200 f_X10_unary_b196
      rw [xcast_e p1 (A := fun h33 => f_X10_unary_b201 (r_S4 (n + 1)) e.P (nI d) (nI (tk e.TS i).2.1) (nI (d + 1)) 0 h33) (C := fun h33 => f_X10_unary_b201 (r_S4 (n + 1)) e.P (nI d) (nI (tk e.TS i).2.1) (nI (d + 1)) 1 h33)]
      by_cases cc : caT e (tk e.TS (i + 1))
      · rw [if_pos cc, if_pos cc, if_neg z10, m46_e q, mdeepY hd', mfwd_e q]
        exact cast_pair hd' (hU hd') (by omega) (by omega) p q hI c6 S1 M1
      · obtain ⟨m, rfl⟩ : ∃ k, m = k + 1 := ⟨m - 1, by omega⟩
        rw [if_neg cc, if_neg cc, if_pos y00, m46_e q, ePm, m46_e q, show (r_S7 (m + 1)).2.2.2.1 e.Q (nI d) hm = f_X48_primary_o (r_S7 m) e.Q (nI d) hm from rfl, mprimB q c6, mdeepY hd', mfwd_e q, bd_u]
        unfold f_X10_unary_b201
        rw [if_pos y00, xP_e p1, m46_e q1]
        -- the twin behind the operand
        have tl : ∀ {P N : Nat} {h5 : HP}, Km hm h5 → PN e h5 P N → N ≤ 900 ∧ e.il ≠ 0 → MF e h5 P (N + 1) (22 + 0 + 0) (bd (ldI 44 350 (e.tok hm i) h5 fun x27 => if kc h5 e.Q = 46 then bd (f_X48_item e.Q (0 : Int32) x27 1 (0 : Int64) (0 : Int32) 0 h5) (fun _ h28 => rok () h28) else none) (fun _ h1 => f_X48_postfix_l5 (r_S7 (m + 1)) e.Q (nI d) NN h1)) := by
          intro P N h5 M n5 hN
          obtain ⟨w1, w2, w3, w4, w5, w6⟩ := M.2.2.2 mt
          rw [ldI_e w1, w3]
          exact MF.bd (v46 n5 (vIt n5 hN (op := 0) (n := 0) (o := none) rfl rfl (str1 n5.w) rfl fun h6 _ n6 => MF.ok n6 ())) fun v h6 n6 => vPostL n6
        rcases gE (n + 1) m hx1 _ (i + 1) _ _ _ (by omega) (by omega) p1 q1 (by omega) with ⟨nb, hx2, hm2, j, ty2, qu2, its2, H2, d2, e2, e3, k5⟩ | f
        · obtain ⟨hij, S2, K2, M2, N2, hH2, hl2, h9⟩ := S1.sub k5
          have p2 := S2.2.2.1
          have q2 := S2.2.2.2
          have hj := q2.jj.1
          have hw : codes (cStr.getD (10 - 1) "") ∈ SW := by decide
          have hl3 : (IT ++ ([] ++ its2)).length = IT.length + its2.length := by simp
          rw [e2, e3, bd_ok, bd_ok, xt_e p2, x10_e p2, m46_e q2]
          by_cases c7 : isX (tk e.TS j) (codes (cStr.getD (10 - 1) ""))
          · have c8 := (isX_S p2.V hw).mp c7
            rw [xexpY p2 (by decide) (by decide) rfl c7, msgnY q2 (by decide) (by decide) rfl c8]
            rcases S2.go (go_of c8) with ⟨hx3, e4, S3, K3, M3⟩ | ⟨hx3, P, e4, n3, M3, F3⟩
            · have p3 := S3.2.2.1
              have q3 := S3.2.2.2
              have hj3 := q3.jj.1
              obtain ⟨w1, w2, w3, w4, w5, w6⟩ := M3.2.2.2 (M2.2.2.2 (M1.2.2.2 mt))
              obtain ⟨hm4, e6, S4, M4⟩ := S3.itm (by omega) (op := 0) (at' := (tk e.TS i).2.1) (n := 0) (OP := 0) (NN' := 0) (bits := 0) (o := none) rfl rfl (str1 q3.1) rfl
              rw [e4, xP_e p3, ldI_e w1, w3, m46_e q3, e6, bd_ok, ePx, bd_r]
              refine post_l hd1 hd hE (by omega) (by omega) hI 400 nb hx3 hm4 (j + 1) _ _ _ H2 (d2 + 1) NN NN (by omega) (by omega) (by omega) (S4.pok (by omega) (by omega) (by omega) (.inl ⟨its2, (tk e.TS i).2.1, K3.1 N2, rfl, fun b s z => ?_⟩) (by omega) (by rw [List.length_append, List.length_append, List.length_singleton]; show 0 + its2.length + 1 ≤ _; omega) (n5e (by decide)))
              have y := h9 b s z
              exact fun w => cc (.inr ⟨y.1, .inr (.inr (by rw [y.2]; exact w))⟩)
            · rw [e4]
              exact POut.fail (F3 (tl (M1.trans (M2.trans M3)) n3 (by omega))) (by omega) (by omega) (by omega)
          · obtain ⟨hx3, e4, s4, f4⟩ := xexpN p2 (by decide) (by decide) rfl c7
            obtain ⟨hm3, e5, s5, f5⟩ := msgnN q2 (by decide) (by decide) rfl (fun z => c7 ((isX_S p2.V hw).mpr z))
            rw [e4, e5]
            exact POut.fail (S2.err s4 f4 s5 f5) (by omega) (Nat.le_refl _) (by omega)
        · have F := f.bd (K1 := fun x1 h2 => (none : Rs Nat)) (K2 := fun _ h25 => if kc h25 e.Q = 46 then bd (f_X48_sign e.Q 10 h25) (fun _ h26 => ldI 44 350 (e.tok hm i) h26 fun x27 => if kc h26 e.Q = 46 then bd (f_X48_item e.Q (0 : Int32) x27 1 (0 : Int64) (0 : Int32) 0 h26) (fun _ h28 => rok () h28) else none) else none) (N2 := 0) (c := 1) (fun P v h5 n5 => v46 n5 (vSgn n5 (by decide) (by decide)))
          have F2 := F.bd (K1 := fun x1 h2 => (none : Rs Nat)) (K2 := fun _ h1 => f_X48_postfix_l5 (r_S7 (m + 1)) e.Q (nI d) NN h1) (N2 := 0) (c := 0) (fun P v h5 n5 => vPostL n5)
          obtain ⟨P9, hx9, y1, y2, y3, y4⟩ := S1.fail F2
          obtain ⟨P8, hx8, z1, _⟩ := f
          refine POut.fail (⟨P9, hx9, ?_, y2, y3, y4⟩ : Fail e hx hm _ _ _ _ _) (by omega) (by omega) (by omega)
          rw [z1] at y1 ⊢
          exact y1
    · have q1 := (mfwd_s q g).2
      have k9 := PN_at n1 q1
      have cc : ¬ caT e (tk e.TS (i + 1)) := fun z => by rcases z with z | z; have := z.1; omega; have := z.1; omega
      obtain ⟨m, rfl⟩ : ∃ k, m = k + 1 := ⟨m - 1, by omega⟩
      rw [e1, if_neg cc, if_pos y00, m46_e q, ePm, m46_e q, show (r_S7 (m + 1)).2.2.2.1 e.Q (nI d) hm = f_X48_primary_o (r_S7 m) e.Q (nI d) hm from rfl, mprimB q c6, mdeepY hd', mfwd_e q, bd_u]
      obtain ⟨m', rfl⟩ : ∃ k, m = k + 15 := ⟨m - 15, by omega⟩
      exact POut.fail (F1 (MF.bd (v46 n1 (MF.bd (vExp (m := m') (d := d + 1) n1 (Nat.le_refl _)) fun v h5 n5 => v46 n5 (vSgn (N2 := 0) n5 (by decide) (by decide)))) fun v h5 n5 => vPostL n5)) (by omega) (by omega) (by omega)
  · have hb : ¬ isS (tk e.TS i) (codes "(") := fun z => c5 ((isX_S p.V (by decide)).mpr z)
    obtain ⟨n, rfl⟩ : ∃ k, n = k + 1 := ⟨n - 1, by omega⟩
    obtain ⟨m, rfl⟩ : ∃ k, m = k + 1 := ⟨m - 1, by omega⟩
    rw [if_neg c5, if_neg (show ¬ isS (tk e.TS i) (codes (cStr.getD (9 - 1) "")) from hb), if_pos y00, if_pos y00, xP_e p, m46_e q, ePm, m46_e q, bd_u]
    rcases prim_pair (n := n + 1) (m := m) hd1 hd hE (by omega) (by omega) p q hI hb with ⟨nb, hx2, hm2, j, ty2, qu2, its2, H2, d2, e2, e3, k5⟩ | f
    · rw [show (r_S4 (n + 1 + 1)).2.2.2.2.1 e.P (nI d) hx = f_X10_primary_o (r_S4 (n + 1)) e.P (nI d) hx from rfl, show (r_S7 (m + 1)).2.2.2.1 e.Q (nI d) hm = f_X48_primary_o (r_S7 m) e.Q (nI d) hm from rfl, e2, e3, bd_ok, bd_ok, xP_e k5.2.2.2.1, ePx, bd_r]
      have hj := k5.2.2.2.2.1.jj.1
      exact post_l hd1 hd hE (by omega) (by omega) hI 400 nb hx2 hm2 j ty2 qu2 its2 H2 d2 NN NN (by omega) (by omega) (by omega) k5
    · exact POut.fail (f.bd (K1 := _) fun P v h5 n5 => vPostL n5) (by omega) (Nat.le_refl _) (by omega)
