/-! PHASE B parser 22: conditionals; all expressions -/
set_option maxRecDepth 100000
variable {e : EE} {hx hm h h' : HP} {i j a : Nat} {IT : List It} {TY : List Ty} {QU : List (List Nat)}
theorem cond_pair {d n m nd H dd : Nat} {hx0 hm0 : HP} {i0 : Nat} {TY0 ty : List Ty} {QU0 qu : List (List Nat)} {IT0 its : List It} (hd : d ≤ 30) (hE : d < 30 → GE e (d + 1)) (hn : nE d ≤ n + 2) (hm' : nE d ≤ m + 2) (hI : IT0.length ≤ 3 * i0 ∧ e.il ≠ 0) (k : POk e hx0 hm0 i0 TY0 QU0 IT0 nd hx hm i ty qu its H dd) (c2 : isS (tk e.TS i) (codes (cStr.getD (28 - 1) ""))) :
    POut e hx0 hm0 i0 TY0 QU0 IT0 (bd (f_X10_deeper e.P (nI d) hx) (fun x26 h27 => ldMR ksParser 156 e.P h27 fun x28 => if kc h27 x28 = 10 then bd (f_X9_next x28 h27) (fun _ h29 => if kc h29 e.P ∈ [11, 12] then bd ((r_S4 n).2.2.1 e.P x26 h29) (fun x30 h31 => ldMR ksParser 156 e.P h31 fun x32 => if kc h31 x32 = 10 then bd (f_X9_expect x32 17 h31) (fun _ h33 => if kc h33 e.P ∈ [11, 12] then bd ((r_S4 n).2.2.1 e.P x26 h33) (fun x34 h35 => nwO 29 6 h35 fun p36 h37 => if kc h37 p36 = 29 then bd (f_X29_init p36 (nI (tk e.TS i).2.1) nd x30 x34 h37) (fun _ h38 => if kc h38 p36 ∈ [29] then bd (f_X15_over p36 nd h38) (fun x39 h40 => if kc h40 x39 ∈ [16, 17, 18, 19, 20, 21, 22, 23, 24, 25, 27, 28, 29] then bd (f_X15_over x39 x30 h40) (fun x41 h42 => if kc h42 x41 ∈ [16, 17, 18, 19, 20, 21, 22, 23, 24, 25, 27, 28, 29] then bd (f_X15_over x41 x34 h42) (fun x43 h44 => rok x43 h44) else none) else none) else none) else none) else none) else none) else none) else none))
      (bd (f_X48_deeper e.Q (nI d) hm) (fun x4 h5 => if kc h5 e.Q = 46 then bd (f_X48_token e.Q h5) (fun x6 h7 => ldI 44 350 x6 h7 fun x8 => ldI 46 358 e.Q h7 fun x9 => stI 46 358 e.Q (x9 + (1 : Int32)) h7 fun h10 => if kc h10 e.Q = 46 then bd (f_X48_item e.Q (15 : Int32) x8 1 (0 : Int64) (0 : Int32) 0 h10) (fun _ h11 => if kc h11 e.Q = 46 then bd ((r_S7 m).2.1 e.Q x4 h11) (fun _ h12 => if kc h12 e.Q = 46 then bd (f_X48_isSign e.Q 17 h12) (fun x13 h14 => if x13 = 0 then (if kc h14 e.Q = 46 then bd (f_X48_wrong e.Q h14) (fun x22 h23 => if kc h23 x22 = 69 then rex h23 else none) else none) else (if kc h14 e.Q = 46 then bd (f_X48_deeper e.Q (nI d) h14) (fun x15 h16 => ldI 46 358 e.Q h16 fun x17 => stI 46 358 e.Q (x17 + (1 : Int32)) h16 fun h18 => if kc h18 e.Q = 46 then bd (f_X48_item e.Q (16 : Int32) x8 1 (0 : Int64) (0 : Int32) 0 h18) (fun _ h19 => if kc h19 e.Q = 46 then bd ((r_S7 m).2.1 e.Q x15 h19) (fun _ h20 => if kc h20 e.Q = 46 then bd (f_X48_item e.Q (17 : Int32) x8 1 (0 : Int64) (0 : Int32) 0 h20) (fun _ h21 => rok () h21) else none) else none) else none) else none)) else none) else none) else none) else none)) := by
  have S := k.sq
  obtain ⟨k1, k2, k3, p, q, k6, k7, k8, k9⟩ := k
  have hi := q.jj.1
  have h3 := q.jj.2.2.2
  have g3 : nE d = 16 * (31 - d) + 4 := rfl
  have hl : (IT0 ++ its).length = IT0.length + its.length := List.length_append
  obtain ⟨m1, m2, m3, m4, m5, m6⟩ := q.mt0
  by_cases d30 : d = 30
  · obtain ⟨hx1, e1, s1, f1⟩ := xdeepN p d30
    obtain ⟨hm1, e2, s2, f2⟩ := mdeepN q d30
    rw [e1, e2]
    exact POut.fail (S.err s1 f1 s2 f2) (by omega) (Nat.le_refl _) (by omega)
  have hd' : d < 30 := by omega
  have gE := hE hd'
  have g4 : nE (d + 1) = 16 * (30 - d) + 4 := by unfold nE; omega
  rw [xdeepY hd', mdeepY hd', xt_e p, x10_e p, m46_e q, mtok_e q, ldI_e m1, m3, mfwd_e q]
  -- the twin's items
  have vi : ∀ {P N N2 b : Nat} {h5 : HP} {OP : Int32} {op : Nat} {K : HP → Rs Unit}, OP = nI op → PN e h5 P N → N ≤ 900 ∧ e.il ≠ 0 → (∀ h6, PN e h6 P (N + 1) → MF e h6 P N2 b (K h6)) → MF e h5 P N2 (22 + b) (if kc h5 e.Q = 46 then bd (f_X48_item e.Q OP (nI (tk e.TS i).2.1) 1 (0 : Int64) (0 : Int32) 0 h5) (fun _ h34 => K h34) else none) :=
    fun ho n5 hN hK => v46 n5 (vIt n5 hN (n := 0) (o := none) ho rfl (str1 n5.w) rfl fun h6 _ n6 => hK h6 n6)
  rcases S.go (go_of c2) with ⟨hx1, e1, S1, K1, M1⟩ | ⟨hx1, P, e1, n1, M1, F1⟩
  · obtain ⟨hm2, e6, S2, M2⟩ := S1.itm (by omega) (op := 15) (at' := (tk e.TS i).2.1) (n := 0) (OP := 15) (NN' := 0) (bits := 0) (o := none) rfl rfl (str1 S1.2.2.2.1) rfl
    have p2 := S2.2.2.1
    have q2 := S2.2.2.2
    have hi2 := q2.jj.1
    have hl2 : (IT0 ++ (its ++ [(15, (tk e.TS i).2.1, ([] : List Nat), (0 : Int64), 0, (none : Option Ty))])).length = IT0.length + its.length + 1 := by simp; omega
    rw [e1, xP_e p2, m46_e S1.2.2.2, e6, m46_e q2]
    rcases gE n m hx1 hm2 (i + 1) _ _ _ (by omega) (by omega) p2 q2 (by omega) with ⟨na, hx4, hm4, j, ty4, qu4, its4, H4, d4, x1, x2, k5⟩ | f
    · obtain ⟨hij, S4, K4, M4, N4, hH4, hl4, _⟩ := S2.sub k5
      have p4 := S4.2.2.1
      have q4 := S4.2.2.2
      have hj := q4.jj.1
      have hw : codes (cStr.getD (17 - 1) "") ∈ SW := by decide
      have hl5 : (IT0 ++ (its ++ [(15, (tk e.TS i).2.1, ([] : List Nat), (0 : Int64), 0, (none : Option Ty))] ++ its4)).length = IT0.length + its.length + 1 + its4.length := by simp; omega
      rw [x1, x2, bd_ok, bd_ok, xt_e p4, x10_e p4, m46_e q4, misS_e q4 (by decide) (by decide) rfl]
      by_cases c7 : isX (tk e.TS j) (codes (cStr.getD (17 - 1) ""))
      · have c8 := (isX_S p4.V hw).mp c7
        rw [xexpY p4 (by decide) (by decide) rfl c7, if_pos c8, if_neg z10, m46_e q4, mdeepY hd', mfwd_e q4]
        rcases S4.go (go_of c8) with ⟨hx6, e7, S6, K6, M6⟩ | ⟨hx6, P, e7, n6, M6, F6⟩
        · obtain ⟨hm7, e8, S7, M7⟩ := S6.itm (by omega) (op := 16) (at' := (tk e.TS i).2.1) (n := 0) (OP := 16) (NN' := 0) (bits := 0) (o := none) rfl rfl (str1 S6.2.2.2.1) rfl
          have p7 := S7.2.2.1
          have q7 := S7.2.2.2
          have hj7 := q7.jj.1
          have hl7 : (IT0 ++ (its ++ [(15, (tk e.TS i).2.1, ([] : List Nat), (0 : Int64), 0, (none : Option Ty))] ++ its4 ++ [(16, (tk e.TS i).2.1, ([] : List Nat), (0 : Int64), 0, (none : Option Ty))])).length = IT0.length + its.length + 1 + its4.length + 1 := by simp; omega
          rw [e7, xP_e p7, m46_e S6.2.2.2, e8, m46_e q7]
          rcases gE n m hx6 hm7 (j + 1) _ _ _ (by omega) (by omega) p7 q7 (by omega) with ⟨nb, hx8, hm8, j8, ty8, qu8, its8, H8, d8, x3, x4, k8'⟩ | f
          · obtain ⟨hjj, S8, K8, M8, N8, hH8, hl8, _⟩ := S7.sub k8'
            have q8 := S8.2.2.2
            have hj8 := q8.jj.1
            have hl9 : (IT0 ++ (its ++ [(15, (tk e.TS i).2.1, ([] : List Nat), (0 : Int64), 0, (none : Option Ty))] ++ its4 ++ [(16, (tk e.TS i).2.1, ([] : List Nat), (0 : Int64), 0, (none : Option Ty))] ++ its8)).length = IT0.length + its.length + 1 + its4.length + 1 + its8.length := by simp; omega
            have A8 := K8.1 (K6.1 (K4.1 (K1.1 k6)))
            have B8 := K8.1 (K6.1 N4)
            obtain ⟨a1, a2, a3⟩ := Nd_k A8
            obtain ⟨b1, b2, b3⟩ := Nd_k B8
            obtain ⟨d1, d2, d3⟩ := Nd_k N8
            obtain ⟨hx9, e9, s9, r1, r2, r3, r4, r5, r6, r7⟩ := xk_cnd S8.2.2.1.1 (pl := nI (tk e.TS i).2.1) a1 a2 a3 b1 b2 b3 d1 d2 d3
            obtain ⟨S9, K9⟩ := S8.nod s9
            obtain ⟨hm9, ea, Sa, Ma⟩ := S9.itm (by omega) (op := 17) (at' := (tk e.TS i).2.1) (n := 0) (OP := 17) (NN' := 0) (bits := 0) (o := none) rfl rfl (str1 q8.1) rfl
            obtain ⟨⟨D1, D2, D3, D4, D5⟩, DA, DB, DC⟩ := trp (K1.1 k6) (K6.1 k5.2.2.2.2.2.1) k8'.2.2.2.2.2.1 (fun q z => S1.1.1.nwb z) (fun q z => k5.2.1.1.nwb (K6.nw z)) (fun q z => k8'.2.1.1.nwb z)
            rw [x3, x4, bd_ok, bd_ok, e9, m46_e q8, ea]
            refine POut.ok (Sa.pok (H := max (max (max 1 (H + 1)) (H4 + 1)) (H8 + 1)) (d := max dd (max d4 d8) + 1) (by omega) (by omega) (by omega) (.inr ⟨_, r2, r3, r4, by omega, (by first | exact S.1.1.nw | exact S1.1.1.nw | exact S2.1.1.nw | exact S3.1.1.nw | exact S4.1.1.nw | exact S5.1.1.nw | exact S6.1.1.nw | exact S7.1.1.nw | exact S8.1.1.nw), ?_⟩) (by omega) (by simp; omega) (n5e (by decide)))
            exact .inr (.inr (.inr (.inr (.inr (.inr (.inr (.inr (.inr (.inr (.inr (.inr (.inl ⟨r1, its, its4, its8, H, H4, H8, B3 _ _ _ _ _ _, by rw [r5, r6, r7]; exact ⟨D1, D2, D3, D4, D5 _ ⟨S8.2.2.1.1.new, Nat.le_refl _⟩⟩, by rw [r5]; exact Nd_le (Nat.le_max_left _ _) (K9.1 (K8.1 (K6.1 (K4.1 DA)))), by rw [r6]; exact Nd_le (Nat.le_trans (Nat.le_max_left _ _) (Nat.le_max_right _ _)) (K9.1 (K8.1 DB)), by rw [r7]; exact Nd_le (Nat.le_trans (Nat.le_max_right _ _) (Nat.le_max_right _ _)) (K9.1 DC), by omega, by simp⟩))))))))))))
          · exact POut.fail (S7.fail (f.bd fun P v h5 n5 => vi (op := 17) rfl n5 (by omega) fun h6 n6 => MF.ok n6 ())) (by omega) (by omega) (by omega)
        · rw [e7]
          obtain ⟨m', rfl⟩ : ∃ k, m = k + 15 := ⟨m - 15, by omega⟩
          exact POut.fail (F6 (vi (op := 16) rfl n6 (by omega) fun h6 n7 => v46 n7 (MF.bd (vExp (m := m') (d := d + 1) n7 (Nat.le_refl _)) fun v h5 n5 => vi (op := 17) rfl n5 (by omega) fun h6 n6 => MF.ok n6 ()))) (by omega) (by omega) (by omega)
      · obtain ⟨hx6, e7, s7, f7⟩ := xexpN p4 (by decide) (by decide) rfl c7
        obtain ⟨hm6, e8, s8, f8⟩ := mwrong q4
        rw [e7, if_neg (fun z => c7 ((isX_S p4.V hw).mpr z)), if_pos y00, m46_e q4, e8]
        exact POut.fail (S4.err s7 f7 s8 f8) (by omega) (Nat.le_refl _) (by omega)
    · have tl : ∀ {P : Nat} {h5 : HP} {N : Nat}, PN e h5 P N → MF e h5 P 0 1 (if kc h5 e.Q = 46 then bd (f_X48_isSign e.Q 17 h5) (fun x13 h14 => if x13 = 0 then (if kc h14 e.Q = 46 then bd (f_X48_wrong e.Q h14) (fun x22 h23 => if kc h23 x22 = 69 then rex h23 else none) else none) else (if kc h14 e.Q = 46 then bd (f_X48_deeper e.Q (nI d) h14) (fun x15 h16 => ldI 46 358 e.Q h16 fun x17 => stI 46 358 e.Q (x17 + (1 : Int32)) h16 fun h18 => if kc h18 e.Q = 46 then bd (f_X48_item e.Q (16 : Int32) (nI (tk e.TS i).2.1) 1 (0 : Int64) (0 : Int32) 0 h18) (fun _ h19 => if kc h19 e.Q = 46 then bd ((r_S7 m).2.1 e.Q x15 h19) (fun _ h20 => if kc h20 e.Q = 46 then bd (f_X48_item e.Q (17 : Int32) (nI (tk e.TS i).2.1) 1 (0 : Int64) (0 : Int32) 0 h20) (fun _ h21 => (rok () h21 : Rs Unit)) else none) else none) else none) else none)) else none) := fun n5 => v46 n5 (vS n5 (by decide) (by decide) (by rw [if_pos y00]; exact v46 n5 (vWr n5)))
      exact POut.fail (S2.fail (f.bd fun P v h5 n5 => tl n5)) (by omega) (by omega) (by omega)
  · rw [e1]
    obtain ⟨m', rfl⟩ : ∃ k, m = k + 15 := ⟨m - 15, by omega⟩
    exact POut.fail (F1 (vi (op := 15) rfl n1 (by omega) fun h6 n7 => v46 n7 (MF.bd (vExp (m := m') (d := d + 1) n7 (Nat.le_refl _)) fun v h5 n5 => v46 n5 (vS (N2 := 0) n5 (by decide) (by decide) (by rw [if_pos y00]; exact v46 n5 (vWr n5)))))) (by omega) (by omega) (by omega)
theorem exp_pair {d : Nat} (hd1 : 1 ≤ d) (hd : d ≤ 30) (hE : d < 30 → GE e (d + 1)) (hU : d < 30 → GU e (d + 1)) (hB : GB e d 0) : GE e d := by
  intro n m hx hm i TY QU IT hn hm' p q hI
  have hi := q.jj.1
  have h3 := q.jj.2.2.2
  have g3 : nE d = 16 * (31 - d) + 4 := rfl
  obtain ⟨n, rfl⟩ : ∃ k, n = k + 1 := ⟨n - 1, by omega⟩
  obtain ⟨m, rfl⟩ : ∃ k, m = k + 1 := ⟨m - 1, by omega⟩
  show POut e hx hm i TY QU IT (f_X10_expression_o (r_S4 n) e.P (nI d) hx) (f_X48_expression_2_o (r_S7 m) e.Q (nI d) hm)
  have k49 : codes (cStr.getD (49 - 1) "") ∈ KW := by decide
  have k37 : codes (cStr.getD (37 - 1) "") ∈ KW := by decide
  have k44 : codes (cStr.getD (44 - 1) "") ∈ KW := by decide
  have k68 : codes (cStr.getD (68 - 1) "") ∈ KW := by decide
  obtain ⟨n, rfl⟩ : ∃ k, n = k + 1 := ⟨n - 1, by omega⟩
  have eQ : ∀ h : HP, (r_S4 (n + 1)).2.2.2.2.2.1 e.P (nI d) h = f_X10_quantor_o (r_S4 n) e.P (nI d) h := fun h => rfl
  have hq : ∀ c, c < 4 → ∀ {w : List Nat}, isW (tk e.TS i) w → POut e hx hm i TY QU IT (f_X10_quantor_b49 (r_S4 n) e.P (nI d) (nI c) hx) (f_X48_expression_2_b56 (r_S7 m) e.Q (nI d) (nI (c + 1)) hm) := fun c hc w c2 => quan_pair hd hE hU (by omega) (by omega) p q hI hc c2
  have ne : ∀ {w u : List Nat}, isX (tk e.TS i) w → w ≠ u → ¬ isX (tk e.TS i) u := fun a b z => b (a.2.symm.trans z.2)
  unfold f_X10_expression_o f_X48_expression_2_o
  rw [xt_e p, x10_e p, xis_e p (by decide) (by decide) rfl, m46_e q, misK_e q (by decide) (by decide) rfl]
  by_cases c1 : isX (tk e.TS i) (codes (cStr.getD (49 - 1) ""))
  · have c2 := (isX_W p.V k49).mp c1
    rw [if_pos c1, if_pos c2, if_neg z10, if_neg z10, xP_e p, bd_r, eQ]
    unfold f_X10_quantor_o
    rw [xt_e p, x10_e p, xis_e p (by decide) (by decide) rfl, if_pos c1, if_neg z10]
    exact hq 0 (by omega) c2
  rw [if_neg c1, if_neg (fun z => c1 ((isX_W p.V k49).mpr z)), if_pos y00, if_pos y00, xt_e p, x10_e p, xis_e p (by decide) (by decide) rfl, m46_e q, misK_e q (by decide) (by decide) rfl]
  by_cases c3 : isX (tk e.TS i) (codes (cStr.getD (37 - 1) ""))
  · have c2 := (isX_W p.V k37).mp c3
    rw [if_pos c3, if_pos c2, if_neg z10, if_neg z10, xP_e p, bd_r, eQ]
    unfold f_X10_quantor_o
    rw [xt_e p, x10_e p, xis_e p (by decide) (by decide) rfl, if_neg c1, if_pos y00, xt_e p, x10_e p, xis_e p (by decide) (by decide) rfl, if_pos c3, if_neg z10]
    exact hq 1 (by omega) c2
  rw [if_neg c3, if_neg (fun z => c3 ((isX_W p.V k37).mpr z)), if_pos y00, if_pos y00, xt_e p, x10_e p, xis_e p (by decide) (by decide) rfl, m46_e q, misK_e q (by decide) (by decide) rfl]
  by_cases c4 : isX (tk e.TS i) (codes (cStr.getD (44 - 1) ""))
  · have c2 := (isX_W p.V k44).mp c4
    rw [if_pos c4, if_pos c2, if_neg z10, if_neg z10, xP_e p, bd_r, eQ]
    unfold f_X10_quantor_o
    rw [xt_e p, x10_e p, xis_e p (by decide) (by decide) rfl, if_neg c1, if_pos y00, xt_e p, x10_e p, xis_e p (by decide) (by decide) rfl, if_neg c3, if_pos y00, xt_e p, x10_e p, xis_e p (by decide) (by decide) rfl, if_pos c4, if_neg z10]
    exact hq 2 (by omega) c2
  rw [if_neg c4, if_neg (fun z => c4 ((isX_W p.V k44).mpr z)), if_pos y00, if_pos y00, xt_e p, x10_e p, xis_e p (by decide) (by decide) rfl, m46_e q, misK_e q (by decide) (by decide) rfl]
  by_cases c5 : isX (tk e.TS i) (codes (cStr.getD (68 - 1) ""))
  · have c2 := (isX_W p.V k68).mp c5
    rw [if_pos c5, if_pos c2, if_neg z10, if_neg z10, xP_e p, bd_r, eQ]
    unfold f_X10_quantor_o
    rw [xt_e p, x10_e p, xis_e p (by decide) (by decide) rfl, if_neg c1, if_pos y00, xt_e p, x10_e p, xis_e p (by decide) (by decide) rfl, if_neg c3, if_pos y00, xt_e p, x10_e p, xis_e p (by decide) (by decide) rfl, if_neg c4, if_pos y00]
    exact hq 3 (by omega) c2
  rw [if_neg c5, if_neg (fun z => c5 ((isX_W p.V k68).mpr z)), if_pos y00, if_pos y00, xP_e p]
  unfold f_X48_expression_2_b56
  rw [if_pos (show (0 : Int32) ≤ 0 by decide), m46_e q]
  rcases hB (n + 1) m hx hm i TY QU IT (by omega) (by omega) p q hI with ⟨nd, hx1, hm1, j, ty, qu, its, H, dd, e1, e2, kk⟩ | f
  · have p1 := kk.2.2.2.1
    have q1 := kk.2.2.2.2.1
    have e1' : (r_S4 (n + 1)).1 e.P (0 : Int32) (nI d) hx = rok nd hx1 := e1
    have e2' : (r_S7 m).2.2.2.2.1 e.Q (0 : Int32) (nI d) hm = rok () hm1 := e2
    rw [e1', e2', bd_ok, bd_ok, xt_e p1, x10_e p1, xis_e p1 (by decide) (by decide) rfl, m46_e q1, misS_e q1 (by decide) (by decide) rfl]
    by_cases c6 : isX (tk e.TS j) (codes (cStr.getD (28 - 1) ""))
    · have c7 := (isX_S p1.V (by decide)).mp c6
      rw [if_pos c6, if_pos c7, if_neg z10, if_neg z10, xt_e p1, xplc_e p1, xP_e p1, m46_e q1]
      exact cond_pair hd hE (by omega) (by omega) hI kk c7
    · rw [if_neg c6, if_neg (fun z => c6 ((isX_S p1.V (by decide)).mpr z)), if_pos y00, if_pos y00]
      exact POut.ok kk
  · refine POut.fail (f.bd (c := 0) (N2 := IT.length + 3 * (e.TS.length - i)) fun P v h5 n5 => v46 n5 (vS n5 (by decide) (by decide) ?_)) (by omega) (Nat.le_refl _) (by omega)
    rw [if_pos y00]
    exact MF.ok n5 ()
/-- all expressions, all operands -/
theorem all_pair (e : EE) (k : Nat) : ∀ d, 1 ≤ d → d + k = 30 → GE e d ∧ GU e d := by
  induction k with
  | zero =>
    intro d h1 h2
    have U := un_pair (e := e) h1 (by omega) (fun z => by omega) (fun z => by omega)
    exact ⟨exp_pair h1 (by omega) (fun z => by omega) (fun z => by omega) (rank_pair h1 (by omega) U 10 0 (by omega)), U⟩
  | succ k ih =>
    intro d h1 h2
    obtain ⟨E1, U1⟩ := ih (d + 1) (by omega) (by omega)
    have U := un_pair (e := e) h1 (by omega) (fun _ => E1) (fun _ => U1)
    exact ⟨exp_pair h1 (by omega) (fun _ => E1) (fun _ => U1) (rank_pair h1 (by omega) U 10 0 (by omega)), U⟩
theorem GE1 (e : EE) : GE e 1 := (all_pair e 29 1 (by omega) (by omega)).1
theorem GU1 (e : EE) : GU e 1 := (all_pair e 29 1 (by omega) (by omega)).2
