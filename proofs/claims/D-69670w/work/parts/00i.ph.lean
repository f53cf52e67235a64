/-! PHASE B parser 17: prefixes, casts, brackets -/
set_option maxRecDepth 100000
variable {e : EE} {hx hm h h' : HP} {i j a : Nat} {IT : List It} {TY : List Ty} {QU : List (List Nat)}
theorem pre_pair {d n m c : Nat} (hd : d ≤ 30) (hU : d < 30 → GU e (d + 1)) (hn : nE d ≤ n + 13) (hm' : nE d ≤ m + 13) (p : PX e hx i TY QU) (q : PM e hm i IT TY QU) (hI : IT.length ≤ 3 * i ∧ e.il ≠ 0) (hc : c = 45 ∨ c = 33 ∨ c = 126) (c2 : isS (tk e.TS i) [c]) :
    POut e hx hm i TY QU IT (f_X10_unary_b44 (r_S4 n) e.P (nI d) (nI (tk e.TS i).2.1) hx) (f_X48_unary_b35 (r_S7 m) e.Q (nI d) (e.tok hm i) hm) := by
  have S := Sq.start p q
  have hi := q.jj.1
  have h3 := q.jj.2.2.2
  have g3 : nE d = 16 * (31 - d) + 4 := rfl
  have mt := q.mt0
  have hl : (IT ++ ([] : List It)).length = IT.length := by simp
  obtain ⟨k1, t1⟩ := p.wrd
  rw [c2.2] at t1
  have tA : ∀ {K : Int32 → Rs Nat}, txAt (fr hx 154 e.t) (0 : Int32) hx K = K (nI c) := by
    intro K
    rw [show (0 : Int32) = nI 0 from rfl, txAt_ok (c := c) k1 (by rw [t1]; show 0 < 1; omega) (by rw [t1]; show 1 < 2 ^ 31; omega) (by rw [t1]; rfl)]
  unfold f_X10_unary_b44 f_X48_unary_b35
  rw [xt_e p, xwrd_e p, tA, xP_e p, m46_e q]
  by_cases d30 : d = 30
  · obtain ⟨hx1, e1, s1, f1⟩ := xdeepN p d30
    obtain ⟨hm1, e2, s2, f2⟩ := mdeepN q d30
    rw [e1, e2]
    exact POut.fail (S.err s1 f1 s2 f2) (by omega) (Nat.le_refl _) (by omega)
  have hd' : d < 30 := by omega
  have gU := hU hd'
  have g4 : nE (d + 1) = 16 * (30 - d) + 4 := by unfold nE; omega
  rw [xdeepY hd', mdeepY hd', xt_e p, x10_e p, mfwd_e q]
  -- the twin behind the operand
  have tl : ∀ {P N : Nat} {h5 : HP}, Km hm h5 → PN e h5 P N → N ≤ 900 ∧ e.il ≠ 0 → MF e h5 P (N + 1) (22 + 0) (ldI 44 350 (e.tok hm i) h5 fun x6 => ldR 44 351 (e.tok hm i) h5 fun x7 => if kc h5 e.Q = 46 then bd (f_X48_item e.Q (9 : Int32) x6 x7 (0 : Int64) (0 : Int32) 0 h5) (fun _ h8 => rok () h8) else none) := by
    intro P N h5 M n5 hN
    obtain ⟨w1, w2, w3, w4, w5, w6⟩ := M.2.2.2 mt
    rw [ldI_e w1, w3, ldR_e w1]
    exact v46 n5 (vIt n5 hN (op := 9) (n := 0) (o := none) rfl rfl ⟨w4, w5⟩ rfl fun h6 _ n6 => MF.ok n6 ())
  rcases S.go (go_of c2) with ⟨hx1, e1, S1, K1, M1⟩ | ⟨hx1, P, e1, n1, M1, F1⟩
  · have p1 := S1.2.2.1
    have q1 := S1.2.2.2
    have hi1 := q1.jj.1
    rw [e1, xP_e p1, m46_e q1]
    rcases gU n m hx1 _ (i + 1) _ _ _ (by omega) (by omega) p1 q1 (by omega) with ⟨nb, hx2, hm2, j, ty2, qu2, its2, H2, d2, e2, e3, k5⟩ | f
    · obtain ⟨hij, S2, K2, M2, N2, hH2, hl2, _⟩ := S1.sub k5
      have q2 := S2.2.2.2
      have hj := q2.jj.1
      have hl3 : (IT ++ ([] ++ its2)).length = IT.length + its2.length := by simp
      obtain ⟨a1, a2, a3⟩ := Nd_k N2
      have hcc : (0 : Int32) ≤ nI c ∧ nI c < 65536 := by rcases hc with z | z | z <;> rw [z] <;> decide
      obtain ⟨hx4, e5, s5, r1, r2, r3, r4, r5, r6⟩ := xk_pre S2.2.2.1.1 (pl := nI (tk e.TS i).2.1) hcc a1 a2 a3
      obtain ⟨S4, K4⟩ := S2.nod s5
      obtain ⟨w1, w2, w3, w4, w5, w6⟩ := M2.2.2.2 (M1.2.2.2 mt)
      obtain ⟨hm4, e6, S5, M5⟩ := S4.itm (by omega) (op := 9) (at' := (tk e.TS i).2.1) (n := 0) (OP := 9) (NN' := 0) (bits := 0) (o := none) rfl rfl (⟨w4, w5.trans c2.2⟩ : StrX hm2 _ [c]) rfl
      rw [e2, e3, bd_ok, bd_ok, e5, ldI_e w1, w3, ldR_e w1, m46_e q2, e6]
      refine POut.ok (S5.pok (H := max 1 (H2 + 1)) (d := d2 + 1) (by omega) (by omega) (by omega) (.inr ⟨_, r2, r3, r4, by omega, (by first | exact S.1.1.nw | exact S1.1.1.nw | exact S2.1.1.nw | exact S3.1.1.nw | exact S4.1.1.nw | exact S5.1.1.nw | exact S6.1.1.nw | exact S7.1.1.nw | exact S8.1.1.nw), ?_⟩) (by omega) (by rw [List.length_append, List.length_append, List.length_singleton]; show 0 + its2.length + 1 ≤ _; omega) (n5e (by decide)))
      exact .inr (.inr (.inr (.inr (.inr (.inr (.inr (.inr (.inl ⟨r1, c, its2, H2, hc, r5, by rw [r6]; exact K4.1 (sgl N2 S2.2.2.1.1.new), by omega, rfl⟩))))))))
    · have q1' := q1
      have hN : (IT ++ []).length + 3 * (e.TS.length - (i + 1)) ≤ 900 ∧ e.il ≠ 0 := by omega
      exact POut.fail (S1.fail (Fail_bdk f fun P v h5 s5 n5 => tl ⟨fun z => (q1'.km s5).1 (M1.1 z), fun z => (q1'.km s5).2.1 (M1.2.1 z), fun z => (q1'.km s5).2.2.1 (M1.2.2.1 z), fun z => (q1'.km s5).2.2.2 (M1.2.2.2 z)⟩ n5 hN)) (by omega) (by omega) (by omega)
  · rw [e1]
    obtain ⟨m', rfl⟩ : ∃ k, m = k + 3 := ⟨m - 3, by omega⟩
    exact POut.fail (F1 (v46 n1 (MF_bdk (vUn (N2 := 0) (m := m') (d := d + 1) n1) fun v h5 s5 n5 => tl ⟨fun z => (n1.km s5).1 (M1.1 z), fun z => (n1.km s5).2.1 (M1.2.1 z), fun z => (n1.km s5).2.2.1 (M1.2.2.1 z), fun z => (n1.km s5).2.2.2 (M1.2.2.2 z)⟩ n5 (by omega)))) (by omega) (by omega) (by omega)
theorem Km.trans {h h1 h2 : HP} (a : Km h h1) (b : Km h1 h2) : Km h h2 := ⟨fun z => b.1 (a.1 z), fun z => b.2.1 (a.2.1 z), fun z => b.2.2.1 (a.2.2.1 z), fun z => b.2.2.2 (a.2.2.2 z)⟩
/-- whether a cast begins, in the component -/
theorem xcast_e (p : PX e hx i TY QU) {β : Type} {A C : HP → Rs β} : bd (f_X10_isPlainWord e.P hx) (fun x19 h20 => if x19 = 0 then (ldMR ksParser 156 e.P h20 fun x21 => ldI 10 151 x21 h20 fun x22 => if x22 = (1 : Int32) then (ldMR ksParser 156 e.P h20 fun x23 => ldR 10 154 x23 h20 fun x24 => txEq x24 30 h20 fun x25 => if x25 = 0 then (ldMR ksParser 156 e.P h20 fun x26 => ldR 10 154 x26 h20 fun x27 => txEq x27 31 h20 fun x28 => if x28 = 0 then (ldMR ksParser 160 e.P h20 fun x29 => ldMR ksParser 156 e.P h20 fun x30 => ldR 10 154 x30 h20 fun x31 => bd (f_X10_isIn x29 x31 h20) (fun x32 h33 => if x32 = 0 then A h33 else C h33)) else C h20) else C h20) else A h20) else C h20) = if caT e (tk e.TS i) then C hx else A hx := by
  have V9 := p.V.2.2.2.2.2.2.2
  obtain ⟨k1, t1⟩ := p.wrd
  rw [xplain_e p]
  by_cases a : plT (tk e.TS i)
  · rw [if_pos a, if_neg z10, if_pos (.inl a)]
  · rw [if_neg a, if_pos y00, xt_e p, xknd_e p]
    by_cases b : (tk e.TS i).1 = 1
    · rw [if_pos ((nk _ (c := 1) (C := (1 : Int32)) rfl (by omega) (by omega)).mpr b), xt_e p, xwrd_e p, txEq_c p.1 k1 t1 (by decide) (by decide) (show codes (cStr.getD (30 - 1) "") = codes "Object" by decide)]
      by_cases c : (tk e.TS i).2.2.1 = codes "Object"
      · rw [if_pos c, if_neg z10, if_pos (.inr ⟨b, .inl c⟩)]
      · rw [if_neg c, if_pos y00, xt_e p, xwrd_e p, txEq_c p.1 k1 t1 (by decide) (by decide) (show codes (cStr.getD (31 - 1) "") = codes "Text" by decide)]
        by_cases d : (tk e.TS i).2.2.1 = codes "Text"
        · rw [if_pos d, if_neg z10, if_pos (.inr ⟨b, .inr (.inl d)⟩)]
        · rw [if_neg d, if_pos y00, ldMR_e p.kP, p.2.1.2.2.2.2.2.1, xt_e p, xwrd_e p, xisIn_e p ⟨k1, t1⟩]
          by_cases m : (tk e.TS i).2.2.1 ∈ e.NL.map Prod.fst
          · rw [if_pos m, if_neg z10, if_pos (.inr ⟨b, .inr (.inr m)⟩)]
          · rw [if_neg m, if_pos y00, if_neg (fun z => by rcases z with z | z; exact a z; rcases z.2 with y | y | y; exact c y; exact d y; exact m y)]
    · rw [if_neg (fun z => b ((nk _ (c := 1) (C := (1 : Int32)) rfl (by omega) (by omega)).mp z)), if_neg (fun z => by rcases z with z | z; exact a z; exact b z.1)]
/-- a cast behind its bracket -/
theorem cast_pair {d n m : Nat} (hd : d < 30) (gU : GU e (d + 1)) (hn : nE d ≤ n + 13) (hm' : nE d ≤ m + 13) (p : PX e hx i TY QU) (q : PM e hm i IT TY QU) (hI : IT.length ≤ 3 * i ∧ e.il ≠ 0) (c2 : isS (tk e.TS i) (codes "(")) {hx1 : HP} (S1 : Sq e hx hm TY QU IT (0 + 20) 0 hx1 (fwd e hm i) (i + 1) [] [] []) (M1 : Km hm (fwd e hm i)) :
    POut e hx hm i TY QU IT (f_X10_unary_b201 (r_S4 n) e.P (nI d) (nI (tk e.TS i).2.1) (nI (d + 1)) 1 hx1) (if kc (fwd e hm i) e.Q = 46 then bd (f_X48_type e.Q (fwd e hm i)) (fun x19 h20 => if kc h20 e.Q = 46 then bd (f_X48_sign e.Q 10 h20) (fun _ h21 => if kc h21 e.Q = 46 then bd ((r_S7 m).2.2.2.2.2 e.Q (nI (d + 1)) h21) (fun _ h22 => ldI 44 350 (e.tok hm i) h22 fun x23 => if kc h22 e.Q = 46 then bd (f_X48_item e.Q (10 : Int32) x23 1 (0 : Int64) (0 : Int32) x19 h22) (fun _ h24 => rok () h24) else none) else none) else none) else none) := by
  have hi := q.jj.1
  have h3 := q.jj.2.2.2
  have g3 : nE d = 16 * (31 - d) + 4 := rfl
  have g4 : nE (d + 1) = 16 * (30 - d) + 4 := by unfold nE; omega
  have mt := q.mt0
  have hl : (IT ++ ([] : List It)).length = IT.length := by simp
  have p1 := S1.2.2.1
  have q1 := S1.2.2.2
  have hi1 := q1.jj.1
  have hw : codes (cStr.getD (10 - 1) "") ∈ SW := by decide
  unfold f_X10_unary_b201
  rw [if_neg z10, xP_e p1, m46_e q1]
  -- the twin behind the operand
  have tl : ∀ {P N x19 : Nat} {T : Ty} {h4 h5 : HP}, Km hm h4 → Km h4 h5 → TyM h4 x19 T → PN e h5 P N → N ≤ 900 ∧ e.il ≠ 0 → MF e h5 P (N + 1) (22 + 0) (ldI 44 350 (e.tok hm i) h5 fun x23 => if kc h5 e.Q = 46 then bd (f_X48_item e.Q (10 : Int32) x23 1 (0 : Int64) (0 : Int32) x19 h5) (fun _ h24 => rok () h24) else none) := by
    intro P N x19 T h4 h5 M M' tT n5 hN
    obtain ⟨w1, w2, w3, w4, w5, w6⟩ := M'.2.2.2 (M.2.2.2 mt)
    rw [ldI_e w1, w3]
    exact v46 n5 (vIt n5 hN (op := 10) (n := 0) (o := some T) rfl rfl (str1 n5.w) (M'.2.1 tT) fun h6 _ n6 => MF.ok n6 ())
  rcases ty_pair p1 q1 with ⟨nt, nm, hx2, hm2, j, T, e1, e2, k⟩ | f
  · obtain ⟨hij, S2, K2, M2, T1, T2, T3⟩ := S1.typ k
    have p2 := S2.2.2.1
    have q2 := S2.2.2.2
    have hj := q2.jj.1
    rw [e1, e2, bd_ok, bd_ok, xt_e p2, x10_e p2, m46_e q2]
    by_cases c4 : isX (tk e.TS j) (codes (cStr.getD (10 - 1) ""))
    · have c5 := (isX_S p2.V hw).mp c4
      rw [xexpY p2 (by decide) (by decide) rfl c4, msgnY q2 (by decide) (by decide) rfl c5]
      rcases S2.go (go_of c5) with ⟨hx3, e4, S3, K3, M3⟩ | ⟨hx3, P, e4, n3, M3, F3⟩
      · have p3 := S3.2.2.1
        have q3 := S3.2.2.2
        have hj3 := q3.jj.1
        rw [e4, xP_e p3, m46_e q3]
        rcases gU n m hx3 _ (j + 1) _ _ _ (by omega) (by omega) p3 q3 (by omega) with ⟨nb, hx4, hm4, j4, ty4, qu4, its4, H4, d4, x1, x2, k5⟩ | f
        · obtain ⟨hjj, S4, K4, M4, N4, hH4, hl4, _⟩ := S3.sub k5
          have q4 := S4.2.2.2
          have hj4 := q4.jj.1
          have hl5 : (IT ++ ([] ++ its4)).length = IT.length + its4.length := by simp
          obtain ⟨a1, a2, a3⟩ := Nd_k N4
          obtain ⟨hx5, e5, s5, r1, r2, r3, r4, r5, r6⟩ := xk_cas S4.2.2.1.1 (pl := nI (tk e.TS i).2.1) (t := nt) a1 a2 a3
          obtain ⟨S5, K5⟩ := S4.nod s5
          obtain ⟨w1, w2, w3, w4, w5, w6⟩ := M4.2.2.2 (M3.2.2.2 (M2.2.2.2 (M1.2.2.2 mt)))
          obtain ⟨hm5, e6, S6, M6⟩ := S5.itm (by omega) (op := 10) (at' := (tk e.TS i).2.1) (n := 0) (OP := 10) (NN' := 0) (bits := 0) (o := some T) rfl rfl (str1 q4.1) (M4.2.1 (M3.2.1 T3))
          rw [x1, x2, bd_ok, bd_ok, e5, ldI_e w1, w3, m46_e q4, e6]
          refine POut.ok (S6.pok (H := max 1 (H4 + 1)) (d := d4 + 1) (by omega) (by omega) (by omega) (.inr ⟨_, r2, r3, r4, by omega, (by first | exact S.1.1.nw | exact S1.1.1.nw | exact S2.1.1.nw | exact S3.1.1.nw | exact S4.1.1.nw | exact S5.1.1.nw | exact S6.1.1.nw | exact S7.1.1.nw | exact S8.1.1.nw), ?_⟩) (by omega) (by rw [List.length_append, List.length_append, List.length_singleton]; show 0 + its4.length + 1 ≤ _; omega) (n5e (by decide)))
          exact .inr (.inr (.inr (.inr (.inr (.inr (.inr (.inr (.inr (.inl ⟨r1, by rw [r5]; exact K5.2.2.2.1 _ (K4.2.2.2.1 _ (K3.2.2.2.1 _ T2)), T, its4, H4, by rw [r5]; exact K5.2.2.1 (K4.2.2.1 (K3.2.2.1 T1)), by rw [r6]; exact K5.1 (sgl N4 S4.2.2.1.1.new), by omega, rfl⟩)))))))))
        · have hN : (IT ++ []).length + 3 * (e.TS.length - (j + 1)) ≤ 900 ∧ e.il ≠ 0 := by omega
          exact POut.fail (S3.fail (Fail_bdk f fun P v h5 s5 n5 => tl (M1.trans (M2.trans M3)) (q3.km s5) (M3.2.1 T3) n5 hN)) (by omega) (by omega) (by omega)
      · rw [e4]
        obtain ⟨m', rfl⟩ : ∃ k, m = k + 3 := ⟨m - 3, by omega⟩
        exact POut.fail (F3 (v46 n3 (MF_bdk (vUn (N2 := 0) (m := m') (d := d + 1) n3) fun v h5 s5 n5 => tl (M1.trans (M2.trans M3)) (n3.km s5) (M3.2.1 T3) n5 (by omega)))) (by omega) (by omega) (by omega)
    · obtain ⟨hx3, e4, s4, f4⟩ := xexpN p2 (by decide) (by decide) rfl c4
      obtain ⟨hm3, e5, s5, f5⟩ := msgnN q2 (by decide) (by decide) rfl (fun z => c4 ((isX_S p2.V hw).mpr z))
      rw [e4, e5]
      exact POut.fail (S2.err s4 f4 s5 f5) (by omega) (Nat.le_refl _) (by omega)
  · exact POut.fail (S1.fail (f.1.bd fun P v h5 n5 => v46 n5 (vSgn (N2 := 0) n5 (by decide) (by decide)))) (by omega) (by omega) (by omega)
