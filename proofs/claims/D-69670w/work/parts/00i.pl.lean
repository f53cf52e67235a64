/-! PHASE B parser 21: expressions -/
set_option maxRecDepth 100000
theorem xk_qua {h : HP} (w : WG h) {pl s0 : Int32} {s a b : Nat} {Ha : Nat} (ka : kc h a ∈ ksNode) (fa : fi h 184 a = nI Ha) (la : Ha ≤ 1000) {Hb : Nat} (kb : kc h b ∈ ksNode) (fb : fi h 184 b = nI Hb) (lb : Hb ≤ 1000) :
    ∃ h' r, (∀ (β : Type) (K : Nat → HP → Rs β), nwO 25 8 h (fun p18 h19 => nwO 26 2 h19 fun p20 h21 => if kc h21 p20 = 26 then bd (f_X26_init p20 a h21) (fun _ h22 => if kc h22 p18 = 25 then bd (f_X25_init p18 pl s0 s p20 b h22) (fun _ h23 => if kc h23 p18 ∈ [25] then bd (f_X15_over p18 a h23) (fun x24 h25 => if kc h25 x24 ∈ [16, 17, 18, 19, 20, 21, 22, 23, 24, 25, 27, 28, 29] then bd (f_X15_over x24 b h25) K else none) else none) else none) else none) = K (nx h) h') ∧ St [] [] 2 h h' ∧ kc h' (nx h) = 25 ∧ fi h' 182 (nx h) = pl ∧ fr h' 183 (nx h) = 0 ∧ fi h' 184 (nx h) = nI (max (max 1 (Ha + 1)) (Hb + 1)) ∧ fi h' 208 (nx h) = s0 ∧ fr h' 209 (nx h) = s ∧ fr h' 210 (nx h) = r ∧ fr h' 211 (nx h) = b ∧ kc h' r = 26 ∧ fr h' 213 r = a ∧ fr h' 214 r = 0 ∧ Nw h r := by
  have hn0 : nx h ≠ 0 := by have := w.1; omega
  have hnew : kc h (nx h) = 0 := w.new
  have z := new0 w
  have wA : WG (nO h 25 8) := w.nO
  have hQ : nx (nO h 25 8) = nx h + 1 := rfl
  have hq0 : nx (nO h 25 8) ≠ 0 := by rw [hQ]; omega
  have PQ : nx (nO h 25 8) ≠ nx h := by rw [hQ]; omega
  have QP : nx h ≠ nx (nO h 25 8) := fun y => PQ y.symm
  have kP : kc (nO (nO h 25 8) 26 2) (nx h) = 25 := kc_nO_o wA kc_nO_n (by decide)
  have kQ : kc (nO (nO h 25 8) 26 2) (nx (nO h 25 8)) = 26 := kc_nO_n
  have sB : St [] [] 2 h (nO (nO h 25 8) 26 2) := (((St.refl w [] []).nO (k := 25) (n := 8) (b := 1) (by omega) (by omega)).nO (k := 26) (n := 2) (b := 1) (by omega) (by omega)).le (by omega)
  have zq := w.2.1 (nx (nO h 25 8)) (by rw [hQ]; omega)
  have newQ : kc h (nx (nO h 25 8)) = 0 := zq.1
  have f183 : fr (nO (nO h 25 8) 26 2) 183 (nx h) = 0 := by rw [fr_nO, fr_nO]; exact z.2 183
  have f214 : fr (nO (nO h 25 8) 26 2) 214 (nx (nO h 25 8)) = 0 := by rw [fr_nO, fr_nO]; exact zq.2.2.2.1 214
  have na : a ≠ nx h := w.ne rfl (fun y => by rw [y] at ka; exact absurd ka (by decide))
  have nb : b ≠ nx h := w.ne rfl (fun y => by rw [y] at kb; exact absurd kb (by decide))
  have na' : a ≠ nx (nO h 25 8) := fun y => by rw [y, newQ] at ka; exact absurd ka (by decide)
  have nb' : b ≠ nx (nO h 25 8) := fun y => by rw [y, newQ] at kb; exact absurd kb (by decide)
  have kA : kc (nO (nO h 25 8) 26 2) a ∈ ksNode := by rw [kc_nO, if_neg na', kc_nO, if_neg na]; exact ka
  have kB : kc (nO (nO h 25 8) 26 2) b ∈ ksNode := by rw [kc_nO, if_neg nb', kc_nO, if_neg nb]; exact kb
  have fA : fi (nO (nO h 25 8) 26 2) 184 a = nI Ha := by rw [fi_nO, fi_nO]; exact fa
  have fB : fi (nO (nO h 25 8) 26 2) 184 b = nI Hb := by rw [fi_nO, fi_nO]; exact fb
  have eT : ∀ (β : Type) (K : Nat → HP → Rs β), nwO 25 8 h (fun p18 h19 => nwO 26 2 h19 fun p20 h21 => if kc h21 p20 = 26 then bd (f_X26_init p20 a h21) (fun _ h22 => if kc h22 p18 = 25 then bd (f_X25_init p18 pl s0 s p20 b h22) (fun _ h23 => if kc h23 p18 ∈ [25] then bd (f_X15_over p18 a h23) (fun x24 h25 => if kc h25 x24 ∈ [16, 17, 18, 19, 20, 21, 22, 23, 24, 25, 27, 28, 29] then bd (f_X15_over x24 b h25) K else none) else none) else none) else none) = (fun Q h21 => if kc h21 Q = 26 then bd (f_X26_init Q a h21) (fun _ h22 => if kc h22 (nx h) = 25 then bd (f_X25_init (nx h) pl s0 s Q b h22) (fun _ h23 => if kc h23 (nx h) ∈ [25] then bd (f_X15_over (nx h) a h23) (fun x24 h25 => if kc h25 x24 ∈ [16, 17, 18, 19, 20, 21, 22, 23, 24, 25, 27, 28, 29] then bd (f_X15_over x24 b h25) K else none) else none) else none) else none) (nx (nO h 25 8)) (nO (nO h 25 8) 26 2) := fun β K => rfl
  have nQ : nx h ≤ nx (nO h 25 8) := by rw [hQ]; omega
  generalize nx (nO h 25 8) = Q at *
  generalize nO (nO h 25 8) 26 2 = hB at *
  have km : kc hB (nx h) ∈ ksNode := by rw [kP]; decide
  have i26 : f_X26_init Q a hB = rok () (sR hB 213 Q a) := by
    unfold f_X26_init
    rw [if_neg hq0, stR_e kQ]
  have i25 : f_X25_init (nx h) pl s0 s Q b (sR hB 213 Q a) = rok () (sR (sR (sR (sI (sI (sI (sR hB 213 Q a) 184 (nx h) 1) 182 (nx h) pl) 208 (nx h) s0) 209 (nx h) s) 210 (nx h) Q) 211 (nx h) b) := by
    unfold f_X25_init f_X15_init
    rw [if_pos (show kc (sR hB 213 Q a) (nx h) = 25 from kP), if_neg hn0, stMI_e, stMI_e, bd_ok, stI_e, stR_e, stR_e, stR_e]
    all_goals first | exact kP | exact km
  have sC : St [] [] 2 h (sR (sR (sR (sI (sI (sI (sR hB 213 Q a) 184 (nx h) 1) 182 (nx h) pl) 208 (nx h) s0) 209 (nx h) s) 210 (nx h) Q) 211 (nx h) b) :=
    ((((((sB.sR kQ (by decide) (.inl newQ)).sI kP (by decide) (.inl hnew)).sI kP (by decide) (.inl hnew)).sI kP (by decide) (.inl hnew)).sR kP (by decide) (.inl hnew)).sR kP (by decide) (.inl hnew)).sR kP (by decide) (.inl hnew)
  have g1 : fi (sR (sR (sR (sI (sI (sI (sR hB 213 Q a) 184 (nx h) 1) 182 (nx h) pl) 208 (nx h) s0) 209 (nx h) s) 210 (nx h) Q) 211 (nx h) b) 182 (nx h) = pl := by simp [fi_sI, fi_sR]
  have g2 : fr (sR (sR (sR (sI (sI (sI (sR hB 213 Q a) 184 (nx h) 1) 182 (nx h) pl) 208 (nx h) s0) 209 (nx h) s) 210 (nx h) Q) 211 (nx h) b) 183 (nx h) = 0 := by simp [fr_sI, fr_sR]; exact f183
  have g3 : fi (sR (sR (sR (sI (sI (sI (sR hB 213 Q a) 184 (nx h) 1) 182 (nx h) pl) 208 (nx h) s0) 209 (nx h) s) 210 (nx h) Q) 211 (nx h) b) 184 (nx h) = nI 1 := by simp [fi_sI, fi_sR]; rfl
  have g4 : fi (sR (sR (sR (sI (sI (sI (sR hB 213 Q a) 184 (nx h) 1) 182 (nx h) pl) 208 (nx h) s0) 209 (nx h) s) 210 (nx h) Q) 211 (nx h) b) 208 (nx h) = s0 := by simp [fi_sI, fi_sR]
  have g5 : fr (sR (sR (sR (sI (sI (sI (sR hB 213 Q a) 184 (nx h) 1) 182 (nx h) pl) 208 (nx h) s0) 209 (nx h) s) 210 (nx h) Q) 211 (nx h) b) 209 (nx h) = s := by simp [fr_sI, fr_sR]
  have g6 : fr (sR (sR (sR (sI (sI (sI (sR hB 213 Q a) 184 (nx h) 1) 182 (nx h) pl) 208 (nx h) s0) 209 (nx h) s) 210 (nx h) Q) 211 (nx h) b) 210 (nx h) = Q := by simp [fr_sI, fr_sR]
  have g7 : fr (sR (sR (sR (sI (sI (sI (sR hB 213 Q a) 184 (nx h) 1) 182 (nx h) pl) 208 (nx h) s0) 209 (nx h) s) 210 (nx h) Q) 211 (nx h) b) 211 (nx h) = b := by simp [fr_sI, fr_sR]
  have g8 : fr (sR (sR (sR (sI (sI (sI (sR hB 213 Q a) 184 (nx h) 1) 182 (nx h) pl) 208 (nx h) s0) 209 (nx h) s) 210 (nx h) Q) 211 (nx h) b) 213 Q = a := by simp [fr_sI, fr_sR]
  have g9 : fr (sR (sR (sR (sI (sI (sI (sR hB 213 Q a) 184 (nx h) 1) 182 (nx h) pl) 208 (nx h) s0) 209 (nx h) s) 210 (nx h) Q) 211 (nx h) b) 214 Q = 0 := by simp [fr_sI, fr_sR]; exact f214
  have ga : fi (sR (sR (sR (sI (sI (sI (sR hB 213 Q a) 184 (nx h) 1) 182 (nx h) pl) 208 (nx h) s0) 209 (nx h) s) 210 (nx h) Q) 211 (nx h) b) 184 a = nI Ha := by simp [fi_sI, fi_sR, na]; exact fA
  have gb : fi (sR (sR (sR (sI (sI (sI (sR hB 213 Q a) 184 (nx h) 1) 182 (nx h) pl) 208 (nx h) s0) 209 (nx h) s) 210 (nx h) Q) 211 (nx h) b) 184 b = nI Hb := by simp [fi_sI, fi_sR, nb]; exact fB
  have hk : kc (sR (sR (sR (sI (sI (sI (sR hB 213 Q a) 184 (nx h) 1) 182 (nx h) pl) 208 (nx h) s0) 209 (nx h) s) 210 (nx h) Q) 211 (nx h) b) = kc hB := rfl
  generalize sR (sR (sR (sI (sI (sI (sR hB 213 Q a) 184 (nx h) 1) 182 (nx h) pl) 208 (nx h) s0) 209 (nx h) s) 210 (nx h) Q) 211 (nx h) b = hC at *
  rw [← hk] at kP kQ kA kB km
  have e1 : ∀ {β : Type} {K : Nat → HP → Rs β}, bd (f_X15_over (nx h) a hC) K = K (nx h) (sI hC 184 (nx h) (nI (max 1 (Ha + 1)))) := fun {β K} => over_e (h := hC) km kA g3 ga (by omega) (by omega)
  have e2 : ∀ {β : Type} {K : Nat → HP → Rs β}, bd (f_X15_over (nx h) b (sI hC 184 (nx h) (nI (max 1 (Ha + 1))))) K = K (nx h) (sI (sI hC 184 (nx h) (nI (max 1 (Ha + 1)))) 184 (nx h) (nI (max (max 1 (Ha + 1)) (Hb + 1)))) := fun {β K} => over_e (h := sI hC 184 (nx h) (nI (max 1 (Ha + 1)))) km kB (by simp [fi_sI]) (by simp [fi_sI, nb]; exact gb) (by omega) (by omega)
  refine ⟨sI (sI hC 184 (nx h) (nI (max 1 (Ha + 1)))) 184 (nx h) (nI (max (max 1 (Ha + 1)) (Hb + 1))), Q, fun β K => ?_, (sC.sI kP (by decide) (.inl hnew)).sI kP (by decide) (.inl hnew), kP, by simp [fi_sI]; exact g1, g2, by simp [fi_sI], by simp [fi_sI]; exact g4, g5, g6, g7, kQ, g8, g9, newQ, nQ⟩
  rw [eT]
  show (if kc hB Q = 26 then _ else none) = _
  rw [hk] at kQ kP
  rw [if_pos kQ, i26, bd_ok, if_pos (show kc (sR hB 213 Q a) (nx h) = 25 from kP), i25, bd_ok, if_pos (show kc hC (nx h) ∈ [25] from by rw [hk, kP]; simp), e1, if_pos (show kc (sI hC 184 (nx h) (nI (max 1 (Ha + 1)))) (nx h) ∈ [16, 17, 18, 19, 20, 21, 22, 23, 24, 25, 27, 28, 29] from km), e2]
variable {e : EE} {hx hm h h' : HP} {i j a : Nat} {IT : List It} {TY : List Ty} {QU : List (List Nat)}
theorem quan_pair {d n m c : Nat} {w : List Nat} (hd : d ≤ 30) (hE : d < 30 → GE e (d + 1)) (hU : d < 30 → GU e (d + 1)) (hn : nE d ≤ n + 2) (hm' : nE d ≤ m + 2) (p : PX e hx i TY QU) (q : PM e hm i IT TY QU) (hI : IT.length ≤ 3 * i ∧ e.il ≠ 0) (hc : c < 4) (c2 : isW (tk e.TS i) w) :
    POut e hx hm i TY QU IT (f_X10_quantor_b49 (r_S4 n) e.P (nI d) (nI c) hx) (f_X48_expression_2_b56 (r_S7 m) e.Q (nI d) (nI (c + 1)) hm) := by
  have S := Sq.start p q
  have hi := q.jj.1
  have h3 := q.jj.2.2.2
  have g3 : nE d = 16 * (31 - d) + 4 := rfl
  have hl : (IT ++ ([] : List It)).length = IT.length := by simp
  unfold f_X10_quantor_b49 f_X48_expression_2_b56
  rw [xP_e p, if_neg (show ¬ nI (c + 1) ≤ (0 : Int32) from fun z => by have := (nI_leI (a := c + 1) (b := 0) (by omega) (by omega)).mp z; omega), m46_e q]
  by_cases d30 : d = 30
  · obtain ⟨hx1, e1, s1, f1⟩ := xdeepN p d30
    obtain ⟨hm1, e2, s2, f2⟩ := mdeepN q d30
    rw [e1, e2]
    exact POut.fail (S.err s1 f1 s2 f2) (by omega) (Nat.le_refl _) (by omega)
  have hd' : d < 30 := by omega
  have gE := hE hd'
  have gU := hU hd'
  have g4 : nE (d + 1) = 16 * (30 - d) + 4 := by unfold nE; omega
  rw [xdeepY hd', mdeepY hd', xt_e p, x10_e p, mfwd_e q]
  rcases S.go (goW_of c2) with ⟨hx1, e1, S1, K1, M1⟩ | ⟨hx1, P, e1, n1, M1, F1⟩
  · have p1 := S1.2.2.1
    have q1 := S1.2.2.2
    have hi1 := q1.jj.1
    rw [e1, xt_e p1, xplc_e p1, xt_e p1, x10_e p1, m46_e q1]
    by_cases c4 : (tk e.TS (i + 1)).1 = 1
    · obtain ⟨nt, hm2, e2, M2, t2, t0, r⟩ := S1.goN c4
      rw [xnameY p1 c4, e2]
      have wd := p1.wrd
      rcases r with ⟨hx2, e3, S2, K2⟩ | ⟨hx2, P, e3, n2, F2⟩
      · have p2 := S2.2.2.1
        have q2 := S2.2.2.2
        have hi2 := q2.jj.1
        have k56 : codes (cStr.getD (56 - 1) "") ∈ KW := by decide
        have wd2 := K2.2.1 wd
        rw [e3, xt_e p2, x10_e p2, m46_e q2]
        by_cases c5 : isX (tk e.TS (i + 1 + 1)) (codes (cStr.getD (56 - 1) ""))
        · have c6 := (isX_W p2.V k56).mp c5
          rw [xexpY p2 (by decide) (by decide) rfl c5, mkeyY q2 (by decide) (by decide) rfl c6]
          -- the twin's first item
          have ti : ∀ {P N N2 b : Nat} {h5 : HP} {OP : Int32} {op : Nat} {K : HP → Rs Unit}, OP = nI op → ToM h5 nt ((tk e.TS (i + 1)).2.2.1, (tk e.TS (i + 1)).2.1) → PN e h5 P N → N ≤ 900 ∧ e.il ≠ 0 → (∀ h6, Km h5 h6 → PN e h6 P (N + 1) → MF e h6 P N2 b (K h6)) → MF e h5 P N2 (22 + b) (ldI 45 354 nt h5 fun x32 => ldR 45 353 nt h5 fun x33 => if kc h5 e.Q = 46 then bd (f_X48_item e.Q OP x32 x33 (0 : Int64) (nI (c + 1)) 0 h5) (fun _ h34 => K h34) else none) := by
            intro P N N2 b h5 OP op K ho M n5 hN hK
            obtain ⟨t1, ⟨ts1, ts2⟩, t3⟩ := M
            rw [ldI_e t1, ldR_e t1, t3]
            exact v46 n5 (vIt n5 hN (op := op) (n := c + 1) (o := none) ho rfl ⟨ts1, ts2⟩ rfl hK)
          rcases S2.go (goW_of c6) with ⟨hx3, e4, S3, K3, M3⟩ | ⟨hx3, P, e4, n3, M3, F3⟩
          · have p3 := S3.2.2.1
            have q3 := S3.2.2.2
            have hi3 := q3.jj.1
            rw [e4, xP_e p3, m46_e q3]
            rcases gU n m hx3 _ (i + 1 + 1 + 1) _ _ _ (by omega) (by omega) p3 q3 (by omega) with ⟨na, hx4, hm4, j, ty4, qu4, its4, H4, d4, x1, x2, k5⟩ | f
            · obtain ⟨hij, S4, K4, M4, N4, hH4, hl4, _⟩ := S3.sub k5
              have q4 := S4.2.2.2
              have hj := q4.jj.1
              have hl5 : (IT ++ ([] ++ its4)).length = IT.length + its4.length := by simp
              have T4 := M4.2.2.1 (M3.2.2.1 t2)
              have T4' := T4
              obtain ⟨t1, ⟨ts1, ts2⟩, t3⟩ := T4
              obtain ⟨hm5, e6, S5, M5⟩ := S4.itm (by omega) (op := 18) (at' := (tk e.TS (i + 1)).2.1) (n := c + 1) (OP := 18) (NN' := nI (c + 1)) (bits := 0) (w := (tk e.TS (i + 1)).2.2.1) (o := none) rfl rfl ⟨ts1, ts2⟩ rfl
              have p5 := S5.2.2.1
              have q5 := S5.2.2.2
              have hw : codes (cStr.getD (17 - 1) "") ∈ SW := by decide
              have hl6 : (IT ++ ([] ++ its4 ++ [(18, (tk e.TS (i + 1)).2.1, (tk e.TS (i + 1)).2.2.1, (0 : Int64), c + 1, (none : Option Ty))])).length = IT.length + its4.length + 1 := by simp; omega
              rw [x1, x2, bd_ok, bd_ok, xt_e p5, x10_e p5, ldI_e t1, ldR_e t1, t3, m46_e q4, e6, m46_e q5]
              by_cases c7 : isX (tk e.TS j) (codes (cStr.getD (17 - 1) ""))
              · have c8 := (isX_S p5.V hw).mp c7
                rw [xexpY p5 (by decide) (by decide) rfl c7, msgnY q5 (by decide) (by decide) rfl c8]
                rcases S5.go (go_of c8) with ⟨hx6, e7, S6, K6, M6⟩ | ⟨hx6, P, e7, n6, M6, F6⟩
                · have p6 := S6.2.2.1
                  have q6 := S6.2.2.2
                  have hj6 := q6.jj.1
                  rw [e7, xP_e p6, m46_e q6]
                  rcases gE n m hx6 _ (j + 1) _ _ _ (by omega) (by omega) p6 q6 (by omega) with ⟨nb, hx7, hm7, j7, ty7, qu7, its7, H7, d7, x3, x4, k7⟩ | f
                  · obtain ⟨hjj, S7, K7, M7, N7, hH7, hl7, _⟩ := S6.sub k7
                    have q7 := S7.2.2.2
                    have hj7 := q7.jj.1
                    have hl8 : (IT ++ ([] ++ its4 ++ [(18, (tk e.TS (i + 1)).2.1, (tk e.TS (i + 1)).2.2.1, (0 : Int64), c + 1, (none : Option Ty))] ++ its7)).length = IT.length + its4.length + 1 + its7.length := by simp; omega
                    have A7 := K7.1 (K6.1 N4)
                    have wd7 := K7.2.1 (K6.2.1 (K4.2.1 (K3.2.1 wd2)))
                    obtain ⟨a1, a2, a3⟩ := Nd_k A7
                    obtain ⟨b1, b2, b3⟩ := Nd_k N7
                    obtain ⟨hx8, r, e8, s8, r1, r2, r3, r4, r5, r6, r7, r8, r9, ra, rb, rn⟩ := xk_qua S7.2.2.1.1 (pl := nI (tk e.TS (i + 1)).2.1) (s0 := nI c) (s := fr hx1 154 e.t) a1 a2 a3 b1 b2 b3
                    obtain ⟨S8, K8⟩ := S7.nod s8
                    obtain ⟨t1, ⟨ts1, ts2⟩, t3⟩ := M7.2.2.1 (M6.2.2.1 (M5.2.2.1 T4'))
                    obtain ⟨hm8, e9, S9, M9⟩ := S8.itm (by omega) (op := 19) (at' := (tk e.TS (i + 1)).2.1) (n := c + 1) (OP := 19) (NN' := nI (c + 1)) (bits := 0) (w := (tk e.TS (i + 1)).2.2.1) (o := none) rfl rfl ⟨ts1, ts2⟩ rfl
                    obtain ⟨⟨D1, D2, D3⟩, DA, DB⟩ := dbl (K6.1 N4) k7.2.2.2.2.2.1 (fun q z => S6.1.1.nwb z) (fun q z => k7.2.1.1.nwb z)
                    rw [x3, x4, bd_ok, bd_ok, e8, ldI_e t1, ldR_e t1, t3, m46_e q7, e9]
                    refine POut.ok (S9.pok (H := max (max 1 (H4 + 1)) (H7 + 1)) (d := max d4 d7 + 1) (by omega) (by omega) (by omega) (.inr ⟨_, r2, r3, r4, by omega, (by first | exact S.1.1.nw | exact S1.1.1.nw | exact S2.1.1.nw | exact S3.1.1.nw | exact S4.1.1.nw | exact S5.1.1.nw | exact S6.1.1.nw | exact S7.1.1.nw | exact S8.1.1.nw), ?_⟩) (by omega) (by simp; omega) (n5e (by decide)))
                    exact .inr (.inr (.inr (.inr (.inr (.inr (.inr (.inr (.inr (.inr (.inr (.inr (.inr ⟨r1, by rw [r7]; exact r9, by rw [r7]; exact rb, c, _, its4, its7, H4, H7, B2 _ _ _ _, hc, ⟨r5, by rw [r7, ra, r8]; exact ⟨D1, D2, D3 _ ⟨S7.2.2.1.1.new, Nat.le_refl _⟩, D3 _ rn⟩, by rw [r7]; exact S7.1.1.nwb rn, fun z => (p1.V.2.2.1 c4).1 (PWK _ z)⟩, by rw [r6]; exact K8.2.1 wd7, by rw [r7, ra]; exact Nd_le (Nat.le_max_left _ _) (K8.1 (K7.1 DA)), by rw [r8]; exact Nd_le (Nat.le_max_right _ _) (K8.1 DB), by omega, by simp⟩))))))))))))
                  · exact POut.fail (S6.fail (Fail_bdk f fun P v h5 s5 n5 => ti (op := 19) rfl ((q6.km s5).2.2.1 (M6.2.2.1 (M5.2.2.1 T4'))) n5 (by omega) fun h6 _ n6 => MF.ok n6 ())) (by omega) (by omega) (by omega)
                · rw [e7]
                  obtain ⟨m', rfl⟩ : ∃ k, m = k + 15 := ⟨m - 15, by omega⟩
                  exact POut.fail (F6 (v46 n6 (MF_bdk (vExp (m := m') (d := d + 1) n6 (Nat.le_refl _)) fun v h5 s5 n5 => ti (op := 19) rfl ((n6.km s5).2.2.1 (M6.2.2.1 (M5.2.2.1 T4'))) n5 (by omega) fun h6 _ n6 => MF.ok n6 ()))) (by omega) (by omega) (by omega)
              · obtain ⟨hx6, e7, s7, f7⟩ := xexpN p5 (by decide) (by decide) rfl c7
                obtain ⟨hm6, e8, s8, f8⟩ := msgnN q5 (by decide) (by decide) rfl (fun z => c7 ((isX_S p5.V hw).mpr z))
                rw [e7, e8]
                exact POut.fail (S5.err s7 f7 s8 f8) (by omega) (Nat.le_refl _) (by omega)
            · exact POut.fail (S3.fail (Fail_bdk f fun P v h5 s5 n5 => ti (op := 18) rfl ((q3.km s5).2.2.1 (M3.2.2.1 t2)) n5 (by omega) fun h6 _ n6 => v46 n6 (vSgn (N2 := 0) n6 (by decide) (by decide)))) (by omega) (by omega) (by omega)
          · rw [e4]
            obtain ⟨m', rfl⟩ : ∃ k, m = k + 3 := ⟨m - 3, by omega⟩
            exact POut.fail (F3 (v46 n3 (MF_bdk (vUn (N2 := 0) (m := m') (d := d + 1) n3) fun v h5 s5 n5 => ti (op := 18) rfl ((n3.km s5).2.2.1 (M3.2.2.1 t2)) n5 (by omega) fun h6 _ n6 => v46 n6 (vSgn (N2 := 0) n6 (by decide) (by decide))))) (by omega) (by omega) (by omega)
        · obtain ⟨hx3, e4, s4, f4⟩ := xexpN p2 (by decide) (by decide) rfl c5
          obtain ⟨hm3, e5, s5, f5⟩ := mkeyN q2 (by decide) (by decide) rfl (fun z => c5 ((isX_W p2.V k56).mpr z))
          rw [e4, e5]
          exact POut.fail (S2.err s4 f4 s5 f5) (by omega) (Nat.le_refl _) (by omega)
      · rw [e3]
        exact POut.fail (F2 (v46 n2 (vKey (N2 := 0) n2 (by decide) (by decide)))) (by omega) (by omega) (by omega)
    · obtain ⟨hx2, e2, s2, f2⟩ := xnameN p1 c4
      obtain ⟨hm2, e3, s3, f3⟩ := mnameN q1 c4
      rw [e2, e3]
      exact POut.fail (S1.err s2 f2 s3 f3) (by omega) (Nat.le_refl _) (by omega)
  · rw [e1]
    exact POut.fail (F1 (v46 n1 (vName (N2 := 0) n1))) (by omega) (by omega) (by omega)
