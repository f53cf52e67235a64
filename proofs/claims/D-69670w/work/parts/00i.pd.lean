/-! PHASE B parser 13: a call is read by both -/
set_option maxRecDepth 100000
variable {e : EE} {hx hm h h' : HP} {i j a : Nat} {IT : List It} {TY : List Ty} {QU : List (List Nat)}
theorem call_pair {hx0 hm0 : HP} {i0 f s s' d at' bit n m : Nat} {w : List Nat} {TY0 ty : List Ty} {QU0 qu : List (List Nat)} {IT0 itA : List It} {dA HA : Nat} (hd1 : 1 ≤ d) (hd : d ≤ 30) (hE : d < 30 → GE e (d + 1)) (hn : nE d ≤ n + 16) (hm' : nE d ≤ m + 16)
    (h0 : i0 < i) (sx : XS e (60 * (i - i0)) hx0 hx) (sm : MS e (60 * (i - i0)) hm0 hm) (p : PX e hx i (TY0 ++ ty) (QU0 ++ qu)) (q : PM e hm i (IT0 ++ itA) (TY0 ++ ty) (QU0 ++ qu)) (hI : IT0.length ≤ 3 * i0 ∧ e.il ≠ 0) (tk1 : isS (tk e.TS i) (codes "("))
    (hs : StrX hx s w) (hs' : StrX hm s' w) (of : (f = 0 ∧ itA = [] ∧ bit = 0 ∧ HA = 0) ∨ (f ≠ 0 ∧ Nd e (Nw hx0) dA hx f itA HA ∧ bit = 1)) (hHA : HA ≤ i - i0) (hA2 : itA.length ≤ 2 * (i - i0)) :
    COut e hx0 hm0 i0 i TY0 QU0 IT0 (f_X10_call_o (r_S4 n) e.P (nI at') f s (nI d) hx) (fun K => bd (f_X48_arguments_o (r_S7 m) e.Q (nI d) hm) (cItm e at' s' (Int64.ofNat bit) K)) := by
  have hi := q.jj.1
  have h3 := q.jj.2.2.2
  have hl0 : (IT0 ++ itA).length ≤ IT0.length + 2 * (i - i0) := by rw [List.length_append]; omega
  have g : tkGo (tk e.TS i) := ⟨by have := tk1.1; omega, by have := tk1.1; omega⟩
  have hwp : codes (cStr.getD (10 - 1) "") ∈ SW := by decide
  unfold f_X10_call_o
  rw [xP_e p]
  by_cases d30 : d = 30
  · obtain ⟨hx1, e1, s1, f1⟩ := xdeepN p d30
    obtain ⟨hm1, e2, s2, f2⟩ := mdeepN q d30
    rw [e1]
    refine COut.fail sx sm rfl (XS.le (XS.tok p s1) (by omega)) f1 (fun K => ?_) (MS.tr s2) f2 (by omega) (by omega)
    unfold f_X48_arguments_o
    rw [m46_e q, e2]; rfl
  have hd' : d < 30 := by omega
  have gE := hE hd'
  have g3 : nE d = 16 * (31 - d) + 4 := rfl
  have g4 : nE (d + 1) = 16 * (30 - d) + 4 := by unfold nE; omega
  have hn1 : nE (d + 1) ≤ n := by omega
  have hm1' : nE (d + 1) ≤ m := by omega
  have argF : ∀ K, bd (f_X48_arguments_o (r_S7 m) e.Q (nI d) hm) (cItm e at' s' (Int64.ofNat bit) K) = bd ((if isS (tk e.TS i) (codes "(") then (fun (h4 : HP) => if kc h4 e.Q = 46 then bd (f_X48_isSign e.Q 10 h4) (fun x5 h6 => if x5 = 0 then bd (f_X48_arguments_l27 (r_S7 m) e.Q (nI (d + 1)) NN 0 h6) (fun x8 h9 => if kc h9 e.Q = 46 then bd (f_X48_sign e.Q 10 h9) (fun _ h10 => rok x8 h10) else none) else (if kc h6 e.Q = 46 then bd (f_X48_sign e.Q 10 h6) (fun _ h7 => rok (0 : Int32) h7) else none)) else none) else fun _ => none) (fwd e hm i)) (cItm e at' s' (Int64.ofNat bit) K) := by
    intro K
    rw [if_pos tk1]
    unfold f_X48_arguments_o
    rw [m46_e q, mdeepY hd', mfwd_e q]
  rw [xdeepY hd', xt_e p, x10_e p]
  rcases adv p q g with ⟨hx1, e1, s1, p1, q1, t1⟩ | ⟨hx1, P, e1, s1, f1, n1, t1⟩
  · have hi1 := q1.jj.1
    have sx1 : XS e (60 * (i - i0) + 20) hx0 hx1 := sx.trans s1
    have sm1 : MS e (60 * (i - i0) + 0) hm0 (fwd e hm i) := sm.trans t1
    have hs1 : StrX hx1 s w := StrX_fr (p.fr0 s1.1) hs (by decide)
    have hs1' : StrX (fwd e hm i) s' w := StrX_fr (q.fr0 t1) hs' (by decide)
    have w1 := p1.1
    rw [e1, nwC_e]
    -- the list of arguments
    have kl1 : kc (nC hx1 107 3) (nx hx1) = 107 := kc_nC_n
    have cl1 : cp (nC hx1 107 3) (nx hx1) = RAW := by rw [cp_nC, if_pos rfl]
    have hln : kc hx1 (nx hx1) = 0 := w1.new
    have sA : St [] [] (0 + 1 + 1) hx1 (sLc (nC hx1 107 3) (nx hx1) [] 2 1 2) := ((St.refl w1 [] []).nC (by omega) (by omega)).sLc kl1 (by decide) (.inl hln) (by omega) (by omega)
    rw [lsInitN_e ⟨by rw [kl1]; decide, by rw [kl1]; decide, cl1⟩ (by decide) (by decide)]
    have p2 := p1.new sA
    have klA : kc (sLc (nC hx1 107 3) (nx hx1) [] 2 1 2) (nx hx1) = 107 := kl1
    have clA : cp (sLc (nC hx1 107 3) (nx hx1) [] 2 1 2) (nx hx1) = 2 := by rw [cp_sLc, if_pos rfl]
    have llA : ls (sLc (nC hx1 107 3) (nx hx1) [] 2 1 2) (nx hx1) = [] := by rw [ls_sLc, if_pos rfl]
    rw [show sLc (nC hx1 107 3) (nx hx1) [] (Int32.toNatClampNeg 2) 1 (Int32.toNatClampNeg 2) = sLc (nC hx1 107 3) (nx hx1) [] 2 1 2 from rfl]
    have XA := XS.new p1 sA
    have hsA : StrX (sLc (nC hx1 107 3) (nx hx1) [] 2 1 2) s w := StrX_fr (p1.fr0 XA.1) hs1 (by decide)
    have raw : RAW = 1099511627776 := rfl
    generalize sLc (nC hx1 107 3) (nx hx1) [] 2 1 2 = hA at *
    generalize hl : nx hx1 = l at *
    have l0 : Nw hx0 l := by rw [← hl]; exact sx1.1.nw
    rw [xt_e p2, x10_e p2, xis_e p2 (by decide) (by decide) rfl]
    -- the node, once the arguments are there
    have fin : ∀ (hx2 hm2 : HP) (j : Nat) (ty' : List Ty) (qu' : List (List Nat)) (L : List (List It × Nat)) (dd : Nat) (cx : Nat), i + 1 ≤ j → cx ≤ 60 → XS e (60 * (j - (i + 1)) + cx) hx1 hx2 → MS e (60 * (j - (i + 1))) (fwd e hm i) hm2 → PX e hx2 j (TY0 ++ ty ++ ty') (QU0 ++ qu ++ qu') → PM e hm2 j (IT0 ++ itA ++ flat L) (TY0 ++ ty ++ ty') (QU0 ++ qu ++ qu') → kc hx2 l = 107 → cp hx2 l ≠ RAW → AsL e hx1 hx2 l dd L → L.length ≤ j - (i + 1) → (flat L).length ≤ 2 * (j - (i + 1)) → (∀ p ∈ L, p.2 ≤ j - (i + 1)) → 
        COut e hx0 hm0 i0 i TY0 QU0 IT0 (ldMR ksParser 156 e.P hx2 fun x3 => if kc hx2 x3 = 10 then bd (f_X9_expect x3 10 hx2) (fun _ h4 => nwO 20 8 h4 fun p5 h6 => if kc h6 p5 = 20 then bd (f_X20_init p5 (nI at') f s l h6) (fun _ h7 => if f = 0 then (f_X10_call_b110 (r_S4 n) l p5 h7) else (if kc h7 p5 ∈ [16, 17, 18, 19, 20, 21, 22, 23, 24, 25, 27, 28, 29] then bd (f_X15_over p5 f h7) (fun x8 h9 => f_X10_call_b110 (r_S4 n) l p5 h9) else none)) else none) else none) (fun K => bd (if kc hm2 e.Q = 46 then bd (f_X48_sign e.Q 10 hm2) (fun _ h10 => rok (nI L.length) h10) else none) (cItm e at' s' (Int64.ofNat bit) K)) := by
      intro hx2 hm2 j ty' qu' L dd cx hj1 hcx S2 M2 p3 q3 kl2 cl2 A2' lL lF lH
      have hj := q3.jj.1
      have hs2 : StrX hx2 s w := StrX_fr (p1.fr0 S2.1) hs1 (by decide)
      have hs2' : StrX hm2 s' w := StrX_fr (q1.fr0 M2) hs1' (by decide)
      rw [xt_e p3, x10_e p3, m46_e q3]
      by_cases c : isX (tk e.TS j) (codes (cStr.getD (10 - 1) ""))
      · have c2 := (isX_S p3.V hwp).mp c
        have g2 : tkGo (tk e.TS j) := ⟨by have := c2.1; omega, by have := c2.1; omega⟩
        have hM : ∀ K, bd (bd (f_X48_sign e.Q 10 hm2) (fun _ h10 => rok (nI L.length) h10)) (cItm e at' s' (Int64.ofNat bit) K) = cItm e at' s' (Int64.ofNat bit) K (nI L.length) (fwd e hm2 j) := fun K => by
          rw [msgnY q3 (by decide) (by decide) rfl c2, bd_ok]
        rw [xexpY p3 (by decide) (by decide) rfl c]
        rcases adv p3 q3 g2 with ⟨hx3, e3, s3, p4, q4, t4⟩ | ⟨hx3, P, e3, s3, f3, n3, t3⟩
        · have hj2 := q4.jj.1
          have E3 := (p3.fr0 s3.1).at kl2 (by decide) (by decide)
          have hs3 : StrX hx3 s w := StrX_fr (p3.fr0 s3.1) hs2 (by decide)
          have hs3' : StrX (fwd e hm2 j) s' w := StrX_fr (q3.fr0 t4) hs2' (by decide)
          have of' : (f = 0 ∧ itA = [] ∧ bit = 0) ∨ (f ≠ 0 ∧ Nd e (fun q => Nw hx0 q ∧ kc hx1 q ≠ 0) dA hx3 f itA HA ∧ bit = 1 ∧ HA ≤ 900) := by
            rcases of with ⟨z1, z2, z3, z4⟩ | ⟨z1, z2, z3⟩
            · exact .inl ⟨z1, z2, z3⟩
            · exact .inr ⟨z1, XS.nd p3 s3 (XS.nd p1 S2 (XS.nd p s1 (Nd_F' (fun q y y0 => ⟨y, fun y1 => y0 (kc_back s1.1 y1)⟩) z2))), z3, by omega⟩
          have A3 : AsL e hx1 hx3 l dd L := A2'.mv E3.2.2.2.2.2.2.2.2.1 (fun z => XS.nd p3 s3 z)
          obtain ⟨nd, hx4, e4, s4, N4⟩ := call_nd (R := r_S4 n) (at' := at') p4 (fun q hq => sx1.1.nwb hq) (fun q hq => S2.1.nwb (s3.1.nwb hq)) l0 E3.1 (by rw [E3.2.2.2.2.2.2.2.2.2.2]; exact cl2) A3 (by omega) hs3 (fun p hp => by have := lH p hp; omega) of'
          have e4' := e4 (K := fun x h => rok x h)
          simp only [bd_r] at e4'
          have p5 := p4.new s4
          have hlen : (IT0 ++ itA ++ flat L).length ≤ 900 ∧ e.il ≠ 0 := by rw [List.length_append]; omega
          obtain ⟨hm3, e5, s5, q5⟩ := mitm q4 hlen (op := 7) (at' := at') (n := L.length) (bits := Int64.ofNat bit) (o := none) hs3' (show TyO (fwd e hm2 j) 0 none from rfl)
          rw [e3, e4']
          refine .inl ⟨nd, hx4, hm3, j + 1, ty ++ ty', qu ++ qu', itA ++ flat L ++ [(7, at', w, Int64.ofNat bit, L.length, none)], _, _, rfl, fun K => ?_, by omega, by omega, ((((sx1.trans S2).trans s3).trans (XS.new p4 s4)).le (by omega)), ((((sm1.trans M2).trans t4).trans (MS.il s5)).le (by omega)), by rw [← List.append_assoc, ← List.append_assoc]; exact p5, ?_, N4, ?_, ?_, n5e (by decide)⟩
          · show bd (bd (f_X48_sign e.Q 10 hm2) (fun _ h10 => rok (nI L.length) h10)) (cItm e at' s' (Int64.ofNat bit) K) = K hm3
            rw [hM]
            unfold cItm
            rw [m46_e q4]; exact e5 _ K
          · rw [show IT0 ++ (itA ++ flat L ++ [(7, at', w, Int64.ofNat bit, L.length, none)]) = IT0 ++ itA ++ flat L ++ [(7, at', w, Int64.ofNat bit, L.length, none)] by simp, ← List.append_assoc, ← List.append_assoc]; exact q5
          · refine hMax_le (fun p hp => by have := lH p hp; omega) ?_
            split
            · omega
            · omega
          · rw [List.length_append, List.length_append, List.length_singleton]; omega
        · rw [e3]
          refine .inr ⟨P, hx3, rfl, (((sx1.trans S2).trans s3).le (by omega)), f3, fun K N2 b hK => ?_⟩
          show MF e hm0 P N2 _ (bd (bd (f_X48_sign e.Q 10 hm2) (fun _ h10 => rok (nI L.length) h10)) (cItm e at' s' (Int64.ofNat bit) K))
          rw [hM]
          unfold cItm
          have hs3' : StrX (fwd e hm2 j) s' w := StrX_fr (q3.fr0 t3) hs2' (by decide)
          have hlen : (IT0 ++ itA ++ flat L).length ≤ IT0.length + 2 * (i - i0) + 2 * (j - (i + 1)) := by rw [List.length_append]; omega
          refine (MF.pre ((sm1.trans M2).trans t3) (v46 n3 (vItm n3 (by omega) hs3' (o := none) rfl (N2 := N2) (b := b) fun h6 n6 => hK h6 ?_))).le (Nat.le_refl _) (by omega)
          obtain ⟨j1, IT1, TY1, QU1, z1, z2, z3, z4⟩ := n6
          exact ⟨j1, IT1, TY1, QU1, z1, z2, z3, by omega⟩
      · obtain ⟨hx3, e3, s3, f3⟩ := xexpN p3 (by decide) (by decide) rfl c
        obtain ⟨hm3, e4, s4, f4⟩ := msgnN q3 (s := 10) (by decide) (by decide) rfl (fun z => c ((isX_S p3.V hwp).mpr z))
        rw [e3]
        refine COut.fail (sx1.trans S2) (sm1.trans M2) rfl (XS.le (XS.tok p3 s3) (by omega)) f3 (fun K => ?_) (MS.tr s4) f4 (by omega) (by omega)
        show bd (bd (f_X48_sign e.Q 10 hm2) (fun _ h10 => rok (nI L.length) h10)) (cItm e at' s' (Int64.ofNat bit) K) = _
        rw [e4]; rfl
    have argM : ∀ K, bd (f_X48_arguments_o (r_S7 m) e.Q (nI d) hm) (cItm e at' s' (Int64.ofNat bit) K) = bd (if isS (tk e.TS (i + 1)) (codes (cStr.getD (10 - 1) "")) then (if kc (fwd e hm i) e.Q = 46 then bd (f_X48_sign e.Q 10 (fwd e hm i)) (fun _ h7 => rok (0 : Int32) h7) else none) else bd (f_X48_arguments_l27 (r_S7 m) e.Q (nI (d + 1)) NN 0 (fwd e hm i)) (fun x8 h9 => if kc h9 e.Q = 46 then bd (f_X48_sign e.Q 10 h9) (fun _ h10 => rok x8 h10) else none)) (cItm e at' s' (Int64.ofNat bit) K) := by
      intro K
      rw [argF, if_pos tk1]
      show bd (if kc (fwd e hm i) e.Q = 46 then _ else none) _ = _
      rw [m46_e q1, misS_e q1 (by decide) (by decide) rfl]
      by_cases c : isS (tk e.TS (i + 1)) (codes (cStr.getD (10 - 1) ""))
      · rw [if_pos c, if_pos c, if_neg z10]
      · rw [if_neg c, if_neg c, if_pos y00]
    have argM' : (fun K => bd (f_X48_arguments_o (r_S7 m) e.Q (nI d) hm) (cItm e at' s' (Int64.ofNat bit) K)) = _ := funext argM
    rw [argM']
    by_cases c : isX (tk e.TS (i + 1)) (codes (cStr.getD (10 - 1) ""))
    · have c2 := (isX_S p2.V hwp).mp c
      simp only [if_pos c2]
      rw [if_pos c, if_neg z10]
      unfold f_X10_call_b42
      have l44 : f_X10_call_l44 (r_S4 n) e.P (nI at') f s (nI (d + 1)) l NN 0 hA = rok () hA := by
        rw [show NN = (NN - 1) + 1 from rfl, f_X10_call_l44_s]
        unfold b_X10_call_l44
        rw [if_pos y00]
      rw [l44, bd_ok]
      exact fin hA (fwd e hm i) (i + 1) [] [] [] 0 2 (Nat.le_refl _) (by omega) (XA.le (by omega)) ((St.refl q1.1 _ _).le (by omega)) (by rw [List.append_nil, List.append_nil]; exact p2) (by rw [show flat ([] : List (List It × Nat)) = [] from rfl, List.append_nil, List.append_nil, List.append_nil]; exact q1) klA (by omega) (AsL.nil llA) (by simp) (by show 0 ≤ _; omega) (fun p hp => by simp at hp)
    · have c2 : ¬ isS (tk e.TS (i + 1)) (codes (cStr.getD (10 - 1) "")) := fun z => c ((isX_S p2.V hwp).mpr z)
      rw [if_neg c, if_pos y00]
      simp only [if_neg c2]
      unfold f_X10_call_b42
      have AS0 : AS e hx1 (fwd e hm i) (i + 1) (TY0 ++ ty) (QU0 ++ qu) (IT0 ++ itA) 5 hA (fwd e hm i) (i + 1) [] [] [] l 0 := by
        refine ⟨Nat.le_refl _, XA.le (by omega), (St.refl q1.1 _ _).le (by omega), by rw [List.append_nil, List.append_nil]; exact p2, by rw [show flat ([] : List (List It × Nat)) = [] from rfl, List.append_nil, List.append_nil, List.append_nil]; exact q1, ⟨klA, by omega, hln⟩, AsL.nil llA, by simp, by show 0 ≤ _; omega, fun p hp => by simp at hp⟩
      have hT : (IT0 ++ itA).length ≤ 3 * (i + 1) ∧ e.il ≠ 0 := by omega
      have AL := args_l (n := n) (m := m) hd' gE hn1 hm1' hT (nI at') f s (NN - 1) hA (fwd e hm i) (i + 1) [] [] [] 0 NN NN (by have := NN_ge (k := 500) (by omega); omega) (by omega) (by have := NN_ge (k := 500) (by omega); omega) AS0
      rw [show nI ([] : List (List It × Nat)).length = (0 : Int32) from rfl] at AL
      rcases AL with ⟨hx2, hm2, j, ty', qu', L', dd', x1, x2, x3, B⟩ | f9
      · obtain ⟨b1, b2, b3, b4, b5, b6, b7, b8, b9, b10⟩ := B
        rw [x1, bd_ok]
        have x2' : (fun K => bd (bd (f_X48_arguments_l27 (r_S7 m) e.Q (nI (d + 1)) NN 0 (fwd e hm i)) (fun x8 h9 => if kc h9 e.Q = 46 then bd (f_X48_sign e.Q 10 h9) (fun _ h10 => rok x8 h10) else none)) (cItm e at' s' (Int64.ofNat bit) K)) = (fun K => bd (if kc hm2 e.Q = 46 then bd (f_X48_sign e.Q 10 hm2) (fun _ h10 => rok (nI L'.length) h10) else none) (cItm e at' s' (Int64.ofNat bit) K)) := funext fun K => by rw [x2, bd_ok]
        rw [x2']
        exact fin hx2 hm2 j ty' qu' L' dd' 12 b1 (by omega) b2 b3 b4 b5 b6.1 b6.2.1 b7 b8 b9 b10
      · have hj0 := q1.jj.1
        refine COut.pre (s := s') (w := w) (i1 := i + 1) (IT1 := IT0 ++ itA) (TY1 := TY0 ++ ty) (QU1 := QU0 ++ qu) sx1 sm1 q1 hs1' ((f9.bd (K1 := fun x1 h2 => (none : Rs Nat)) (N2 := (IT0 ++ itA).length + 3 * (e.TS.length - (i + 1))) (c := 1) (fun P v h5 n5 => v46 n5 (vSgn n5 (by decide) (by decide)))).le (Nat.le_refl _) (Nat.le_refl _) (Nat.le_refl _)) (fun h' hr => ?_) (fun K => rfl) (by omega) (by omega) (by omega) (by omega)
        obtain ⟨P9, hx9, y1, _⟩ := f9
        rw [y1] at hr ⊢
        exact hr
  · rw [e1]
    have q1' := (mfwd_s q g).2
    have hs1' : StrX (fwd e hm i) s' w := StrX_fr (q.fr0 t1) hs' (by decide)
    have A1 : MF e (fwd e hm i) P (IT0 ++ itA).length 2 (if kc (fwd e hm i) e.Q = 46 then bd (f_X48_isSign e.Q 10 (fwd e hm i)) (fun x5 h6 => if x5 = 0 then bd (f_X48_arguments_l27 (r_S7 m) e.Q (nI (d + 1)) NN 0 h6) (fun x8 h9 => if kc h9 e.Q = 46 then bd (f_X48_sign e.Q 10 h9) (fun _ h10 => rok x8 h10) else none) else (if kc h6 e.Q = 46 then bd (f_X48_sign e.Q 10 h6) (fun _ h7 => rok (0 : Int32) h7) else none)) else none) := by
      refine v46 n1 (vS n1 (by decide) (by decide) ?_)
      rw [if_pos y00, show NN = (NN - 1) + 1 from rfl, f_X48_arguments_l27_s]
      unfold b_X48_arguments_l27
      obtain ⟨m', rfl⟩ : ∃ k, m = k + 15 := ⟨m - 15, by omega⟩
      refine MF.bd (N := (IT0 ++ itA).length) (a := 1) (b := 1) ?_ fun v h5 n5 => v46 n5 (vSgn n5 (by decide) (by decide))
      refine v46 n1 ((MF.bd (vExp (N2 := (IT0 ++ itA).length) (m := m') (d := d + 1) n1 (Nat.le_refl _)) fun v h5 n5 => ?_).le (Nat.le_refl _) (show 1 + 0 ≤ 1 by omega))
      simp only [lt3]
      refine v46 n5 (vG n5 (by decide) (by decide) ?_)
      rw [if_pos y00]
      exact MF.ok n5 _
    exact COut.pre (s := s') (w := w) sx (sm.trans t1) q1' hs1' (⟨P, hx1, rfl, s1, f1, A1⟩ : Fail e hx (fwd e hm i) 20 _ 2 (rex hx1 : Rs Nat) _) (fun h' hr => hr) (fun K => by rw [argF, if_pos tk1]) (by omega) (by omega) (by omega) (by omega)
