/-! PHASE B parser 20: levels of signs; instanceof -/
set_option maxRecDepth 100000
variable {e : EE} {hx hm h h' : HP} {i j a : Nat} {IT : List It} {TY : List Ty} {QU : List (List Nat)}
theorem Fail_bdV {α β γ δ : Type} {N N2 b c : Nat} {rx : Rs α} {rm : Rs β} {K1 : α → HP → Rs γ} {K2 : β → HP → Rs δ} {V : β → HP → Prop} (f : Fail e hx hm a N b rx rm) (hV : ∀ v h', rm = rok v h' → V v h') (hk : ∀ p v h', V v h' → MS e b hm h' → PN e h' p N → MF e h' p N2 c (K2 v h')) : Fail e hx hm a N2 (b + c) (bd rx K1) (bd rm K2) := by
  obtain ⟨p, hx', e1, s1, f1, m1⟩ := f
  refine ⟨p, hx', by rw [e1]; rfl, s1, f1, ?_⟩
  rcases m1 with ⟨h', a1, b1, c⟩ | ⟨v, h', a1, b1, c⟩
  · exact .inl ⟨h', by rw [a1]; rfl, b1.le (by omega), c⟩
  · have := hV v h' a1
    rw [a1]; exact (hk p v h' this b1 c).pre b1
theorem vTy {p N N2 : Nat} (n : PN e h p N) : MF e h p N2 1 (f_X48_type e.Q h) := by
  unfold f_X48_type
  refine v46 n (vT n fun t T mt k9 => v46 n (vB n ?_))
  rw [if_pos y00]
  exact v46 n (vWr n)
theorem inst_pair {n H d : Nat} {hx0 hm0 : HP} {i0 : Nat} {TY0 ty : List Ty} {QU0 qu : List (List Nat)} {IT0 its : List It} (hI : IT0.length ≤ 3 * i0 ∧ e.il ≠ 0) (k : POk e hx0 hm0 i0 TY0 QU0 IT0 n hx hm i ty qu its H d) (c2 : isW (tk e.TS i) (codes (cStr.getD (57 - 1) ""))) :
    POut e hx0 hm0 i0 TY0 QU0 IT0 (bd (f_X9_next e.t hx) (fun _ h9 => nwO 27 5 h9 fun p10 h11 => if kc h11 e.P ∈ [11, 12] then bd (f_X10_type e.P h11) (fun x12 h13 => if kc h13 p10 = 27 then bd (f_X27_init p10 (nI (tk e.TS i).2.1) n x12 h13) (fun _ h14 => if kc h14 p10 ∈ [27] then bd (f_X15_over p10 n h14) (fun x15 h16 => rok x15 h16) else none) else none) else none)) (if kc (fwd e hm i) e.Q = 46 then bd (f_X48_type e.Q (fwd e hm i)) (fun x13 h14 => if kc h14 e.Q = 46 then bd (f_X48_item e.Q (12 : Int32) (nI (tk e.TS i).2.1) 1 (0 : Int64) (0 : Int32) x13 h14) (fun _ h15 => rok () h15) else none) else none) := by
  have S := k.sq
  obtain ⟨k1, k2, k3, p, q, k6, k7, k8, k9⟩ := k
  have hi := q.jj.1
  have h3 := q.jj.2.2.2
  have hl : (IT0 ++ its).length = IT0.length + its.length := List.length_append
  rcases S.go (goW_of c2) with ⟨hx1, e1, S1, K1, M1⟩ | ⟨hx1, P, e1, n1, M1, F1⟩
  · have p1 := S1.2.2.1
    have q1 := S1.2.2.2
    have hi1 := q1.jj.1
    have w1 := p1.1
    have hn0 : nx hx1 ≠ 0 := by have := w1.1; omega
    have hnew : kc hx1 (nx hx1) = 0 := w1.new
    have newN : nx hx0 ≤ nx hx1 := S1.1.1.2.1
    have newM : nx hx1 ≤ nx hx1 := Nat.le_refl _
    have sA : St [] [] (0 + 1) hx1 (nO hx1 27 5) := (St.refl w1 [] []).nO (by omega) (by omega)
    have kA : kc (nO hx1 27 5) (nx hx1) = 27 := kc_nO_n
    have fA : fr (nO hx1 27 5) 183 (nx hx1) = 0 := by rw [fr_nO]; exact (new0 w1).2 183
    rw [e1, nwO_e, m46_e q1]
    have XA := XS.new p1 sA
    obtain ⟨S2, K2⟩ := S1.nod sA
    generalize nO hx1 27 5 = hA at *
    generalize hqq : nx hx1 = qq at *
    have p2 := S2.2.2.1
    rw [xP_e p2]
    rcases ty_pair p2 q1 with ⟨nt, nm, hx3, hm3, j, T, e2, e3, kt⟩ | ⟨f, fV⟩
    · obtain ⟨hij, S3, K3, M3, T1, T2, T3⟩ := S2.typ kt
      have p3 := S3.2.2.1
      have q3 := S3.2.2.2
      have hj := q3.jj.1
      have E3 := (p2.fr0 kt.2.1.1).at kA (by decide) (by decide)
      have k27 : kc hx3 qq = 27 := E3.1
      have f183 : fr hx3 183 qq = 0 := (E3.2.2.2.2.1 183).trans fA
      have A3 := K3.1 (K2.1 (K1.1 k6))
      have A1 := K1.1 k6
      obtain ⟨a1, a2, a3⟩ := Nd_k A3
      have nq : n ≠ qq := fun z => by
        have b1 := (Nd_k A1).1
        rw [z, hnew] at b1; exact absurd b1 (by decide)
      have new0' : kc hx0 qq = 0 := kc_back S1.1.1 hnew
      have okm : kc hx3 qq ∈ ksNode := by rw [k27]; decide
      -- what is put into the node
      have ini : f_X27_init qq (nI (tk e.TS i).2.1) n nt hx3 = rok () (sR (sR (sI (sI hx3 184 qq 1) 182 qq (nI (tk e.TS i).2.1)) 215 qq n) 216 qq nt) := by
        unfold f_X27_init f_X15_init
        rw [if_pos k27, if_neg hn0, stMI_e, stMI_e, bd_ok, stR_e, stR_e]
        all_goals first | exact k27 | exact okm
      have stp : ∀ {K X : List Nat} {a : Nat} {h0 : HP}, St K X a h0 hx3 → (kc h0 qq = 0 ∨ qq ∈ X) → St K X a h0 (sI (sR (sR (sI (sI hx3 184 qq 1) 182 qq (nI (tk e.TS i).2.1)) 215 qq n) 216 qq nt) 184 qq (nI (max 1 (H + 1)))) := fun s hx => by
        have hx' : ∀ {K : List Nat}, kc _ qq = 0 ∨ 27 ∈ K ∨ qq ∈ _ := fun {K} => hx.elim .inl (fun z => .inr (.inr z))
        exact ((((s.sI k27 (by decide) hx').sI k27 (by decide) hx').sR k27 (by decide) hx').sR k27 (by decide) hx').sI k27 (by decide) hx'
      have sQ : St [] [qq] 0 hx3 _ := stp (St.refl p3.1 [] [qq]) (.inr (by simp))
      have F27 : Fr (fun k => decide (k ≠ 27)) hx3 _ := sQ.fr (by simp) (fun x hx => .inr (by rw [List.mem_singleton.mp hx, k27]; decide))
      have p4 := p3.f27 sQ.1 F27
      have g1 : fi (sI (sR (sR (sI (sI hx3 184 qq 1) 182 qq (nI (tk e.TS i).2.1)) 215 qq n) 216 qq nt) 184 qq (nI (max 1 (H + 1)))) 182 qq = nI (tk e.TS i).2.1 := by simp [fi_sI, fi_sR]
      have g2 : fr (sI (sR (sR (sI (sI hx3 184 qq 1) 182 qq (nI (tk e.TS i).2.1)) 215 qq n) 216 qq nt) 184 qq (nI (max 1 (H + 1)))) 183 qq = 0 := by simp [fr_sI, fr_sR]; exact f183
      have g3 : fi (sI (sR (sR (sI (sI hx3 184 qq 1) 182 qq (nI (tk e.TS i).2.1)) 215 qq n) 216 qq nt) 184 qq (nI (max 1 (H + 1)))) 184 qq = nI (max 1 (H + 1)) := by simp [fi_sI, fi_sR]
      have g4 : fr (sI (sR (sR (sI (sI hx3 184 qq 1) 182 qq (nI (tk e.TS i).2.1)) 215 qq n) 216 qq nt) 184 qq (nI (max 1 (H + 1)))) 215 qq = n := by simp [fr_sI, fr_sR]
      have g5 : fr (sI (sR (sR (sI (sI hx3 184 qq 1) 182 qq (nI (tk e.TS i).2.1)) 215 qq n) 216 qq nt) 184 qq (nI (max 1 (H + 1)))) 216 qq = nt := by simp [fr_sI, fr_sR]
      have ov : bd (f_X15_over qq n (sR (sR (sI (sI hx3 184 qq 1) 182 qq (nI (tk e.TS i).2.1)) 215 qq n) 216 qq nt)) (fun x15 h16 => (rok x15 h16 : Rs Nat)) = rok qq (sI (sR (sR (sI (sI hx3 184 qq 1) 182 qq (nI (tk e.TS i).2.1)) 215 qq n) 216 qq nt) 184 qq (nI (max 1 (H + 1)))) := by
        rw [over_e (h := sR (sR (sI (sI hx3 184 qq 1) 182 qq (nI (tk e.TS i).2.1)) 215 qq n) 216 qq nt) (x := 1) (y := H) (show kc hx3 qq ∈ ksNode from okm) (show kc hx3 n ∈ ksNode from a1) (by simp [fi_sI, fi_sR]; rfl) (by simp [fi_sI, fi_sR, nq]; exact a2) (by omega) (by omega)]
      have km : kc (sR (sR (sI (sI hx3 184 qq 1) 182 qq (nI (tk e.TS i).2.1)) 215 qq n) 216 qq nt) qq ∈ [27] := by show kc hx3 qq ∈ [27]; rw [k27]; simp
      rw [e2, e3, bd_ok, bd_ok, if_pos k27, ini, bd_ok, if_pos km, ov, m46_e q3]
      have lsE : ∀ y, ls (sI (sR (sR (sI (sI hx3 184 qq 1) 182 qq (nI (tk e.TS i).2.1)) 215 qq n) 216 qq nt) 184 qq (nI (max 1 (H + 1)))) y = ls hx3 y := fun _ => rfl
      have sX : St [] e.xx _ hx0 _ := stp S3.1.1 (.inl new0')
      have s1x : St [] e.xx _ hx1 _ := stp (XA.1.trans kt.2.1.1) (.inl hnew)
      have k4 : kc (sI (sR (sR (sI (sI hx3 184 qq 1) 182 qq (nI (tk e.TS i).2.1)) 215 qq n) 216 qq nt) 184 qq (nI (max 1 (H + 1)))) qq = 27 := k27
      generalize sI (sR (sR (sI (sI hx3 184 qq 1) 182 qq (nI (tk e.TS i).2.1)) 215 qq n) 216 qq nt) 184 qq (nI (max 1 (H + 1))) = h4 at *
      have X1 : XS e _ hx1 h4 := ⟨s1x, fun y hy => by rw [lsE]; exact (XA.trans kt.2.1).2.1 y hy, fun y hy => by rw [lsE]; exact (XA.trans kt.2.1).2.2 y hy⟩
      have S4 : Sq e hx0 hm0 TY0 QU0 IT0 _ _ h4 hm3 j (ty ++ [T]) qu its := ⟨⟨sX, fun y hy => by rw [lsE]; exact S3.1.2.1 y hy, fun y hy => by rw [lsE]; exact S3.1.2.2 y hy⟩, S3.2.1, p4, q3⟩
      obtain ⟨hm4, e6, S5, M5⟩ := S4.itm (by omega) (op := 12) (at' := (tk e.TS i).2.1) (n := 0) (OP := 12) (NN' := 0) (bits := 0) (o := some T) rfl rfl (str1 q3.1) T3
      rw [e6]
      refine POut.ok (S5.pok (H := max 1 (H + 1)) (d := d + 1) (by omega) (by omega) (by omega) (.inr ⟨_, g1, g2, g3, by omega, ⟨new0', newN⟩, ?_⟩) (by omega) (by rw [List.length_append, List.length_singleton]; omega) (n5e (by decide)))
      exact .inr (.inr (.inr (.inr (.inr (.inr (.inr (.inr (.inr (.inr (.inl ⟨k4, by rw [g5, lsE]; exact T2, T, its, H, by rw [g5]; exact TyX_fr F27 T1 (by decide) (by decide), by rw [g4]; exact XS.nd p1 X1 (sgl A1 hnew), by omega, rfl⟩))))))))))
    · exact POut.fail (S2.fail (Fail_bdV f fV fun P v h5 ⟨T, tT⟩ s5 n5 => v46 n5 (vIt n5 (by omega) (op := 12) (n := 0) (o := some T) rfl rfl (str1 n5.w) tT fun h6 _ n6 => MF.ok n6 ()))) (by omega) (by omega) (by omega)
  · rw [e1]
    have M : MF e (fwd e hm i) P 0 (1 + 0) (bd (f_X48_type e.Q (fwd e hm i)) (fun x13 h14 => if kc h14 e.Q = 46 then bd (f_X48_item e.Q (12 : Int32) (nI (tk e.TS i).2.1) 1 (0 : Int64) (0 : Int32) x13 h14) (fun _ h15 => rok () h15) else none)) := by
      rcases vTy (N2 := 0) n1 with ⟨h5, x1, x2, x3⟩ | ⟨v, h5, x1, x2, x3⟩
      · exact .inl ⟨h5, by rw [x1]; rfl, x2, x3⟩
      · exfalso
        revert x1
        obtain ⟨j1, IT1, TY1, QU1, c1, c3, c4, c5⟩ := n1
        unfold f_X48_type
        obtain ⟨h6, y1, y2⟩ := mwrong c1
        rw [m46_e c1, mtok_e c1, m46_e c1, mbeg_e c1, if_neg (fun z => by rcases z with z | z; omega; have := z.1; omega), if_pos y00, m46_e c1, y1]
        intro z; cases z
    exact POut.fail (F1 (v46 n1 M)) (by omega) (by omega) (by omega)
theorem rank_pair {d : Nat} (hd1 : 1 ≤ d) (hd : d ≤ 30) (hU : GU e d) (k : Nat) : ∀ l, l + k = 10 → GB e d l := by
  have g3 : nE d = 16 * (31 - d) + 4 := rfl
  have N400 := NN_ge (k := 500) (by omega)
  induction k with
  | zero =>
    intro l hl n m hx hm i TY QU IT hn hm' p q hI
    obtain ⟨n, rfl⟩ : ∃ k, n = k + 1 := ⟨n - 1, by omega⟩
    obtain ⟨m, rfl⟩ : ∃ k, m = k + 1 := ⟨m - 1, by omega⟩
    show POut e hx hm i TY QU IT (f_X10_binary_o (r_S4 n) e.P (nI l) (nI d) hx) (f_X48_ranked_o (r_S7 m) e.Q (nI l) (nI d) hm)
    unfold f_X10_binary_o f_X48_ranked_o
    have c : ¬ nI l ≤ (9 : Int32) := fun z => by have := (nI_leI (a := l) (b := 9) (by omega) (by omega)).mp z; omega
    rw [if_neg c, if_neg c, xP_e p, m46_e q, bd_r, bd_u]
    exact hU n m hx hm i TY QU IT (by omega) (by omega) p q hI
  | succ k ih =>
    intro l hl n m hx hm i TY QU IT hn hm' p q hI
    obtain ⟨n, rfl⟩ : ∃ k, n = k + 1 := ⟨n - 1, by omega⟩
    obtain ⟨m, rfl⟩ : ∃ k, m = k + 1 := ⟨m - 1, by omega⟩
    have B := ih (l + 1) (by omega)
    have hi := q.jj.1
    have h3 := q.jj.2.2.2
    show POut e hx hm i TY QU IT (f_X10_binary_o (r_S4 n) e.P (nI l) (nI d) hx) (f_X48_ranked_o (r_S7 m) e.Q (nI l) (nI d) hm)
    unfold f_X10_binary_o f_X48_ranked_o
    have c : nI l ≤ (9 : Int32) := (nI_leI (a := l) (b := 9) (by omega) (by omega)).mpr (by omega)
    rw [if_pos c, if_pos c, xP_e p, m46_e q, show nI l + (1 : Int32) = nI (l + 1) from nI_1 l]
    rcases B n m hx hm i TY QU IT (by omega) (by omega) p q hI with ⟨nd, hx1, hm1, j, ty, qu, its, H, dd, e1, e2, kk⟩ | f
    · have p1 := kk.2.2.2.1
      have q1 := kk.2.2.2.2.1
      have hj := q1.jj.1
      rw [e1, e2, bd_ok, bd_ok]
      have fin : POut e hx hm i TY QU IT (f_X10_binary_b74 (r_S4 n) e.P (nI l) (nI d) nd hx1) (bd (f_X48_ranked_l75 (r_S7 m) e.Q (nI l) (nI d) NN hm1) (fun x6 h7 => rok () h7)) := by
        unfold f_X10_binary_b74
        rw [xP_e p1, xsign_e p1, bd_r, bd_u]
        exact rank_l hd1 hd (by omega) B (by omega) (by omega) hI 400 nd hx1 hm1 j ty qu its H dd NN NN (by omega) (by omega) (by omega) kk
      by_cases c6 : l = 6
      · have y6 : nI l = (6 : Int32) := by rw [c6]; rfl
        have k57 : codes (cStr.getD (57 - 1) "") ∈ KW := by decide
        rw [if_pos y6, if_pos y6, xt_e p1, x10_e p1, xis_e p1 (by decide) (by decide) rfl, m46_e q1, misK_e q1 (by decide) (by decide) rfl]
        by_cases c7 : isX (tk e.TS j) (codes (cStr.getD (57 - 1) ""))
        · have c8 := (isX_W p1.V k57).mp c7
          obtain ⟨m1, m2, m3, m4, m5, m6⟩ := q1.mt0
          rw [if_pos c7, if_pos c8, if_neg z10, if_neg z10, xt_e p1, xplc_e p1, xt_e p1, x10_e p1, m46_e q1, mtok_e q1, ldI_e m1, m3, mfwd_e q1]
          exact inst_pair hI kk c8
        · rw [if_neg c7, if_neg (fun z => c7 ((isX_W p1.V k57).mpr z)), if_pos y00, if_pos y00]
          exact fin
      · have y6 : ¬ nI l = (6 : Int32) := fun z => c6 ((nk _ (c := 6) (C := (6 : Int32)) rfl (by omega) (by omega)).mp z)
        rw [if_neg y6, if_neg y6]
        exact fin
    · exact POut.fail (f.bd fun P v h5 n5 => vRankT (l := l) n5) (by omega) (Nat.le_refl _) (by omega)
