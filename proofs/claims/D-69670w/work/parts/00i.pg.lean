/-! PHASE B parser 16: primaries -/
set_option maxRecDepth 100000
variable {e : EE} {hx hm h h' : HP} {i j a : Nat} {IT : List It} {TY : List Ty} {QU : List (List Nat)}
theorem xquote (p : PX e h i TY QU) {s : List Nat} (t : QtX h a s) (g : tkGo (tk e.TS i)) : (∀ {β : Type} {K : HP → Rs β}, lsAdd e.ql a h K = K (lad h e.ql a)) ∧ PX e h i TY QU ∧ (∀ {β : Type} {K : Nat → Rs β}, ldMR ksParser 156 e.P (lad h e.ql a) K = K e.t) ∧ kc (lad h e.ql a) e.t = 10 ∧
    ((∃ h', (∀ (β : Type) (K : HP → Rs β), bd (f_X9_next e.t (lad h e.ql a)) (fun _ h2 => K h2) = K h') ∧ XS e 27 h h' ∧ PX e h' (i + 1) TY (QU ++ [s]) ∧ QtX h' a s ∧ a ∈ ls h' e.ql ∧ Fr (fun k => decide (k ≠ 10 ∧ k ≠ 2 ∧ k ≠ 105)) h h' ∧ (tk e.TS (i + 1)).1 ≠ 9) ∨
     (∃ h', (∀ (β : Type) (K : HP → Rs β), bd (f_X9_next e.t (lad h e.ql a)) (fun _ h2 => K h2) = rex h') ∧ XS e 27 h h' ∧ StopX e h' (tk e.TS (i + 1)).2.1 ∧ (tk e.TS (i + 1)).1 = 9)) := by
  obtain ⟨K1, K2, n1, n2⟩ := p.tlK
  obtain ⟨s0, ps, pt, F⟩ := p.grow (v := a) (.inr rfl) n2
  have t' := QtX_fr F t (by decide) (by decide)
  have KK := lad_K (v := a) K2 (by omega)
  have pp := p
  obtain ⟨w, ⟨_, _, _, _, _, _, k1, k2, _⟩, ⟨_, _, hi, L⟩, l1, l2, l3, l4, l5, l6⟩ := p
  have hi1 := L.go hi g
  obtain ⟨g1, g2, g3⟩ := L.2.2.2.1 i hi1
  obtain ⟨T, X, _, _⟩ := pt
  have N := x_next L.1 s0.1.1 T X.2.2.1 g2
  rw [← g3] at N
  have ne : e.tl ≠ e.ql := fun z => by rw [z] at k1; omega
  have e1 : ls (lad h e.ql a) e.tl = ls h e.tl := by unfold lad; rw [ls_sLc, if_neg ne]
  have e2 : cp (lad h e.ql a) e.tl = cp h e.tl := by unfold lad; rw [cp_sLc, if_neg ne]
  have kl1 : kc (lad h e.ql a) e.tl = 106 := ps.2.2.2.2.2.2.1
  have kl2 : kc (lad h e.ql a) e.ql = 105 := ps.2.2.2.2.2.2.2.1
  have kt := T.1
  have kst := T.2.2.2.2.1
  have b : ∀ {h'}, St [] [e.t, e.st] 20 (lad h e.ql a) h' → Eq1 (lad h e.ql a) h' e.tl := fun s1 => s1.2.eq kl1 (by decide) (by simp) (by simp; exact ⟨fun z => by rw [z, kt] at kl1; omega, fun z => by rw [z, kst] at kl1; omega⟩)
  have c : ∀ {h'}, St [] [e.t, e.st] 20 (lad h e.ql a) h' → Eq1 (lad h e.ql a) h' e.ql := fun s1 => s1.2.eq kl2 (by decide) (by simp) (by simp; exact ⟨fun z => by have y := kl2.symm.trans (congrArg (kc (lad h e.ql a)) z); rw [kt] at y; omega, fun z => by have y := kl2.symm.trans (congrArg (kc (lad h e.ql a)) z); rw [kst] at y; omega⟩)
  have step : ∀ {h'}, St [] [e.t, e.st] 20 (lad h e.ql a) h' → XS e 27 h h' := fun {h'} s1 =>
    ⟨(s0.1.trans (s1.wk (fun _ z => z) (fun x hx => .inl (by simp at hx; rcases hx with z | z <;> simp [z])) (Nat.le_refl _))).le (by omega), fun x hx => by rw [(b s1).2.2.2.2.2.2.1]; exact s0.2.1 x hx, fun x hx => by rw [(c s1).2.2.2.2.2.2.1]; exact s0.2.2 x hx⟩
  refine ⟨lsAdd_e K2 (.inr (.inr (.inr (by rw [t.1]; decide)))) (by omega), pp, fun {β K} => ?_, kt, ?_⟩
  · rw [ldMR_e (by rcases ps.1 with z | z <;> rw [z] <;> decide), ps.2.1]
  by_cases c9 : (tk e.TS (i + 1)).1 = 9
  · obtain ⟨h', x1, s1, T1, f1, f2⟩ := N.2 c9
    exact .inr ⟨h', fun β K => by rw [x1]; rfl, step s1, ⟨f1, f2⟩, c9⟩
  · obtain ⟨h', x1, s1, T1, X1⟩ := N.1 c9
    have s2 := step s1
    have F2 := pp.fr0 s2.1
    have F1 : Fr (fun k => decide (k ≠ 10 ∧ k ≠ 2)) (lad h e.ql a) h' := s1.fr (by simp) (fun x hx => by simp at hx; rcases hx with z | z <;> rw [z] <;> simp [kt, kst])
    have F0 : Fr (fun k => decide (k ≠ 105)) h (lad h e.ql a) := by
      have s : St [] [e.ql] (0 + 7) h (lad h e.ql a) := (St.refl w [] [e.ql]).ladd k2 (by decide) (.inr (.inr (by simp))) (by omega) (by omega)
      exact s.fr (by simp) (fun x hx => .inr (by rw [List.mem_singleton.mp hx, k2]; decide))
    refine .inl ⟨h', fun β K => by rw [x1]; rfl, s2, ⟨s1.1, pp.ps s2.1, ⟨T1, X1, hi1, L⟩, ?_, ?_, ?_, ?_, by omega, by rw [List.length_append, List.length_singleton]; omega⟩, ?_, ?_, ?_, c9⟩
    · rw [(b s1).2.2.2.2.2.2.2.2, e2]; exact l1
    · rw [(b s1).2.2.2.2.2.2.1, e1]; exact l2.imp fun a _ b z => TyX_fr F2 z (by decide) (by decide)
    · rw [(c s1).2.2.2.2.2.2.2.2]; exact KK.2.2
    · rw [(c s1).2.2.2.2.2.2.1, lad_ls]; exact (l4.imp fun a _ b z => QtX_fr F2 z (by decide) (by decide)).app (A2.one (QtX_fr F2 t (by decide) (by decide)))
    · exact QtX_fr F2 t (by decide) (by decide)
    · rw [(c s1).2.2.2.2.2.2.1, lad_ls]; simp
    · exact (F0.wk (fun k hk => by have := of_decide_eq_true hk; exact decide_eq_true (by omega))).trans (F1.wk (fun k hk => by have := of_decide_eq_true hk; exact decide_eq_true (by omega)))
/-- the twin's Text -/
theorem mquote (q : PM e h j IT TY QU) {t : Nat} {T : Tk} (mt : MT h t T) (hl : QU.length + 1 ≤ j) : ∃ h', (∀ {β : Type} {K : HP → Rs β}, (ldR 46 361 e.Q h fun x43 => nwO 45 2 h fun p44 h45 => ldR 44 351 t h45 fun x46 => ldI 44 350 t h45 fun x47 => if kc h45 p44 = 45 then bd (f_X47_init p44 x46 x47 h45) (fun _ h48 => lsAdd x43 p44 h48 fun h49 => K h49) else none) = K h') ∧ MS e 8 h h' ∧ PM e h' j IT TY (QU ++ [T.2.2.1]) := by
  obtain ⟨m1, m2, m3, m4, m5, m6⟩ := mt
  have q' := q
  obtain ⟨w, k1, f1, k2, f2, k3, c3, a3, f4, n4, a4, n5, f5, hj, L, k6, f7, k7, c7, a7, n7, f8, k8, c8, a8, n8⟩ := q
  obtain ⟨h1, e1, s1, y1, y2, y3⟩ := mtold w (s := fr h 351 t) (v := nI T.2.1)
  have q1 := q'.new s1
  have F1 : Fr (fun _ => true) h h1 := s1.fr (by simp) (by simp)
  have tw := StrX_fr F1 (⟨m4, m5⟩ : StrX h (fr h 351 t) T.2.2.1) rfl
  have To : ToM h1 (nx h) (T.2.2.1, T.2.1) := ⟨y1, by rw [y2]; exact tw, y3⟩
  obtain ⟨v1, v2, v3⟩ := q1.addX To hl
  have kt : kc (nO h 45 2) t = 44 := kc_nO_o w m1 (by decide)
  refine ⟨lad h1 e.xl (nx h), fun {β K} => ?_, ((MS.new s1).trans v1).le (by omega), v2⟩
  rw [ldR_e k1, f8, nwO_e, ldR_e kt, ldI_e kt, if_pos (kc_nO_n), show fr (nO h 45 2) 351 t = fr h 351 t from rfl, show fi (nO h 45 2) 350 t = nI T.2.1 from m3, e1, v3]
theorem prim_pair {d n m : Nat} (hd1 : 1 ≤ d) (hd : d ≤ 30) (hE : d < 30 → GE e (d + 1)) (hn : nE d ≤ n + 15) (hm' : nE d ≤ m + 15) (p : PX e hx i TY QU) (q : PM e hm i IT TY QU) (hI : IT.length ≤ 3 * i ∧ e.il ≠ 0) (hb : ¬ isS (tk e.TS i) (codes "(")) :
    POut e hx hm i TY QU IT (f_X10_primary_o (r_S4 n) e.P (nI d) hx) (f_X48_primary_o (r_S7 m) e.Q (nI d) hm) := by
  have S := Sq.start p q
  have hi := q.jj.1
  have h3 := q.jj.2.2.2
  have g3 : nE d = 16 * (31 - d) + 4 := rfl
  have V := p.V
  have V9 := V.2.2.2.2.2.2.2
  have mt := q.mt0
  obtain ⟨m1, m2, m3, m4, m5, m6⟩ := q.mt0
  have tN := q.jj.2.1.2.2.2.2.2.2 i
  have hl : (IT ++ ([] : List It)).length = IT.length := by simp
  have kI : ∀ {v : Nat}, v ≤ 9 → (nI (tk e.TS i).1 = nI v ↔ (tk e.TS i).1 = v) := fun hv => nI_eq (by omega) (by omega)
  -- a literal
  have lit : ∀ (k : Int32) (b : Int64) (op n' : Nat) (OP NN' : Int32), tkGo (tk e.TS i) → OP = nI op → NN' = nI n' → ((∃ kk, kk < 8 ∧ nu_ok kk b ∧ k = nI kk ∧ op = 1 ∧ n' = kk) ∨ (k = -1 ∧ b = 0 ∧ op = 3 ∧ n' = 0)) →
      POut e hx hm i TY QU IT (bd (f_X9_next e.t hx) (fun _ h8 => nwO 17 5 h8 fun p9 h10 => if kc h10 p9 = 17 then bd (f_X17_init p9 (nI (tk e.TS i).2.1) k b h10) (fun _ h14 => rok p9 h14) else none)) (if kc (fwd e hm i) e.Q = 46 then bd (f_X48_item e.Q OP (nI (tk e.TS i).2.1) 1 b NN' 0 (fwd e hm i)) (fun _ h11 => rok () h11) else none) := by
    intro k b op n' OP NN' g ho hn' hk
    rcases S.go g with ⟨hx1, e1, S1, K1, M1⟩ | ⟨hx1, P, e1, n1, M1, F1⟩
    · have q1 := S1.2.2.2
      have hi1 := q1.jj.1
      obtain ⟨hx2, e5, s5, r1, r2, r3, r4, r5, r6⟩ := xk_lit S1.2.2.1.1 (pl := nI (tk e.TS i).2.1) (k := k) (b := b)
      obtain ⟨S2, K2⟩ := S1.nod s5
      obtain ⟨hm2, e6, S3, M3⟩ := S2.itm (by omega) (op := op) (at' := (tk e.TS i).2.1) (n := n') (bits := b) (o := none) ho hn' (str1 q1.1) rfl
      rw [e1, e5, m46_e q1, e6]
      refine POut.ok (S3.pok (H := 1) (d := 1) (by omega) (by omega) (by omega) (.inr ⟨_, r2, r3, r4, by omega, (by first | exact S.1.1.nw | exact S1.1.1.nw | exact S2.1.1.nw | exact S3.1.1.nw | exact S4.1.1.nw | exact S5.1.1.nw | exact S6.1.1.nw | exact S7.1.1.nw | exact S8.1.1.nw), ?_⟩) (by omega) (by simp <;> omega) (n5e (by rcases hk with ⟨_, _, _, _, z, _⟩ | ⟨_, _, z, _⟩ <;> omega)))
      rcases hk with ⟨kk, z1, z2, z3, z4, z5⟩ | ⟨z1, z2, z3, z4⟩
      · exact .inl ⟨r1, rfl, kk, b, z1, z2, by rw [r5, z3], r6, by rw [z4, z5]; rfl⟩
      · exact .inr (.inl ⟨r1, rfl, by rw [r5, z1], by rw [r6, z2], by rw [z2, z3, z4]; rfl⟩)
    · rw [e1]
      exact POut.fail (F1 (v46 n1 (vIt n1 (by omega) (op := op) (n := n') (o := none) ho hn' (str1 (by obtain ⟨_, _, _, _, z, _⟩ := n1; exact z.1)) rfl fun h5 _ n5 => MF.ok n5 ()))) (by omega) (by omega) (by omega)
  unfold f_X10_primary_o f_X48_primary_o
  rw [xt_e p, xplc_e p, xt_e p, ldJ_e p.2.2.1.1.1, xt_e p, xknd_e p, m46_e q, mtok_e q, ldI_e m1, m2]
  have fj0 : 3 ≤ (tk e.TS i).1 → (tk e.TS i).1 ≤ 6 → fj hx 155 e.t = (tk e.TS i).2.2.2.1 := p.2.2.1.2.1.2.2.2.2.2
  by_cases c : 3 ≤ (tk e.TS i).1 ∧ (tk e.TS i).1 ≤ 6
  · have g : tkGo (tk e.TS i) := ⟨by omega, by omega⟩
    have M1 : MT (fwd e hm i) (e.tok hm i) (tk e.TS i) := MT_fr (q.fr0 (MS.Q (mfwd_s q g).1)) mt (by decide) (by decide)
    obtain ⟨w1, w2, w3, w4, w5, w6⟩ := M1
    rw [if_neg (show ¬ nI (tk e.TS i).1 < (3 : Int32) from fun z => by have := (nI_ltI (a := (tk e.TS i).1) (b := 3) (by omega) (by omega)).mp z; omega), if_neg (show ¬ (6 : Int32) < nI (tk e.TS i).1 from fun z => by have := (nI_ltI (a := 6) (b := (tk e.TS i).1) (by omega) (by omega)).mp z; omega), xt_e p, x10_e p, fj0 c.1 c.2]
    unfold f_X48_primary_b38
    simp only [ldI_e m1, m2]
    rw [mfwd_e q, ldI_e w1, w3, ldJ_e w1, w6, ldI_e w1, w2]
    simp only [ldI_e w1, w2]
    obtain c3 | c3 | c3 | c3 : (tk e.TS i).1 = 3 ∨ (tk e.TS i).1 = 4 ∨ (tk e.TS i).1 = 5 ∨ (tk e.TS i).1 = 6 := by omega
    · have L := lit 4 (tk e.TS i).2.2.2.1 1 4 1 4 g rfl rfl (.inl ⟨4, by omega, tN.1 c3, rfl, rfl, rfl⟩)
      rw [c3]
      simp only [if_pos (show nI 3 = (3 : Int32) from rfl)]
      exact L
    · have L := lit 5 (tk e.TS i).2.2.2.1 1 5 1 5 g rfl rfl (.inl ⟨5, by omega, True.intro, rfl, rfl, rfl⟩)
      rw [c3]
      simp only [if_neg (show ¬ nI 4 = (3 : Int32) by decide), if_pos (show nI 4 = (4 : Int32) from rfl)]
      exact L
    · have L := lit 7 (tk e.TS i).2.2.2.1 1 7 1 7 g rfl rfl (.inl ⟨7, by omega, tN.2.1 c3, rfl, rfl, rfl⟩)
      rw [c3]
      simp only [if_neg (show ¬ nI 5 = (3 : Int32) by decide), if_neg (show ¬ nI 5 = (4 : Int32) by decide), if_pos (show nI 5 = (5 : Int32) from rfl)]
      exact L
    · have L := lit 3 (tk e.TS i).2.2.2.1 1 3 1 3 g rfl rfl (.inl ⟨3, by omega, tN.2.2 c3, rfl, rfl, rfl⟩)
      rw [c3]
      simp only [if_neg (show ¬ nI 6 = (3 : Int32) by decide), if_neg (show ¬ nI 6 = (4 : Int32) by decide), if_neg (show ¬ nI 6 = (5 : Int32) by decide), if_pos (show nI 6 = (6 : Int32) from rfl)]
      exact L
  · have c3 : ¬ nI (tk e.TS i).1 = (3 : Int32) := fun z => c (by have := (kI (v := 3) (by omega)).mp z; omega)
    have c4 : ¬ nI (tk e.TS i).1 = (4 : Int32) := fun z => c (by have := (kI (v := 4) (by omega)).mp z; omega)
    have c5 : ¬ nI (tk e.TS i).1 = (5 : Int32) := fun z => c (by have := (kI (v := 5) (by omega)).mp z; omega)
    have c6 : ¬ nI (tk e.TS i).1 = (6 : Int32) := fun z => c (by have := (kI (v := 6) (by omega)).mp z; omega)
    have bb : ∀ {A B C : Rs Nat}, (if nI (tk e.TS i).1 < (3 : Int32) then A else if (6 : Int32) < nI (tk e.TS i).1 then A else C) = A := by
      intro A B C
      by_cases z : (tk e.TS i).1 < 3
      · rw [if_pos (show nI (tk e.TS i).1 < (3 : Int32) from (nI_ltI (a := (tk e.TS i).1) (b := 3) (by omega) (by omega)).mpr z)]
      · rw [if_neg (show ¬ nI (tk e.TS i).1 < (3 : Int32) from fun y => z ((nI_ltI (a := (tk e.TS i).1) (b := 3) (by omega) (by omega)).mp y)), if_pos (show (6 : Int32) < nI (tk e.TS i).1 from (nI_ltI (a := 6) (b := (tk e.TS i).1) (by omega) (by omega)).mpr (by omega))]
    rw [bb (B := none), if_neg c3]
    simp only [ldI_e m1, m2]
    rw [if_neg c4, if_neg c5, if_neg c6]
    unfold f_X10_primary_b87
    by_cases c7 : (tk e.TS i).1 = 7
    · have y7 : nI (tk e.TS i).1 = (7 : Int32) := by rw [c7]; rfl
      have g : tkGo (tk e.TS i) := ⟨by omega, by omega⟩
      have M1 : MT (fwd e hm i) (e.tok hm i) (tk e.TS i) := MT_fr (q.fr0 (MS.Q (mfwd_s q g).1)) mt (by decide) (by decide)
      obtain ⟨t1, q1⟩ := mfwd_s q g
      have hQU := p.2.2.2.2.2.2.2.2
      obtain ⟨hm2, e2, s2, q2⟩ := mquote q1 M1 (by omega)
      obtain ⟨w1, w2, w3, w4, w5, w6⟩ := MT_fr (q1.fr0 s2) M1 (by decide) (by decide)
      have hlI : IT.length ≤ 900 ∧ e.il ≠ 0 := by omega
      rw [if_pos y7, if_pos y7, mfwd_e q]
      rw [e2 (K := fun h49 => ldI 44 350 (e.tok hm i) h49 fun x50 => ldR 44 351 (e.tok hm i) h49 fun x51 => if kc h49 e.Q = 46 then bd (f_X48_item e.Q (2 : Int32) x50 x51 (0 : Int64) (0 : Int32) 0 h49) (fun _ h52 => rok () h52) else none), ldI_e w1, w3, ldR_e w1, m46_e q2]
      obtain ⟨hx2, e5, s5, r1, r2, r3, r4, r5⟩ := xk_quo p.1 (pl := nI (tk e.TS i).2.1) (s := fr hx 154 e.t)
      have p2 := p.new s5
      have K2 := XS.kp p (XS.new p s5)
      have wd := K2.2.1 p.wrd
      obtain ⟨A1, A2', A3, A4, R⟩ := xquote p2 (a := nx hx) (s := (tk e.TS i).2.2.1) ⟨r1, by rw [r5]; exact wd⟩ g
      have kP : ∀ {β : Type} {K : Nat → HP → Rs β}, (nwO 18 5 hx fun p36 h37 => ldMR ksParser 156 e.P h37 fun x38 => ldR 10 154 x38 h37 fun x39 => if kc h37 p36 = 18 then bd (f_X18_init p36 (nI (tk e.TS i).2.1) x39 h37) (fun _ h40 => K p36 h40) else none) = K (nx hx) hx2 := by
        intro β K
        have n1 := p.new ((St.refl p.1 [] []).nO (k := 18) (n := 5) (b := 1) (by omega) (by omega))
        rw [← e5 β K, nwO_e, nwO_e, xt_e n1, ldR_e n1.2.2.1.1.1]; rfl
      rw [kP (K := fun p36 h40 => ldMR ksParser 159 e.P h40 fun x41 => lsAdd x41 p36 h40 fun h42 => ldMR ksParser 156 e.P h42 fun x43 => if kc h42 x43 = 10 then bd (f_X9_next x43 h42) (fun _ h44 => rok p36 h44) else none), ldMR_e p2.kP, p2.2.1.2.2.2.2.1, A1, A3, if_pos A4]
      rcases R with ⟨hx3, e3, s3, p3, x1, x2, F3, x9⟩ | ⟨hx3, e3, s3, f3, x9⟩
      · have hi1 := q1.jj.1
        rw [e3]
        have SS : Sq e hx hm TY QU IT (0 + 1 + 27) (0 + 8) hx3 hm2 (i + 1) [] [(tk e.TS i).2.2.1] [] := ⟨((XS.new p s5).trans s3).le (by omega), (t1 |> MS.Q).trans s2 |>.le (by omega), by rw [List.append_nil]; exact p3, by rw [List.append_nil, List.append_nil]; exact q2⟩
        obtain ⟨hm3, e6, S3, M3⟩ := SS.itm (by omega) (op := 2) (at' := (tk e.TS i).2.1) (n := 0) (OP := 2) (NN' := 0) (bits := 0) (o := none) rfl rfl ⟨w4, w5⟩ rfl
        rw [e6]
        obtain ⟨z1, _, z3⟩ := F3.at r1 (by decide) (by decide)
        refine POut.ok (S3.pok (H := 1) (d := 1) (by omega) (by omega) (by omega) (.inr ⟨(tk e.TS i).2.1, (z3.1 _).trans r2, (z3.2.2.1 _).trans r3, (z3.1 _).trans r4, by omega, (by first | exact S.1.1.nw | exact S1.1.1.nw | exact S2.1.1.nw | exact S3.1.1.nw | exact S4.1.1.nw | exact S5.1.1.nw | exact S6.1.1.nw | exact S7.1.1.nw | exact S8.1.1.nw), ?_⟩) (by omega) (by simp <;> omega) (n5e (by decide)))
        exact .inr (.inr (.inl ⟨z1, rfl, x2, _, x1.2, rfl⟩))
      · rw [e3]
        have n1 : PN e hm2 (tk e.TS (i + 1)).2.1 IT.length := ⟨_, _, _, _, q2, x9, rfl, Nat.le_refl _⟩
        have M := vIt n1 hlI (op := 2) (at' := (tk e.TS i).2.1) (n := 0) (OP := 2) (NN' := 0) (bits := 0) (o := none) rfl rfl (⟨w4, w5⟩ : StrX hm2 _ _) (show TyO hm2 0 none from rfl) (K := fun h52 => rok () h52) fun h5 _ n5 => MF.ok n5 ()
        exact POut.fail (⟨_, hx3, rfl, (XS.new p s5).trans s3, f3, M.pre ((MS.Q t1).trans s2)⟩ : Fail e hx hm (1 + 27) _ _ _ _) (by omega) (by omega) (by omega)
    · have c7' : ¬ nI (tk e.TS i).1 = (7 : Int32) := fun z => c7 ((kI (v := 7) (by omega)).mp z)
      rw [if_neg c7', if_neg c7', xt_e p, x10_e p, m46_e q, misK_e q (by decide) (by decide) rfl]
      have wf : ∀ {w : List Nat}, isW (tk e.TS i) w → MT (fwd e hm i) (e.tok hm i) (tk e.TS i) := fun z => MT_fr (q.fr0 (MS.Q (mfwd_s q (goW_of z)).1)) mt (by decide) (by decide)
      have k70 : codes (cStr.getD (70 - 1) "") ∈ KW := by decide
      have k51 : codes (cStr.getD (51 - 1) "") ∈ KW := by decide
      have k62 : codes (cStr.getD (62 - 1) "") ∈ KW := by decide
      have k69 : codes (cStr.getD (69 - 1) "") ∈ KW := by decide
      by_cases d1 : isX (tk e.TS i) (codes (cStr.getD (70 - 1) ""))
      · have d2 := (isX_W V k70).mp d1
        have w := (mfwd_s q (goW_of d2)).2.1
        obtain ⟨w1, w2, w3, w4, w5, w6⟩ := wf d2
        rw [xaccY p (by decide) (by decide) rfl d1, if_pos d2, if_neg z10]
        unfold f_X48_primary_b187
        rw [mfwd_e q, ldI_e w1, w3, ldR_e w1, txEq_c w w4 w5 (by decide) (by decide) rfl, if_pos d2.2, if_neg z10]
        simp only [if_neg z10]
        exact lit 0 1 1 0 1 0 (goW_of d2) rfl rfl (.inl ⟨0, by omega, .inr rfl, rfl, rfl, rfl⟩)
      rw [xaccN p (by decide) (by decide) rfl d1, if_neg (fun z => d1 ((isX_W V k70).mpr z)), if_pos y00, if_pos y00, xt_e p, x10_e p, m46_e q, misK_e q (by decide) (by decide) rfl]
      by_cases d3 : isX (tk e.TS i) (codes (cStr.getD (51 - 1) ""))
      · have d2 := (isX_W V k51).mp d3
        have w := (mfwd_s q (goW_of d2)).2.1
        obtain ⟨w1, w2, w3, w4, w5, w6⟩ := wf d2
        rw [xaccY p (by decide) (by decide) rfl d3, if_pos d2, if_neg z10]
        unfold f_X48_primary_b187
        rw [mfwd_e q, ldI_e w1, w3, ldR_e w1, txEq_c w w4 w5 (by decide) (by decide) (show codes (cStr.getD (70 - 1) "") = codes (cStr.getD (70 - 1) "") from rfl), if_neg (fun z => d1 ⟨.inr d2.1, z⟩), if_pos y00]
        simp only [if_neg z10]
        exact lit 0 0 1 0 1 0 (goW_of d2) rfl rfl (.inl ⟨0, by omega, .inl rfl, rfl, rfl, rfl⟩)
      rw [xaccN p (by decide) (by decide) rfl d3, if_neg (fun z => d3 ((isX_W V k51).mpr z)), if_pos y00, if_pos y00, xt_e p, x10_e p, m46_e q, misK_e q (by decide) (by decide) rfl]
      by_cases d4 : isX (tk e.TS i) (codes (cStr.getD (62 - 1) ""))
      · have d2 := (isX_W V k62).mp d4
        have w := (mfwd_s q (goW_of d2)).2.1
        obtain ⟨w1, w2, w3, w4, w5, w6⟩ := wf d2
        rw [xaccY p (by decide) (by decide) rfl d4, if_pos d2, if_neg z10]
        unfold f_X48_primary_b252 f_X48_primary_b281
        rw [mfwd_e q, ldR_e w1, txEq_c w w4 w5 (by decide) (by decide) rfl, if_pos d2.2, if_neg z10, ldI_e w1, w3]
        simp only [if_neg z10]
        exact lit (-1) 0 3 0 3 0 (goW_of d2) rfl rfl (.inr ⟨rfl, rfl, rfl, rfl⟩)
      rw [xaccN p (by decide) (by decide) rfl d4, if_neg (fun z => d4 ((isX_W V k62).mpr z)), if_pos y00, if_pos y00, xt_e p, x10_e p, m46_e q, misK_e q (by decide) (by decide) rfl]
      by_cases d5 : isX (tk e.TS i) (codes (cStr.getD (69 - 1) ""))
      · have d2 := (isX_W V k69).mp d5
        have w := (mfwd_s q (goW_of d2)).2.1
        obtain ⟨w1, w2, w3, w4, w5, w6⟩ := wf d2
        rw [xaccY p (by decide) (by decide) rfl d5, if_pos d2, if_neg z10]
        unfold f_X48_primary_b252 f_X48_primary_b281
        rw [mfwd_e q, ldR_e w1, txEq_c w w4 w5 (by decide) (by decide) (show codes (cStr.getD (62 - 1) "") = codes (cStr.getD (62 - 1) "") from rfl), if_neg (fun z => d4 ⟨.inr d2.1, z⟩), if_pos y00, ldI_e w1, w3]
        simp only [if_neg z10]
        rcases S.go (goW_of d2) with ⟨hx1, e1, S1, K1, M1⟩ | ⟨hx1, P, e1, n1, M1, F1⟩
        · have q1 := S1.2.2.2
          have hi1 := q1.jj.1
          obtain ⟨hx2, e5, s5, r1, r2, r3, r4⟩ := xk_ths S1.2.2.1.1 (pl := nI (tk e.TS i).2.1)
          obtain ⟨S2, K2⟩ := S1.nod s5
          obtain ⟨hm2, e6, S3, M3⟩ := S2.itm (by omega) (op := 4) (at' := (tk e.TS i).2.1) (n := 0) (OP := 4) (NN' := 0) (bits := 0) (o := none) rfl rfl (str1 q1.1) rfl
          rw [e1, e5, m46_e q1, e6]
          exact POut.ok (S3.pok (H := 1) (d := 1) (by omega) (by omega) (by omega) (.inr ⟨_, r2, r3, r4, by omega, (by first | exact S.1.1.nw | exact S1.1.1.nw | exact S2.1.1.nw | exact S3.1.1.nw | exact S4.1.1.nw | exact S5.1.1.nw | exact S6.1.1.nw | exact S7.1.1.nw | exact S8.1.1.nw), .inr (.inr (.inr (.inl ⟨r1, rfl, rfl⟩)))⟩) (by omega) (by simp <;> omega) (n5e (by decide)))
        · rw [e1]
          exact POut.fail (F1 (v46 n1 (vIt n1 (by omega) (op := 4) (n := 0) (o := none) rfl rfl (str1 (by obtain ⟨_, _, _, _, z, _⟩ := n1; exact z.1)) rfl fun h5 _ n5 => MF.ok n5 ()))) (by omega) (by omega) (by omega)
      rw [xaccN p (by decide) (by decide) rfl d5, if_neg (fun z => d5 ((isX_W V k69).mpr z)), if_pos y00, if_pos y00, xt_e p, x10_e p]
      simp only [ldI_e m1, m2]
      by_cases d6 : (tk e.TS i).1 = 1
      · have g : tkGo (tk e.TS i) := ⟨by omega, by omega⟩
        have wd := p.wrd
        rw [xnameY p d6, if_pos (show nI (tk e.TS i).1 = (1 : Int32) from (kI (v := 1) (by omega)).mpr d6), mfwd_e q]
        rcases S.go g with ⟨hx1, e1, S1, K1, M1⟩ | ⟨hx1, P, e1, n1, M1, F1⟩
        · have p1 := S1.2.2.1
          have q1 := S1.2.2.2
          have hi1 := q1.jj.1
          have wd1 := K1.2.1 wd
          obtain ⟨w1, w2, w3, w4, w5, w6⟩ := M1.2.2.2 mt
          have hwp : codes (cStr.getD (9 - 1) "") ∈ SW := by decide
          rw [e1, xt_e p1, x10_e p1, xis_e p1 (by decide) (by decide) rfl, m46_e q1, misS_e q1 (by decide) (by decide) rfl]
          by_cases c5 : isX (tk e.TS (i + 1)) (codes (cStr.getD (9 - 1) ""))
          · have c6 := (isX_S p1.V hwp).mp c5
            rw [if_pos c5, if_pos c6, if_neg z10, if_neg z10, xP_e p1, ldI_e w1, w3, ldR_e w1, m46_e q1]
            obtain ⟨n', rfl⟩ : ∃ k, n = k + 1 := ⟨n - 1, by omega⟩
            obtain ⟨m'', rfl⟩ : ∃ k, m = k + 1 := ⟨m - 1, by omega⟩
            have C := call_pair (f := 0) (dA := 0) (HA := 0) (s' := fr (fwd e hm i) 351 (e.tok hm i)) (at' := (tk e.TS i).2.1) (bit := 0) (n := n') (m := m'') (itA := []) hd1 hd hE (by omega) (by omega) (show i < i + 1 by omega) (S1.1.le (by omega)) (S1.2.1.le (by omega)) p1 q1 hI c6 wd1 ⟨w4, w5⟩ (.inl ⟨rfl, rfl, rfl, rfl⟩) (by omega) (by simp)
            show POut e hx hm i TY QU IT (bd (f_X10_call_o (r_S4 n') e.P (nI (tk e.TS i).2.1) 0 (fr hx 154 e.t) (nI d) hx1) (fun x22 h23 => rok x22 h23)) (bd (f_X48_arguments_o (r_S7 m'') e.Q (nI d) (fwd e hm i)) (cItm e (tk e.TS i).2.1 (fr (fwd e hm i) 351 (e.tok hm i)) (Int64.ofNat 0) (fun h16 => rok () h16)))
            rcases C with ⟨n5, hx5, hm5, j, ty5, qu5, its5, H5, d5, x1, x2, x3⟩ | ⟨P, hx5, x1, x2, x3, x4⟩
            · dsimp only at x2
              rw [x1, bd_ok, x2]
              exact POut.ok x3.2
            · exact .inr ⟨P, hx5, by rw [x1]; rfl, x2, x3, x4 _ _ 0 (fun h5 n5 => MF.ok n5 ())⟩
          · rw [if_neg c5, if_neg (fun z => c5 ((isX_S p1.V hwp).mpr z)), if_pos y00, if_pos y00, ldI_e w1, w3, ldR_e w1, m46_e q1]
            obtain ⟨hx2, e5, s5, r1, r2, r3, r4, r5, r6⟩ := xk_nam p1.1 (pl := nI (tk e.TS i).2.1) (s := fr hx 154 e.t)
            obtain ⟨S2, K2⟩ := S1.nod s5
            obtain ⟨hm2, e6, S3, M3⟩ := S2.itm (by omega) (op := 5) (at' := (tk e.TS i).2.1) (n := 0) (OP := 5) (NN' := 0) (bits := 0) (o := none) rfl rfl ⟨w4, w5⟩ rfl
            rw [e5, e6]
            exact POut.ok (S3.pok (H := 1) (d := 1) (by omega) (by omega) (by omega) (.inr ⟨_, r2, r3, r4, by omega, (by first | exact S.1.1.nw | exact S1.1.1.nw | exact S2.1.1.nw | exact S3.1.1.nw | exact S4.1.1.nw | exact S5.1.1.nw | exact S6.1.1.nw | exact S7.1.1.nw | exact S8.1.1.nw), .inr (.inr (.inr (.inr (.inl ⟨r1, rfl, r6, _, by rw [r5]; exact K2.2.1 wd1, rfl⟩))))⟩) (by omega) (by simp <;> omega) (fun b s z => ⟨d6, by simp at z; exact z.2⟩))
        · rw [e1]
          obtain ⟨w1, w2, w3, w4, w5, w6⟩ := M1.2.2.2 mt
          have M : MF e (fwd e hm i) P (IT.length + 1) (22 + 0) (if kc (fwd e hm i) e.Q = 46 then bd (f_X48_isSign e.Q 9 (fwd e hm i)) (fun x31 h32 => if x31 = 0 then (ldI 44 350 (e.tok hm i) h32 fun x33 => ldR 44 351 (e.tok hm i) h32 fun x34 => if kc h32 e.Q = 46 then bd (f_X48_item e.Q (5 : Int32) x33 x34 (0 : Int64) (0 : Int32) 0 h32) (fun _ h35 => rok () h35) else none) else (ldI 44 350 (e.tok hm i) h32 fun x36 => ldR 44 351 (e.tok hm i) h32 fun x37 => if kc h32 e.Q = 46 then bd ((r_S7 m).1 e.Q (nI d) h32) (fun x38 h39 => if kc h39 e.Q = 46 then bd (f_X48_item e.Q (7 : Int32) x36 x37 (0 : Int64) x38 0 h39) (fun _ h40 => rok () h40) else none) else none)) else none) := by
            refine v46 n1 (vS n1 (by decide) (by decide) ?_)
            rw [if_pos y00, ldI_e w1, w3, ldR_e w1]
            exact v46 n1 ((vIt n1 (by omega) (op := 5) (n := 0) (o := none) rfl rfl ⟨w4, w5⟩ rfl fun h5 _ n5 => MF.ok n5 ()).le (by omega) (Nat.le_refl _))
          exact POut.fail (F1 M) (by omega) (by omega) (by omega)
      · obtain ⟨hx2, e2, s2, f2⟩ := xnameN p d6
        obtain ⟨hm2, e3, s3, f3⟩ := mwrong q
        rw [e2, if_neg (show ¬ nI (tk e.TS i).1 = (1 : Int32) from fun z => d6 ((kI (v := 1) (by omega)).mp z)), m46_e q, misS_e q (by decide) (by decide) rfl, if_neg (show ¬ isS (tk e.TS i) (codes (cStr.getD (9 - 1) "")) from hb), if_pos y00, m46_e q, e3]
        exact POut.fail (S.err s2 f2 s3 f3) (by omega) (Nat.le_refl _) (by omega)
