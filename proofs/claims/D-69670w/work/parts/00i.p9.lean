/-! PHASE B parser 9: a type is read by both -/
set_option maxRecDepth 100000
variable {e : EE} {hx hm h h' : HP} {i j a : Nat} {IT : List It} {TY : List Ty} {QU : List (List Nat)}
theorem PX.tlK (p : PX e h j TY QU) : lsK h e.tl ∧ lsK h e.ql ∧ (ls h e.tl).length ≤ 300 ∧ (ls h e.ql).length ≤ 300 := by
  obtain ⟨w, ⟨_, _, _, _, _, _, k1, k2, _⟩, ⟨_, _, hi, L⟩, l1, l2, l3, l4, l5, l6⟩ := p
  have h3 := L.2.2.1
  have n1 := l2.len
  have n2 := l4.len
  exact ⟨⟨by rw [k1]; decide, by rw [k1]; decide, l1⟩, ⟨by rw [k2]; decide, by rw [k2]; decide, l3⟩, by omega, by omega⟩
/-- what stays when one of the lists grows -/
theorem PX.grow (p : PX e h j TY QU) {l v : Nat} (hl : l = e.tl ∨ l = e.ql) (hk : (ls h l).length ≤ 300) : XS e 7 h (lad h l v) ∧ PS e (lad h l v) ∧ PT e (lad h l v) j ∧ Fr sX0 h (lad h l v) := by
  have q := p
  obtain ⟨w, ⟨_, _, _, _, _, _, k1, k2, _⟩, ⟨T, X, hi, L⟩, _⟩ := q
  have kl : kc h l = 106 ∨ kc h l = 105 := by rcases hl with z | z <;> rw [z] <;> simp [k1, k2]
  have okl : okc (kc h l) = true := by rcases kl with z | z <;> rw [z] <;> decide
  have s : St [] [l] (0 + 7) h (lad h l v) := (St.refl w [] [l]).ladd (c := kc h l) rfl okl (.inr (.inr (by simp))) (by omega) (by omega)
  have s' : St [] e.xx 7 h (lad h l v) := s.wk (fun _ z => z) (fun x hx => .inl (by rw [List.mem_singleton.mp hx]; rcases hl with z | z <;> simp [z])) (by omega)
  have mono : ∀ l2, ∀ x ∈ ls h l2, x ∈ ls (lad h l v) l2 := fun l2 x hx => by
    unfold lad
    rw [ls_sLc]
    split
    · rename_i z; rw [z] at hx; exact List.mem_append_left _ hx
    · exact hx
  have F := p.fr0 s'
  have F2 : Fr (fun k => decide (k ≠ 105 ∧ k ≠ 106)) h (lad h l v) := s.fr (by simp) (fun x hx => .inr (by rw [List.mem_singleton.mp hx]; rcases kl with z | z <;> rw [z] <;> decide))
  refine ⟨⟨s', mono _, mono _⟩, p.ps s', ⟨?_, ?_, hi, L⟩, F⟩
  · obtain ⟨t1, t2, t3, t4, t5, t6⟩ := T
    obtain ⟨a1, _, a3⟩ := F2.at t1 (by decide) (by decide)
    obtain ⟨b1, _, b3⟩ := F2.at t5 (by decide) (by decide)
    refine ⟨a1, (a3.1 149).trans t2, ?_, (a3.2.2.1 150).trans t4, b1, ?_⟩
    · rw [a3.2.2.1 148]
      have k200 : 200 ≤ kc h (fr h 148 e.t) := Nat.le_of_not_lt fun z => by
        have := t3.1; unfold tiK at this; rw [if_pos z] at this; omega
      exact ByA_fr F2 t3 (decide_eq_true (by omega))
    · rw [b3.2.2.1 27]; exact (F2.at t6 (by decide) (by decide)).1
  · obtain ⟨x1, x2, x3, x4, x5, x6⟩ := X
    obtain ⟨a1, _, a3⟩ := F2.at T.1 (by decide) (by decide)
    have hs := StrX_fr F2 (⟨x4, x5⟩ : StrX h (fr h 154 e.t) _) (by decide)
    exact ⟨(a3.1 151).trans x1, (a3.1 152).trans x2, (a3.1 153).trans x3, by rw [a3.2.2.1 154]; exact hs.1, by rw [a3.2.2.1 154]; exact hs.2, fun y z => (a3.2.1 155).trans (x6 y z)⟩
theorem PX.addT (p : PX e h j TY QU) {T : Ty} (t : TyX h a T) (hl : TY.length + 1 ≤ j) : XS e 7 h (lad h e.tl a) ∧ PX e (lad h e.tl a) j (TY ++ [T]) QU ∧ TyX (lad h e.tl a) a T ∧ a ∈ ls (lad h e.tl a) e.tl ∧ fr (lad h e.tl a) 173 a = fr h 173 a ∧ ∀ {β : Type} {K : HP → Rs β}, lsAdd e.tl a h K = K (lad h e.tl a) := by
  obtain ⟨K1, K2, n1, n2⟩ := p.tlK
  obtain ⟨s, ps, pt, F⟩ := p.grow (v := a) (.inl rfl) n1
  have t' := TyX_fr F t (by decide) (by decide)
  have KK := lad_K (v := a) K1 (by omega)
  obtain ⟨w, ⟨_, _, _, _, _, _, k1, k2, _⟩, _, l1, l2, l3, l4, l5, l6⟩ := p
  have ne : e.ql ≠ e.tl := fun z => by rw [z] at k2; omega
  have e1 : ls (lad h e.tl a) e.ql = ls h e.ql := by unfold lad; rw [ls_sLc, if_neg ne]
  have e2 : cp (lad h e.tl a) e.ql = cp h e.ql := by unfold lad; rw [cp_sLc, if_neg ne]
  refine ⟨s, ⟨s.1.1, ps, pt, KK.2.2, ?_, by rw [e2]; exact l3, ?_, by rw [List.length_append, List.length_singleton]; omega, l6⟩, t', by rw [lad_ls]; simp, rfl, lsAdd_e K1 (.inr (.inr (.inr (by rw [t.1]; decide)))) (by omega)⟩
  · rw [lad_ls]; exact (l2.imp fun a _ b z => TyX_fr F z (by decide) (by decide)).app (A2.one t')
  · rw [e1]; exact l4.imp fun a _ b z => QtX_fr F z (by decide) (by decide)
theorem PX.addQ (p : PX e h j TY QU) {s : List Nat} (t : QtX h a s) (hl : QU.length + 1 ≤ j) : XS e 7 h (lad h e.ql a) ∧ PX e (lad h e.ql a) j TY (QU ++ [s]) ∧ QtX (lad h e.ql a) a s ∧ a ∈ ls (lad h e.ql a) e.ql ∧ ∀ {β : Type} {K : HP → Rs β}, lsAdd e.ql a h K = K (lad h e.ql a) := by
  obtain ⟨K1, K2, n1, n2⟩ := p.tlK
  obtain ⟨s0, ps, pt, F⟩ := p.grow (v := a) (.inr rfl) n2
  have t' := QtX_fr F t (by decide) (by decide)
  have KK := lad_K (v := a) K2 (by omega)
  obtain ⟨w, ⟨_, _, _, _, _, _, k1, k2, _⟩, _, l1, l2, l3, l4, l5, l6⟩ := p
  have ne : e.tl ≠ e.ql := fun z => by rw [z] at k1; omega
  have e1 : ls (lad h e.ql a) e.tl = ls h e.tl := by unfold lad; rw [ls_sLc, if_neg ne]
  have e2 : cp (lad h e.ql a) e.tl = cp h e.tl := by unfold lad; rw [cp_sLc, if_neg ne]
  refine ⟨s0, ⟨s0.1.1, ps, pt, by rw [e2]; exact l1, ?_, KK.2.2, ?_, l5, by rw [List.length_append, List.length_singleton]; omega⟩, t', by rw [lad_ls]; simp, lsAdd_e K2 (.inr (.inr (.inr (by rw [t.1]; decide)))) (by omega)⟩
  · rw [e1]; exact l2.imp fun a _ b z => TyX_fr F z (by decide) (by decide)
  · rw [lad_ls]; exact (l4.imp fun a _ b z => QtX_fr F z (by decide) (by decide)).app (A2.one t')
/-- the twin's lists of types and texts grow -/
theorem PM.addT (p : PM e h j IT TY QU) {T : Ty} (t : TyM h a T) (hl : TY.length + 1 ≤ j) (h0 : T.2.2 ≠ 0) : MS e 7 h (lad h e.yl a) ∧ PM e (lad h e.yl a) j IT (TY ++ [T]) QU ∧ TyM (lad h e.yl a) a T ∧ ∀ {β : Type} {K : HP → Rs β}, lsAdd e.yl a h K = K (lad h e.yl a) := by
  obtain ⟨w, k1, f1, k2, f2, k3, c3, a3, f4, n4, a4, n5, f5, hj, L, k6, f7, k7, c7, a7, n7, f8, k8, c8, a8, n8⟩ := p
  have h3 := L.2.2.1
  have K1 : lsK h e.yl := ⟨by rw [k7]; decide, by rw [k7]; decide, c7⟩
  have len : (ls h e.yl).length ≤ 300 := by
    rw [a7.len]; exact Nat.le_trans (List.length_filter_le _ _) (by omega)
  have s : St [] [e.yl] (0 + 7) h (lad h e.yl a) := (St.refl w [] [e.yl]).ladd k7 (by decide) (.inr (.inr (by simp))) (by omega) (by omega)
  have KK := lad_K (v := a) K1 (by omega)
  have F : Fr (fun k => decide (k ≠ 141)) h (lad h e.yl a) := s.fr (by simp) (fun x hx => .inr (by rw [List.mem_singleton.mp hx, k7]; decide))
  have eQ := F.at k1 (by decide) (by decide)
  have ep := F.at k3 (by decide) (by decide)
  have en := F.at (p := e.nl) rfl (by omega) (by simp; omega)
  have ex := F.at k8 (by decide) (by decide)
  have t' := TyM_fr F t (by decide) (by decide)
  refine ⟨s.wk (fun _ z => z) (fun x hx => .inl (by rw [List.mem_singleton.mp hx]; simp)) (by omega), ⟨s.1, eQ.1, (eQ.2.2.2.2.1 355).trans f1, (F.at k2 (by decide) (by decide)).1, (eQ.2.2.2.2.1 356).trans f2, ep.1, by rw [ep.2.2.2.2.2.2.2.2.2.2]; exact c3, ?_, (eQ.2.2.2.2.1 357).trans f4, by rw [en.1, en.2.2.2.2.2.2.2.2.2.2]; exact n4, ?_, n5, (eQ.2.2.1 358).trans f5, hj, L, ILp_fr F (eQ.2.2.2.2.1 359) k6 (by decide) (by decide) (by decide) (by decide) (by decide), (eQ.2.2.2.2.1 360).trans f7, k7, KK.2.2, ?_, by rw [List.length_append, List.length_singleton]; omega, (eQ.2.2.2.2.1 361).trans f8, ex.1, by rw [ex.2.2.2.2.2.2.2.2.2.2]; exact c8, ?_, n8⟩, t', lsAdd_e K1 (.inr (.inr (.inr (by rw [t.1]; decide)))) (by omega)⟩
  · rw [ep.2.2.2.2.2.2.2.2.1]; exact a3.imp fun a _ b z => MT_fr F z (by decide) (by decide)
  · rw [en.2.2.2.2.2.2.2.2.1]; exact a4.imp fun a _ b z => ToM_fr F z (by decide) (by decide)
  · rw [lad_ls, List.filter_append]
    refine (a7.imp fun a _ b z => TyM_fr F z (by decide) (by decide)).app ?_
    rw [List.filter_cons, if_pos (decide_eq_true h0)]
    exact A2.one t'
  · rw [ex.2.2.2.2.2.2.2.2.1]; exact a8.imp fun a _ b z => z.imp fun x y => ToM_fr F y (by decide) (by decide)
theorem PM.addT0 (p : PM e h j IT TY QU) {T : Ty} (hl : TY.length + 1 ≤ j) (h0 : T.2.2 = 0) : PM e h j IT (TY ++ [T]) QU := by
  obtain ⟨w, k1, f1, k2, f2, k3, c3, a3, f4, n4, a4, n5, f5, hj, L, k6, f7, k7, c7, a7, n7, f8, k8, c8, a8, n8⟩ := p
  refine ⟨w, k1, f1, k2, f2, k3, c3, a3, f4, n4, a4, n5, f5, hj, L, k6, f7, k7, c7, ?_, by rw [List.length_append, List.length_singleton]; omega, f8, k8, c8, a8, n8⟩
  rw [List.filter_append, List.filter_cons, if_neg (by simp [h0]), List.filter_nil, List.append_nil]; exact a7
theorem PM.addX (p : PM e h j IT TY QU) {s : List Nat} {x : Nat} (t : ToM h a (s, x)) (hl : QU.length + 1 ≤ j) : MS e 7 h (lad h e.xl a) ∧ PM e (lad h e.xl a) j IT TY (QU ++ [s]) ∧ ∀ {β : Type} {K : HP → Rs β}, lsAdd e.xl a h K = K (lad h e.xl a) := by
  obtain ⟨w, k1, f1, k2, f2, k3, c3, a3, f4, n4, a4, n5, f5, hj, L, k6, f7, k7, c7, a7, n7, f8, k8, c8, a8, n8⟩ := p
  have h3 := L.2.2.1
  have K1 : lsK h e.xl := ⟨by rw [k8]; decide, by rw [k8]; decide, c8⟩
  have len : (ls h e.xl).length ≤ 300 := by rw [a8.len]; omega
  have s0 : St [] [e.xl] (0 + 7) h (lad h e.xl a) := (St.refl w [] [e.xl]).ladd k8 (by decide) (.inr (.inr (by simp))) (by omega) (by omega)
  have KK := lad_K (v := a) K1 (by omega)
  have F : Fr (fun k => decide (k ≠ 140)) h (lad h e.xl a) := s0.fr (by simp) (fun x hx => .inr (by rw [List.mem_singleton.mp hx, k8]; decide))
  have eQ := F.at k1 (by decide) (by decide)
  have ep := F.at k3 (by decide) (by decide)
  have en := F.at (p := e.nl) rfl (by omega) (by simp; omega)
  have ey := F.at k7 (by decide) (by decide)
  refine ⟨s0.wk (fun _ z => z) (fun x hx => .inl (by rw [List.mem_singleton.mp hx]; simp)) (by omega), ⟨s0.1, eQ.1, (eQ.2.2.2.2.1 355).trans f1, (F.at k2 (by decide) (by decide)).1, (eQ.2.2.2.2.1 356).trans f2, ep.1, by rw [ep.2.2.2.2.2.2.2.2.2.2]; exact c3, ?_, (eQ.2.2.2.2.1 357).trans f4, by rw [en.1, en.2.2.2.2.2.2.2.2.2.2]; exact n4, ?_, n5, (eQ.2.2.1 358).trans f5, hj, L, ILp_fr F (eQ.2.2.2.2.1 359) k6 (by decide) (by decide) (by decide) (by decide) (by decide), (eQ.2.2.2.2.1 360).trans f7, ey.1, by rw [ey.2.2.2.2.2.2.2.2.2.2]; exact c7, ?_, n7, (eQ.2.2.2.2.1 361).trans f8, k8, KK.2.2, ?_, by rw [List.length_append, List.length_singleton]; omega⟩, lsAdd_e K1 (.inr (.inr (.inr (by rw [t.1]; decide)))) (by omega)⟩
  · rw [ep.2.2.2.2.2.2.2.2.1]; exact a3.imp fun a _ b z => MT_fr F z (by decide) (by decide)
  · rw [en.2.2.2.2.2.2.2.2.1]; exact a4.imp fun a _ b z => ToM_fr F z (by decide) (by decide)
  · rw [ey.2.2.2.2.2.2.2.2.1]; exact a7.imp fun a _ b z => TyM_fr F z (by decide) (by decide)
  · rw [lad_ls]
    exact (a8.imp fun a _ b z => z.imp fun x y => ToM_fr F y (by decide) (by decide)).app (A2.one ⟨x, ToM_fr F t (by decide) (by decide)⟩)
/-- the objects of a type -/
theorem x_tymk (w : WG h) {s : Nat} {v d : Int32} : ∃ h', (∀ (β : Type) (K : HP → Rs β), bd (f_X13_init (nx h) s v d (nO h 14 4)) (fun _ h2 => K h2) = K h') ∧ St [] [] 1 h h' ∧ kc h' (nx h) = 14 ∧ fr h' 170 (nx h) = s ∧ fi h' 171 (nx h) = v ∧ fi h' 172 (nx h) = d ∧ fr h' 173 (nx h) = 0 := by
  have hn0 : nx h ≠ 0 := by have := w.1; omega
  have hnew : kc h (nx h) = 0 := w.new
  have z := new0 w
  have kn : kc (nO h 14 4) (nx h) = 14 := kc_nO_n
  refine ⟨sI (sI (sR (nO h 14 4) 170 (nx h) s) 171 (nx h) v) 172 (nx h) d, fun β K => ?_, (((((St.refl w [] []).nO (k := 14) (n := 4) (b := 1) (by omega) (by omega)).sR kn (by decide) (.inl hnew)).sI kn (by decide) (.inl hnew)).sI kn (by decide) (.inl hnew)).le (by omega), kn, by simp [fr_sI, fr_sR], by simp [fi_sI], by simp [fi_sI], by simp [fr_sI, fr_sR, fr_nO, z.2]⟩
  unfold f_X13_init
  rw [if_neg hn0, stR_e, stI_e, stI_e, bd_ok]
  all_goals exact kn
theorem m_tymk (w : WG h) {s : Nat} {v d : Int32} : ∃ h', (∀ (β : Type) (K : HP → Rs β), bd (f_X50_init (nx h) s v d (nO h 48 4)) (fun _ h2 => K h2) = K h') ∧ St [] [] 1 h h' ∧ kc h' (nx h) = 48 ∧ fr h' 380 (nx h) = s ∧ fi h' 381 (nx h) = v ∧ fi h' 382 (nx h) = d ∧ fi h' 383 (nx h) = -1 := by
  have hn0 : nx h ≠ 0 := by have := w.1; omega
  have hnew : kc h (nx h) = 0 := w.new
  have kn : kc (nO h 48 4) (nx h) = 48 := kc_nO_n
  refine ⟨sI (sI (sR (sI (nO h 48 4) 383 (nx h) (-1)) 380 (nx h) s) 381 (nx h) v) 382 (nx h) d, fun β K => ?_, ((((((St.refl w [] []).nO (k := 48) (n := 4) (b := 1) (by omega) (by omega)).sI kn (by decide) (.inl hnew)).sR kn (by decide) (.inl hnew)).sI kn (by decide) (.inl hnew)).sI kn (by decide) (.inl hnew)).le (by omega), kn, by simp [fr_sI, fr_sR], by simp [fi_sI], by simp [fi_sI], by simp [fi_sI, fi_sR]⟩
  unfold f_X50_init
  rw [if_neg hn0, stI_e, stR_e, stI_e, stI_e, bd_ok]
  all_goals exact kn
/-- a type -/
theorem ty_pair (p : PX e hx i TY QU) (q : PM e hm i IT TY QU) : TOut e hx hm i TY QU IT (f_X10_type e.P hx) (f_X48_type e.Q hm) := by
  have hj := q.jj.1
  have h300 := q.jj.2.2.2
  have hTY := p.2.2.2.2.2.2.2.1
  have V9 := p.V.2.2.2.2.2.2.2
  have wd := p.wrd
  have mt := q.mt0
  unfold f_X10_type f_X48_type
  rw [xt_e p, xplc_e p, xt_e p, xwrd_e p, xt_e p, xknd_e p, xP_e p, xplain_e p, m46_e q, mtok_e q, m46_e q, mbeg_e q]
  by_cases c : (tk e.TS i).1 = 1 ∨ plT (tk e.TS i)
  · rw [if_pos c, if_neg z10, if_neg z10]
    have g : tkGo (tk e.TS i) := by
      rcases c with z | z
      · exact ⟨by omega, by omega⟩
      · exact ⟨by have := z.1; omega, by have := z.1; omega⟩
    have both : ∀ {A C : Rs Nat}, (if nI (tk e.TS i).1 = (1 : Int32) then A else if plT (tk e.TS i) then A else C) = A := by
      intro A C
      by_cases c1 : (tk e.TS i).1 = 1
      · rw [if_pos ((nk _ (c := 1) (C := (1 : Int32)) rfl (by omega) (by omega)).mpr c1)]
      · rw [if_neg (fun z => c1 ((nk _ (c := 1) (C := (1 : Int32)) rfl (by omega) (by omega)).mp z)), if_pos (by rcases c with z | z; exact absurd z c1; exact z)]
    rw [both]
    unfold f_X10_type_b42
    rw [xt_e p, x10_e p, mfwd_e q]
    rcases adv p q g with ⟨hx1, e1, s1, p1, q1, t1⟩ | ⟨hx1, P, e1, s1, f1, n1, t1⟩
    · rw [e1]
      have w1 : StrX hx1 (fr hx 154 e.t) (tk e.TS i).2.2.1 := StrX_fr (p.fr0 s1.1) wd (by decide)
      have mt1 : MT (fwd e hm i) (e.tok hm i) (tk e.TS i) := MT_fr (q.fr0 t1) mt (by decide) (by decide)
      have TL := ty_l (IT := IT) (P0 := 0) (nI (tk e.TS i).2.1) (fr hx 154 e.t) (e.tok hm i) NN hx1 _ (i + 1) 0 (by have := NN_ge (k := 400) (by omega); omega) (by omega) p1 q1
      rw [show nI 0 = (0 : Int32) from rfl] at TL
      rcases TL with ⟨hx2, hm2, j, k, a1, a2, a3, a4, a5, a6, a7, a8⟩ | ⟨hx2, hm2, j, a1, a2, a3, a5, a6, a7, a8⟩ | f
      · have hj2 := a8.jj.1
        rw [a1, a2, bd_ok, bd_ok]
        simp only [Sum.elim_inr]
        have w2 : StrX hx2 (fr hx 154 e.t) (tk e.TS i).2.2.1 := StrX_fr (p1.fr0 a5.1) w1 (by decide)
        obtain ⟨m1, m2, m3, m4, m5, m6⟩ := MT_fr (q1.fr0 a6) mt1 (by decide) (by decide)
        obtain ⟨hx3, e3, s3, x1, x2, x3, x4, x5⟩ := x_tymk a7.1 (s := fr hx 154 e.t) (v := nI (tk e.TS i).2.1) (d := nI k)
        obtain ⟨hm3, e4, s4, y1, y2, y3, y4, y5⟩ := m_tymk a8.1 (s := fr hm2 351 (e.tok hm i)) (v := nI (tk e.TS i).2.1) (d := nI k)
        have p3 := a7.new s3
        have q3 := a8.new s4
        have F3 : Fr (fun _ => true) hx2 hx3 := s3.fr (by simp) (by simp)
        have F4 : Fr (fun _ => true) hm2 hm3 := s4.fr (by simp) (by simp)
        have T3 : TyX hx3 (nx hx2) ((tk e.TS i).2.2.1, (tk e.TS i).2.1, k) := by
          have := StrX_fr F3 w2 rfl
          exact ⟨x1, by rw [x2]; exact this.1, by rw [x2]; exact this.2, x3, x4, a4⟩
        have T4 : TyM hm3 (nx hm2) ((tk e.TS i).2.2.1, (tk e.TS i).2.1, k) := by
          have := StrX_fr F4 (⟨m4, m5⟩ : StrX hm2 (fr hm2 351 (e.tok hm i)) _) rfl
          exact ⟨y1, by rw [y2]; exact this.1, by rw [y2]; exact this.2, y3, y4, y5⟩
        have kn14 : kc (nO hx2 14 4) (nx hx2) = 14 := kc_nO_n
        have kn48 : kc (nO hm2 48 4) (nx hm2) = 48 := kc_nO_n
        have kt : kc (nO hm2 48 4) (e.tok hm i) = 44 := kc_nO_o a8.1 m1 (by decide)
        obtain ⟨u1, u2, u3, u4, u6, u5⟩ := p3.addT T3 (by omega)
        rw [nwO_e, if_pos kn14, e3, ldMR_e p3.kP, p3.2.1.2.2.2.1, u5, nwO_e, ldR_e kt, ldI_e kt, if_pos kn48, show fr (nO hm2 48 4) 351 (e.tok hm i) = fr hm2 351 (e.tok hm i) from rfl, show fi (nO hm2 48 4) 350 (e.tok hm i) = nI (tk e.TS i).2.1 from m3, e4]
        have sx : XS e (50 * (j - i)) hx (lad hx3 e.tl (nx hx2)) := (((s1.trans a5).trans (XS.new a7 s3)).trans u1).le (by omega)
        have new0' : kc hx (nx hx2) = 0 := Classical.byContradiction fun z => by
          have := ((s1.trans a5).1.2.2.2.2 _ z).1
          rw [a7.1.new] at this; exact z this.symm
        have fr0' : fr (lad hx3 e.tl (nx hx2)) 173 (nx hx2) = 0 := u6.trans x5
        by_cases k0 : k = 0
        · rw [if_pos (show nI k ≤ (0 : Int32) from by rw [k0]; decide)]
          exact .inl ⟨_, _, _, _, j, _, rfl, rfl, by omega, sx, ((t1.trans a6).trans (MS.new s4)).le (by omega), u2, q3.addT0 (by omega) k0, u3, u4, T4, new0', fr0'⟩
        · obtain ⟨v1, v2, v3, v4⟩ := q3.addT T4 (by omega) k0
          rw [if_neg (show ¬ nI k ≤ (0 : Int32) from fun z => k0 (by have := (nI_leI (a := k) (b := 0) (by omega) (by omega)).mp z; omega)), ldR_e q3.kQ, (show fr hm3 360 e.Q = e.yl from by obtain ⟨w, k1, f1, k2, f2, k3, c3, a3, f4, n4, a4, n5, f5, hj, L, k6, f7, _⟩ := q3; exact f7), v4]
          exact .inl ⟨_, _, _, _, j, _, rfl, rfl, by omega, sx, (((t1.trans a6).trans (MS.new s4)).trans v1).le (by omega), u2, v2, u3, u4, v3, new0', fr0'⟩
      · have hj2 := a8.jj.1
        rw [a1, a2, bd_ok, bd_ok]
        simp only [Sum.elim_inl]
        rw [xt_e a7, x10_e a7, m46_e a8]
        obtain ⟨hx3, e3, s3, f3⟩ := xwrong a7
        obtain ⟨hm3, e4, s4, f4⟩ := mwrong a8
        exact .inr ⟨(Fail.pre (s1.trans a5) (t1.trans a6) (Fail.at' a7 (e3 _) s3 f3 (e4 _) s4 f4)).le (by omega) (Nat.le_refl _) (by omega), fun v h5 z => by rw [e4] at z; cases z⟩
      · have hj1 := q1.jj.1
        obtain ⟨P, hx4, g1, g2, g3, g4⟩ := f
        rcases g4 with ⟨hm4, u1, u2, u3⟩ | ⟨hm4, j, k, u1, u2, u3, u4, u5, u6⟩
        · exact .inr ⟨⟨P, hx4, by rw [g1]; rfl, (s1.trans g2).le (by omega), g3, (MF.pre t1 (.inl ⟨hm4, by rw [u1]; rfl, u2, u3⟩)).le (Nat.le_refl _) (by omega)⟩, fun v h5 z => by rw [u1] at z; cases z⟩
        · have hj4 := u4.jj.1
          refine .inr ?_
          rw [u1, bd_ok]
          simp only [Sum.elim_inr]
          obtain ⟨m1, m2, m3, m4, m5, m6⟩ := MT_fr (q1.fr0 u3) mt1 (by decide) (by decide)
          obtain ⟨hm3, e4, s4, y1, y2, y3, y4, y5⟩ := m_tymk u4.1 (s := fr hm4 351 (e.tok hm i)) (v := nI (tk e.TS i).2.1) (d := nI k)
          have q3 := u4.new s4
          have F4 : Fr (fun _ => true) hm4 hm3 := s4.fr (by simp) (by simp)
          have T4 : TyM hm3 (nx hm4) ((tk e.TS i).2.2.1, (tk e.TS i).2.1, k) := by
            have := StrX_fr F4 (⟨m4, m5⟩ : StrX hm4 (fr hm4 351 (e.tok hm i)) _) rfl
            exact ⟨y1, by rw [y2]; exact this.1, by rw [y2]; exact this.2, y3, y4, y5⟩
          have kn48 : kc (nO hm4 48 4) (nx hm4) = 48 := kc_nO_n
          have kt : kc (nO hm4 48 4) (e.tok hm i) = 44 := kc_nO_o u4.1 m1 (by decide)
          rw [nwO_e, ldR_e kt, ldI_e kt, if_pos kn48, show fr (nO hm4 48 4) 351 (e.tok hm i) = fr hm4 351 (e.tok hm i) from rfl, show fi (nO hm4 48 4) 350 (e.tok hm i) = nI (tk e.TS i).2.1 from m3, e4]
          by_cases k0 : k = 0
          · rw [if_pos (show nI k ≤ (0 : Int32) from by rw [k0]; decide)]
            exact ⟨⟨P, hx4, by rw [g1]; rfl, (s1.trans g2).le (by omega), g3, .inr ⟨_, _, rfl, ((t1.trans u3).trans (MS.new s4)).le (by omega), j, IT, TY, QU, q3, u6.1, u6.2, Nat.le_refl _⟩⟩, fun v h5 z => by cases z; exact ⟨_, T4⟩⟩
          · obtain ⟨v1, v2, v3, v4⟩ := q3.addT T4 (by omega) k0
            rw [if_neg (show ¬ nI k ≤ (0 : Int32) from fun z => k0 (by have := (nI_leI (a := k) (b := 0) (by omega) (by omega)).mp z; omega)), ldR_e q3.kQ, (show fr hm3 360 e.Q = e.yl from by obtain ⟨w, k1, f1, k2, f2, k3, c3, a3, f4, n4, a4, n5, f5, hj, L, k6, f7, _⟩ := q3; exact f7), v4]
            exact ⟨⟨P, hx4, by rw [g1]; rfl, (s1.trans g2).le (by omega), g3, .inr ⟨_, _, rfl, (((t1.trans u3).trans (MS.new s4)).trans v1).le (by omega), j, IT, _, QU, v2, u6.1, u6.2, Nat.le_refl _⟩⟩, fun v h5 z => by cases z; exact ⟨_, v3⟩⟩
    · rw [e1]
      obtain ⟨t3, q3⟩ := mfwd_s q g
      refine .inr ?_
      obtain ⟨jn, ITn, TYn, QUn, z1, z2, z3, z4⟩ := n1
      have l0 : f_X48_type_l29 e.Q (e.tok hm i) NN 0 (fwd e hm i) = rok (Sum.inr 0) (fwd e hm i) := by
        rw [show NN = (NN - 1) + 1 from rfl, f_X48_type_l29_s]
        unfold b_X48_type_l29
        rw [m46_e z1, misS_e z1 (by decide) (by decide) rfl, if_neg (fun y => by have := y.1; omega), if_pos y00]
      have mt1 : MT (fwd e hm i) (e.tok hm i) (tk e.TS i) := MT_fr (q.fr0 t1) mt (by decide) (by decide)
      obtain ⟨m1, m2, m3, m4, m5, m6⟩ := mt1
      rw [l0, bd_ok]
      simp only [Sum.elim_inr]
      obtain ⟨hm3, e4, s4, y1, y2, y3, y4, y5⟩ := m_tymk z1.1 (s := fr (fwd e hm i) 351 (e.tok hm i)) (v := nI (tk e.TS i).2.1) (d := 0)
      have kn48 : kc (nO (fwd e hm i) 48 4) (nx (fwd e hm i)) = 48 := kc_nO_n
      have kt : kc (nO (fwd e hm i) 48 4) (e.tok hm i) = 44 := kc_nO_o z1.1 m1 (by decide)
      rw [nwO_e, ldR_e kt, ldI_e kt, if_pos kn48, show fr (nO (fwd e hm i) 48 4) 351 (e.tok hm i) = fr (fwd e hm i) 351 (e.tok hm i) from rfl, show fi (nO (fwd e hm i) 48 4) 350 (e.tok hm i) = nI (tk e.TS i).2.1 from m3, e4, if_pos (by decide)]
      have F4 : Fr (fun _ => true) (fwd e hm i) hm3 := s4.fr (by simp) (by simp)
      have T4 : TyM hm3 (nx (fwd e hm i)) ((tk e.TS i).2.2.1, (tk e.TS i).2.1, 0) := by
        have := StrX_fr F4 (⟨m4, m5⟩ : StrX (fwd e hm i) (fr (fwd e hm i) 351 (e.tok hm i)) _) rfl
        exact ⟨y1, by rw [y2]; exact this.1, by rw [y2]; exact this.2, y3, y4, y5⟩
      exact ⟨⟨P, hx1, rfl, s1.le (by omega), f1, MF.le (MF.pre t1 (b := 10) (.inr ⟨_, _, rfl, (MS.new s4).le (by omega), jn, ITn, TYn, QUn, z1.new s4, z2, z3, z4⟩)) (Nat.le_refl _) (by omega)⟩, fun v h5 z => by cases z; exact ⟨_, T4⟩⟩
  · have c1 : (tk e.TS i).1 ≠ 1 := fun z => c (.inl z)
    have c2 : ¬ plT (tk e.TS i) := fun z => c (.inr z)
    obtain ⟨hx3, e3, s3, f3⟩ := xwrong p
    obtain ⟨hm3, e4, s4, f4⟩ := mwrong q
    rw [if_neg c, if_pos y00, m46_e q, if_neg (fun z => c1 ((nk _ (c := 1) (C := (1 : Int32)) rfl (by omega) (by omega)).mp z)), if_neg c2, if_pos y00, xt_e p, x10_e p]
    exact .inr ⟨(Fail.at' p (e3 _) s3 f3 (e4 _) s4 f4).le (by omega) (Nat.le_refl _) (by omega), fun v h5 z => by rw [e4] at z; cases z⟩
