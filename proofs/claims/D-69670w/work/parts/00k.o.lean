/-! PHASE B declarations 40: all declarations, from the first token on -/
set_option maxRecDepth 100000
variable {e : EE} {hx hm h h' hx0 hm0 : HP} {i j a k b b2 : Nat} {IT : List It} {TY : List Ty} {QU : List (List Nat)}
/-- the component's parser before its first token -/
def PX0 (e : EE) (h : HP) : Prop := WG h ∧ PS e h ∧ TokO h e.t e.B e.st ∧ fi h 153 e.t = 0 ∧ (Lx e.B e.TS ∧ tk e.TS 0 = lex1 e.B 0) ∧ cp h e.tl ≠ RAW ∧ ls h e.tl = [] ∧ cp h e.ql ≠ RAW ∧ ls h e.ql = []
theorem tok_fr (s : St [] [e.t, e.st] a h h') (kt : kc h e.t = 10) (ks : kc h e.st = 2) : Fr (fun k => decide (k ≠ 10 ∧ k ≠ 2)) h h' :=
  s.fr (by simp) (fun x hx => .inr (by
    simp only [List.mem_cons, List.not_mem_nil, or_false] at hx
    rcases hx with z | z
    · rw [z, kt]; decide
    · rw [z, ks]; decide))
theorem PS_fr (F : Fr (fun k => decide (k ≠ 10 ∧ k ≠ 2)) h h') (p : PS e h) : PS e h' := by
  obtain ⟨k1, f1, f2, f3, f4, f5, k2, k3, c1, c2, c3, c4, c5, c6, c7⟩ := p
  have kP0 : kc h e.P ≠ 0 := by rcases k1 with z | z <;> rw [z] <;> decide
  have kPs : decide (kc h e.P ≠ 10 ∧ kc h e.P ≠ 2) = true := by rcases k1 with z | z <;> rw [z] <;> decide
  obtain ⟨a1, a2, a3⟩ := F.at rfl kP0 kPs
  obtain ⟨b1, b2, b3⟩ := F.at (p := e.cl) rfl (by omega) (by simp; omega)
  refine ⟨by rw [a1]; exact k1, (a3.2.2.1 156).trans f1, (a3.2.2.1 157).trans f2, (a3.2.2.1 158).trans f3, (a3.2.2.1 159).trans f4, (a3.2.2.1 160).trans f5, (F.at k2 (by decide) (by decide)).1, (F.at k3 (by decide) (by decide)).1, by rw [b1]; exact c1, by rw [b1]; exact c2, by rw [b1]; exact c3, by rw [b1]; exact c4, by rw [b3.2.2.2.2.2.2.2.2]; exact c5, ?_, c7⟩
  rw [b3.2.2.2.2.2.2.1]
  exact c6.imp fun a _ b z => StrX_fr F z (by decide)
theorem DlX_fr {K kl DL n : Nat} (F : Fr (fun k => decide (k ≠ 10 ∧ k ≠ 2)) h h') (kP : kc h e.P = 12) (A : DlX e h K kl DL n) : DlX e h' K kl DL n := by
  obtain ⟨a1, a2, a3, a4, a5, a6, a7, a8, a9, a10⟩ := A
  obtain ⟨b1, _, b3⟩ := F.at kP (by decide) (by decide)
  obtain ⟨c1, _, c3⟩ := F.at a2 (by decide) (by decide)
  obtain ⟨d1, _, d3⟩ := F.at a4 (by decide) (by decide)
  obtain ⟨f1, _, f3⟩ := F.at a8 (by decide) (by decide)
  exact ⟨(b3.2.2.1 161).trans a1, c1, (c3.2.2.1 30).trans a3, d1, by rw [d3.2.2.2.2.2.2.2.2]; exact a5, by rw [d3.2.2.2.2.2.2.1]; exact a6, (b3.2.2.1 162).trans a7, f1, by rw [f3.2.2.2.2.2.2.2.2]; exact a9, by rw [f3.2.2.2.2.2.2.1]; exact a10⟩
theorem px0_next (p : PX0 e h) :
    ((tk e.TS 0).1 ≠ 9 → ∃ h', f_X9_next e.t h = rok () h' ∧ St [] [e.t, e.st] 20 h h' ∧ PX e h' 0 [] []) ∧
    ((tk e.TS 0).1 = 9 → ∃ h', f_X9_next e.t h = rex h' ∧ St [] [e.t, e.st] 20 h h' ∧ StopX e h' (tk e.TS 0).2.1) := by
  obtain ⟨w, ps, T, z, ⟨L, t0⟩, c1, l1, c2, l2⟩ := p
  have X := x_next (k := 0) L.1 w T z (Nat.zero_le _)
  rw [← t0] at X
  refine ⟨fun y => ?_, fun y => ?_⟩
  · obtain ⟨h', e1, s1, T1, X1⟩ := X.1 y
    have F := tok_fr s1 T.1 T.2.2.2.2.1
    obtain ⟨b1, _, b3⟩ := F.at ps.2.2.2.2.2.2.1 (by decide) (by decide)
    obtain ⟨d1, _, d3⟩ := F.at ps.2.2.2.2.2.2.2.1 (by decide) (by decide)
    exact ⟨h', e1, s1, s1.1, PS_fr F ps, ⟨T1, X1, L.2.1, L⟩, by rw [b3.2.2.2.2.2.2.2.2]; exact c1, by rw [b3.2.2.2.2.2.2.1, l1]; exact True.intro, by rw [d3.2.2.2.2.2.2.2.2]; exact c2, by rw [d3.2.2.2.2.2.2.1, l2]; exact True.intro, Nat.le_refl _, Nat.le_refl _⟩
  · obtain ⟨h', e1, s1, T1, f1, f2⟩ := X.2 y
    exact ⟨h', e1, s1, f1, f2⟩
theorem read_pair {K kl DL L : Nat} (p0 : PX0 e hx) (q : PM e hm 0 [] [] []) (h0 : e.il = 0) (cl : kc hx e.cl = 129) (kP : kc hx e.P = 12) (nl : kc hm e.nl = 168) (A : DlX e hx K kl DL 0) (M1 : kc hm L = 167) (M2 : cp hm L ≠ RAW) (M3 : ls hm L = []) :
    (∃ hx' hm' j ds TY QU, f_X11_read e.P hx = rok () hx' ∧ f_X48_all e.Q L hm = rok () hm' ∧ (tk e.TS j).1 = 0 ∧ PX e hx' j TY QU ∧ PM e hm' j [] TY QU ∧ St [] (kl :: DL :: e.xx) (20 + 120 * j) hx hx' ∧ St [] (L :: e.mm) (120 * j) hm hm' ∧ DsX e (nx hx) hx' K kl DL ds ∧ DsM (nx hm) hm' L ds ∧ ds.length ≤ 60 ∧ (ds.map sz).sum + 2 * ds.length ≤ j ∧ 3 * ds.length ≤ j) ∨
    DFx e (kl :: DL :: e.xx) (L :: e.mm) hx hm (20 + 120 * e.TS.length) (1 + 120 * e.TS.length) (f_X11_read e.P hx) (f_X48_all e.Q L hm) := by
  have w := p0.1
  have ps := p0.2.1
  have T := p0.2.2.1
  have kL : lsK hm L := ⟨by rw [M1]; decide, by rw [M1]; decide, M2⟩
  have hN := q.jj.2.2.2
  have big : 301 < NN := Nat.lt_of_lt_of_le (by omega) (NN_ge (k := 400) (by omega))
  rw [all_eq q kL]
  have eR : f_X11_read e.P hx = bd (f_X9_next e.t hx) (fun _ h2 => rdX e.P NN h2) := by
    unfold f_X11_read
    rw [ldR_e kP, ps.2.1, if_pos T.1]; rfl
  rw [eR]
  obtain ⟨g1, g2⟩ := px0_next p0
  by_cases z9 : (tk e.TS 0).1 = 9
  · obtain ⟨hx1, e1, s1, f1⟩ := g2 z9
    obtain ⟨v, ev, hv, hw⟩ := all_e (L := L) (ih := f_X48_all_l0 e.Q L NN) q
    have v0 : v = 0 := hv.resolve_right fun y => by
      rcases hw.mp y with y | y | y | y | y <;> (have := y.1; omega)
    obtain ⟨hm7, m1, s2, f2⟩ := mwrong q
    refine .inr ⟨_, hx1, hm7, by rw [e1, bd_ex], (s1.wk (fun _ z => z) (fun x hx => .inl (by simp only [List.mem_cons, List.not_mem_nil, or_false] at hx ⊢; rcases hx with z | z <;> simp [z])) (Nat.le_refl _)).le (by omega), f1, ?_, (s2.wk (X2 := L :: e.mm) (fun _ z => z) (fun x hx => .inl (by rw [List.mem_singleton.mp hx]; simp)) (Nat.le_refl _)).le (by omega), f2⟩
    unfold rdM
    rw [f_X48_all_l0_s, ev, if_neg (by omega), v0]
    unfold f_X48_all_l0b60
    rw [if_pos y00, bd_ok, Sum.elim_inl, m46_e q, m1]
  obtain ⟨hx1, e1, s1, p1⟩ := g1 z9
  have F := tok_fr s1 T.1 T.2.2.2.2.1
  have A1 := DlX_fr F kP A
  have DX0 : DsX e (nx hx) hx1 K kl DL [] := ⟨A1, fun _ => nx hx, fun _ => Nat.le_refl _, Nat.le_refl _, s1.2.1, fun r hr => absurd hr (by simp)⟩
  have DM0 : DsM (nx hm) hm L [] := ⟨M1, M2, by rw [M3]; rfl, fun _ => nx hm, fun _ => Nat.le_refl _, Nat.le_refl _, Nat.le_refl _, fun r hr => absurd hr (by simp)⟩
  rw [e1, bd_ok]
  have S1 : St [] (kl :: DL :: e.xx) 20 hx hx1 := s1.wk (fun _ z => z) (fun x hx => .inl (by simp only [List.mem_cons, List.not_mem_nil, or_false] at hx ⊢; rcases hx with z | z <;> simp [z])) (Nat.le_refl _)
  rcases rd_l (b := nx hx) (b2 := nx hm) h0 (e.TS.length + 1) hx1 hm 0 20 0 [] [] [] NN (NN + 1) (by omega) (by omega) (by omega) p1 q S1 ((St.refl q.1 [] (L :: e.mm))) (s1.2.kk cl (by decide)) (s1.2.kk kP (by decide)) nl DX0 DM0 (by simp) ⟨by simp, by simp⟩ s1.2.1 (Nat.le_refl _) with ⟨hx', hm', j, ds, TY, QU, x1, x2, x3, x4, x5, x6, x7, x8, x9, x10, x11⟩ | f
  · exact .inl ⟨hx', hm', j, ds, TY, QU, x1, x2, x4, x5, x6, x7.le (by omega), x8.le (by omega), x9, x10, x11⟩
  · exact .inr (DFx_le f (by omega) (by omega))
