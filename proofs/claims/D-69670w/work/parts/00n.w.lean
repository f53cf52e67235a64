/-! PHASE B settle 42: the component: all layouts -/
set_option maxRecDepth 100000
variable {F K : List Nat} {c : Nat} {h h' h0 : HP} {e : EE} {kx ax : Nat → Nat} {ds : List DC} {C DL kl q s j k p a b i r l : Nat} {AR : AT} {D : List (List Nat)} {nm : List Nat} {d : DC} {m : Mb} {T : Ty} {ps fs : List Vr} {t : Mt} {v : Vr} {g : Nat → Nat} {lay : Nat → Bool}
def LyX (h : HP) (kx : Nat → Nat) (ds : List DC) (AR : AT) (lay : Nat → Bool) : Prop := ∀ k, k < ds.length → fi h 39 (kx (10 + k)) = (if lay k = true then 1 else 0) ∧ cp h (fr h 44 (kx (10 + k))) ≠ RAW ∧ (lay k = false → ls h (fr h 44 (kx (10 + k))) = []) ∧ (lay k = true → LF h kx ds AR (fr h 44 (kx (10 + k))) (fds ds (10 + k)))
def cLy (ds : List DC) (k : Nat) : Nat := 2 * (fds ds (10 + k)).length
/-- what is still to be laid out -/
def toLy (ds : List DC) (lay : Nat → Bool) : Nat := sm (fun k => if lay k = true then 0 else cLy ds k) ds.length
theorem toLy_ud (hk : k < ds.length) (hl : lay k = false) : toLy ds (ud lay k true) + cLy ds k = toLy ds lay := by
  unfold toLy
  have := sm_one (f := fun j => if ud lay k true j = true then 0 else cLy ds j) (g := fun j => if lay j = true then 0 else cLy ds j) (n := ds.length) (k := k) (fun j hj => by show (if ud lay k true j = true then 0 else cLy ds j) = _; rw [ud_o hj]) hk
  simp only [ud_s, hl] at this
  simpa using this
theorem layOut_e (o : ok3 ds) (f40 : ∀ j, (fds ds j).length ≤ 40) (hg : oK ds g) : ∀ j, ∀ k, j = 10 + k → k < ds.length → ∀ f c h lay, (up ds j).length < f → XM e h C DL kl kx ax ds AR D g → LyX h kx ds AR lay → Ef FY KY c h0 h →
    ∃ h' c' lay', r_S6 f e.P (ax k) h = rok () h' ∧ Ef FY KY c' h0 h' ∧ c' + toLy ds lay' ≤ c + toLy ds lay ∧ XM e h' C DL kl kx ax ds AR D g ∧ LyX h' kx ds AR lay' ∧ lay' k = true ∧ ∀ t, lay t = true → lay' t = true := by
  -- behind the parent
  have b38 : ∀ {k f c h lay}, k < ds.length → (∀ p, paF ds ds.length (10 + k) = some (10 + p) → lay p = true) → XM e h C DL kl kx ax ds AR D g → LyX h kx ds AR lay → Ef FY KY c h0 h →
      ∃ h' c' lay', f_X11_layOut_b38 (r_S6 f) (ax k) h = rok () h' ∧ Ef FY KY c' h0 h' ∧ c' + toLy ds lay' ≤ c + toLy ds lay ∧ XM e h' C DL kl kx ax ds AR D g ∧ LyX h' kx ds AR lay' ∧ lay' k = true ∧ ∀ t, lay t = true → lay' t = true := by
    intro k f c h lay hk hpar x ly u
    have S := x.1.1
    have d := S.dd hk
    have k0 := S.kk (i := 10 + k) (by omega)
    obtain ⟨l1, l2, l3, l4⟩ := ly k hk
    unfold f_X11_layOut_b38
    rw [ldR_e d.1, d.2.1, ldI_e k0.1, l1]
    cases gl : lay k with
    | true =>
      rw [if_pos rfl, if_neg z10]
      exact ⟨h, c, lay, rfl, u, Nat.le_refl _, x, ly, gl, fun _ z => z⟩
    | false =>
      rw [if_pos (by decide), ldR_e d.1, d.2.1, stI_e k0.1]
      have u1 : Ef FY KY c h0 (sI h 39 (kx (10 + k)) 1) := u.sI k0.1 (by decide) (.inr (by simp))
      have v1 : Ef FY [] 0 h (sI h 39 (kx (10 + k)) 1) := (Ef.refl S.1 _ _).sI k0.1 (by decide) (.inr (by simp))
      have xx1 : Xx FY [] := ⟨by constructor <;> decide, by decide, by decide⟩
      have x1 := XM_ef v1 xx1 (by decide) (by decide) hg x
      have S1 := x1.1.1
      have d1 := S1.dd hk
      have k1 := S1.kk (i := 10 + k) (by omega)
      have F1 : ∀ a i v, FdX h kx ds AR a i v → FdX (sI h 39 (kx (10 + k)) 1) kx ds AR a i v := fun a i v z => FdX_ef v1 xx1.1 (by decide) z
      have pe := x1.1.2.2.2.2.2.2.1 (10 + k) (by omega)
      have g44 : ∀ q, fr (sI h 39 (kx (10 + k)) 1) 44 q = fr h 44 q := fun q => rfl
      rw [ldR_e d1.1, d1.2.1, ldR_e k1.1]
      have e67 : ∃ h', f_X11_layOut_l67 (r_S6 f) (ax k) (fr (sI h 39 (kx (10 + k)) 1) 44 (kx (10 + k))) NN (0 : Int32) (sI h 39 (kx (10 + k)) 1) = rok () h' ∧ Ef [] KY (fdp ds (10 + k)).length (sI h 39 (kx (10 + k)) 1) h' ∧ LF h' kx ds AR (fr (sI h 39 (kx (10 + k)) 1) 44 (kx (10 + k))) (fdp ds (10 + k)) ∧ cp h' (fr (sI h 39 (kx (10 + k)) 1) 44 (kx (10 + k))) ≠ RAW ∧ ∀ q, kc (sI h 39 (kx (10 + k)) 1) q = 102 → q ≠ fr (sI h 39 (kx (10 + k)) 1) 44 (kx (10 + k)) → ls h' q = ls (sI h 39 (kx (10 + k)) 1) q ∧ cp h' q = cp (sI h 39 (kx (10 + k)) 1) q := by
        cases gp : paF ds ds.length (10 + k) with
        | none =>
          rw [fdp_none gp]
          refine ⟨sI h 39 (kx (10 + k)) 1, ?_, Ef.refl S1.1 _ _, ⟨by show (ls h _).length = 0; rw [g44, l3 gl]; rfl, fun t ht => by cases ht⟩, l2, fun q _ _ => ⟨rfl, rfl⟩⟩
          obtain ⟨N, hN⟩ : ∃ N, NN = N + 1 := ⟨NN - 1, by have := NN_ge (k := 1) (by omega); omega⟩
          rw [hN, f_X11_layOut_l67_s]
          unfold b_X11_layOut_l67
          rw [ldR_e d1.1, d1.2.1, ldR_e k1.1, pe, gp, if_pos (show kxo kx none = 0 from rfl)]
        | some p =>
          obtain ⟨pp, rfl⟩ : ∃ t, p = 10 + t := ⟨p - 10, by have := (pa_un gp).2.2.1; omega⟩
          have hpp : pp < ds.length := by have := (pa_un gp).2.1; omega
          obtain ⟨_, m2, _, m4⟩ := ly pp hpp
          have L := m4 (hpar pp gp)
          rw [fdp_some o gp]
          exact ly67_e o x1 hg hk gp (LF_cg L F1 rfl) m2 (l3 gl) l2 (f40 _)
      obtain ⟨h2, e2, u2, L2, c2, oth2⟩ := e67
      have x2 := XM_ef u2 xxY0 (by simp) (by decide) hg x1
      have k2 := x2.1.1.kk (i := 10 + k) (by omega)
      have g2 : fr h2 44 (kx (10 + k)) = fr (sI h 39 (kx (10 + k)) 1) 44 (kx (10 + k)) := u2.gr k1.1 (by decide) (by simp)
      have f40k : (fdp ds (10 + k)).length + (ow ds (10 + k)).length ≤ 40 := by
        have := f40 (10 + k)
        unfold fds at this
        rwa [List.length_append] at this
      obtain ⟨h3, e3, u3, L3, c3, oth3⟩ := ly124_e (R := r_S6 f) x2 hk (by rw [g2]; exact L2) (by rw [g2]; exact c2) f40k
      have x3 := XM_ef u3 xxY0 (by simp) (by decide) hg x2
      have g3 : fr h3 44 (kx (10 + k)) = fr h2 44 (kx (10 + k)) := u3.gr k2.1 (by decide) (by simp)
      unfold f_X11_layOut_b122
      rw [e2, bd_ok, show fr (sI h 39 (kx (10 + k)) 1) 44 (kx (10 + k)) = fr h2 44 (kx (10 + k)) from g2.symm, e3, bd_ok]
      have wkk : ∀ {c1 g1 g2}, Ef [] KY c1 g1 g2 → Ef FY KY c1 g1 g2 := fun z => z.wk (fun _ y => by simp at y) (fun _ y => y) (Nat.le_refl _)
      refine ⟨h3, _, ud lay k true, rfl, (u1.trans (wkk u2)).trans (wkk u3), ?_, x3, fun k' hk' => ?_, ud_s, fun t ht => ?_⟩
      · have := toLy_ud (ds := ds) hk gl
        have cl : cLy ds k = 2 * ((fdp ds (10 + k)).length + (ow ds (10 + k)).length) := by unfold cLy fds; rw [List.length_append]
        omega
      · have u13 : Ef [] KY ((fdp ds (10 + k)).length + 2 * (ow ds (10 + k)).length) (sI h 39 (kx (10 + k)) 1) h3 := u2.trans u3
        have kk := S1.kk (i := 10 + k') (by omega)
        have gk : fr h3 44 (kx (10 + k')) = fr h 44 (kx (10 + k')) := u13.gr kk.1 (by decide) (by simp)
        have gi : fi h3 39 (kx (10 + k')) = fi (sI h 39 (kx (10 + k)) 1) 39 (kx (10 + k')) := u13.gi kk.1 (by decide) (by simp)
        by_cases z : k' = k
        · subst z
          rw [ud_s]
          exact ⟨by rw [gi, fi_sI, if_pos ⟨rfl, rfl⟩]; rfl, by rw [g3]; exact c3, fun w => (by cases w), fun _ => (by rw [g3]; exact L3)⟩
        · obtain ⟨q1, q2, q3, q4⟩ := ly k' hk'
          have nek : kx (10 + k') ≠ kx (10 + k) := fun w => z (by have := S.inj (i := 10 + k') (j := 10 + k) (by omega) (by omega) w; omega)
          have ne : fr h 44 (kx (10 + k')) ≠ fr h 44 (kx (10 + k)) := fun w => z (by have := x.1.2.2.2.2.2.1.2 44 (by simp) (10 + k') (10 + k) (by omega) (by omega) w; omega)
          obtain ⟨o1, o2⟩ := oth2 (fr h 44 (kx (10 + k'))) kk.k44 ne
          obtain ⟨o3, o4⟩ := oth3 (fr h 44 (kx (10 + k'))) (u2.kk kk.k44 (by decide)) (by rw [g2]; exact ne)
          rw [ud_o z, gk]
          refine ⟨by rw [gi, fi_sI, if_neg (fun w => nek w.2)]; exact q1, by rw [o4, o2]; exact q2, fun w => by rw [o3, o1]; exact q3 w, fun w => ?_⟩
          exact LF_cg (q4 w) (fun a i v y => FdX_ef u13 xxY0.1 (by simp) (F1 a i v y)) (o3.trans o1)
      · by_cases z : t = k
        · rw [z, ud_s]
        · rw [ud_o z]; exact ht
  refine up_ind o (fun j g0 k hj hk f c h lay hf x ly u => ?_) (fun j p g0 ih k hj hk f c h lay hf x ly u => ?_)
  · subst hj
    obtain ⟨f, rfl⟩ : ∃ f', f = f' + 1 := ⟨f - 1, by omega⟩
    have S := x.1.1
    have d := S.dd hk
    have k0 := S.kk (i := 10 + k) (by omega)
    have pe := x.1.2.2.2.2.2.2.1 (10 + k) (by omega)
    rw [r_S6_s]
    unfold f_X11_layOut_o
    rw [ldR_e d.1, d.2.1, ldR_e k0.1, pe, g0, if_pos (show kxo kx none = 0 from rfl)]
    exact b38 hk (fun p hp => by rw [g0] at hp; cases hp) x ly u
  · subst hj
    obtain ⟨f, rfl⟩ : ∃ f', f = f' + 1 := ⟨f - 1, by omega⟩
    have S := x.1.1
    have d := S.dd hk
    have k0 := S.kk (i := 10 + k) (by omega)
    have pe := x.1.2.2.2.2.2.2.1 (10 + k) (by omega)
    obtain ⟨pp, rfl⟩ : ∃ t, p = 10 + t := ⟨p - 10, by have := (pa_un g0).2.2.1; omega⟩
    have hpp : pp < ds.length := by have := (pa_un g0).2.1; omega
    have kp := S.kk (i := 10 + pp) (by omega)
    have lp := (ly pp hpp).1
    rw [up_some o g0, List.length_cons] at hf
    rw [r_S6_s]
    unfold f_X11_layOut_o
    rw [ldR_e d.1, d.2.1, ldR_e k0.1, pe, g0, show kxo kx (some (10 + pp)) = kx (10 + pp) from rfl, if_neg (S.k0 (k := 10 + pp) (by omega)).2, ldR_e d.1, d.2.1, ldR_e k0.1, pe, g0, show kxo kx (some (10 + pp)) = kx (10 + pp) from rfl, ldI_e kp.1, lp]
    cases gl : lay pp with
    | true =>
      rw [if_pos rfl, if_neg z10]
      exact b38 hk (fun p hp => by rw [g0] at hp; injection hp with hp; rw [show p = pp by omega]; exact gl) x ly u
    | false =>
      obtain ⟨h1, c1, lay1, e1, u1, cc1, x1, ly1, t1, t2⟩ := ih pp rfl hpp f c h lay (by omega) x ly u
      rw [if_pos (by decide), ldR_e d.1, d.2.1, ldR_e k0.1, pe, g0, show kxo kx (some (10 + pp)) = kx (10 + pp) from rfl, if_pos S.2.1.1, of_e S hpp, bd_ok, if_pos S.2.1.1, e1, bd_ok]
      obtain ⟨h2, c2, lay2, e2, u2, cc2, x2, ly2, s1, s2⟩ := b38 (f := f) hk (fun p hp => by rw [g0] at hp; injection hp with hp; rw [show p = pp by omega]; exact t1) x1 ly1 u1
      exact ⟨h2, c2, lay2, e2, u2, by omega, x2, ly2, s1, fun t w => s2 t (t2 t w)⟩
theorem l220_e (o : ok3 ds) (f40 : ∀ j, (fds ds j).length ≤ 40) (hg : oK ds g) (x : XM e h C DL kl kx ax ds AR D g) (ly : LyX h kx ds AR (fun _ => false)) (u0 : Ef FY KY c h0 h) :
    ∃ h', f_X11_settle_l220 e.P NN (0 : Int32) h = rok () h' ∧ Ef FY KY (c + sm (cLy ds) ds.length) h0 h' ∧ XM e h' C DL kl kx ax ds AR D g ∧ LyX h' kx ds AR (fun _ => true) := by
  have n60 := o.1.1.1
  have e0 : toLy ds (fun _ => false) = sm (cLy ds) ds.length := by
    unfold toLy
    congr 1
  refine loop_NN (n := ds.length) (F := f_X11_settle_l220 e.P) (i := 0) (h := h) (by omega)
    (fun r h' => ∃ c' lay', Ef FY KY c' h0 h' ∧ c' + toLy ds lay' ≤ c + sm (cLy ds) ds.length ∧ XM e h' C DL kl kx ax ds AR D g ∧ LyX h' kx ds AR lay' ∧ ∀ t, t < r → lay' t = true)
    (fun R => ∃ h', R = rok () h' ∧ Ef FY KY (c + sm (cLy ds) ds.length) h0 h' ∧ XM e h' C DL kl kx ax ds AR D g ∧ LyX h' kx ds AR (fun _ => true)) ?_ ?_ (Nat.zero_le _) ⟨c, _, u0, by rw [e0]; exact Nat.le_refl _, x, ly, fun t ht => by omega⟩
  · rintro N r h1 hr ⟨c1, lay1, u1, cc1, x1, ly1, t1⟩ next
    have S := x1.1.1
    have r1 := up_rk o (10 + r)
    have r2 := rnk_le (ds := ds) (j := 10 + r)
    obtain ⟨h2, c2, lay2, e2, u2, cc2, x2, ly2, s1, s2⟩ := layOut_e o f40 hg (10 + r) r rfl hr 100 c1 h1 lay1 (by omega) x1 ly1 u1
    have e2' : f_X11_layOut 100 e.P (ax r) h1 = rok () h2 := e2
    rw [f_X11_settle_l220_s]
    unfold b_X11_settle_l220
    rw [S.p162, S.dsz, if_neg (sz_no hr (by omega)), S.p162, S.dg hr, S.c13 hr, if_pos S.2.1.1, e2', bd_ok, lt3_n]
    refine next h2 ⟨c2, lay2, u2, by omega, x2, ly2, fun t ht => ?_⟩
    by_cases z : t = r
    · rw [z]; exact s1
    · exact s2 t (t1 t (by omega))
  · rintro N h1 ⟨c1, lay1, u1, cc1, x1, ly1, t1⟩
    have S := x1.1.1
    rw [f_X11_settle_l220_s]
    unfold b_X11_settle_l220
    rw [S.p162, S.dsz, if_pos (sz_le (Nat.le_refl _) (by omega))]
    refine ⟨h1, rfl, u1.le (by omega), x1, fun k hk => ?_⟩
    obtain ⟨q1, q2, q3, q4⟩ := ly1 k hk
    have tk := t1 k hk
    exact ⟨by rw [q1, tk], q2, fun w => (by cases w), fun _ => q4 tk⟩
