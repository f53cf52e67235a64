/-! PHASE B settle 19: the twin: which kind lies below which: whole -/
set_option maxRecDepth 100000
variable {F K : List Nat} {c : Nat} {h h' h0 : HP} {mx : Nat → Nat} {ds : List DC} {W : Nat → Prop} {H tr L Q k v2 p : Nat} {as : List Nat} {rl : List Nat} {G : Nat → Bool} {pa : Nat → Option Nat}
theorem upk_c (o : ok2 ds) {q y : Nat} (hq : q < ds.length) (h : upk ds q y = true) : 10 ≤ y ∧ y < 10 + ds.length := by
  unfold upk at h
  simp only [Bool.or_eq_true, decide_eq_true_eq] at h
  rcases h with z | z
  · exact ⟨so_ge (.inl (par_so z)), par_lt z⟩
  · exact ⟨so_ge (.inr (fcl_so (o.2 q hq) _ z)), fcs_lt _ z⟩
theorem la80 {q : Nat} {v3 : Int32} (o : ok2 ds) (hk : k < ds.length) (hq : q < ds.length) (hq2 : 10 + q = 10 + k ∨ Ab ds (10 + k) (10 + q)) (n2 : kc h0 v2 = 0) (np : kc h0 p = 0) (S0 : SM W h0 H tr mx ds) (R0 : RM h0 mx (10 + ds.length) (paF ds ds.length) (faF ds ds.length)) (u : Ef FL8 [] (c + 2 * rl.length) h0 h) (B : LR h H mx ds.length p v2 rl G) (I : LI ds k rl G) :
    ∃ h' s G', f_X4_lay_l80 H (nI k) v2 v3 (mx (10 + q)) NN (-1) h = rok () h' ∧ Ef FL8 [] (c + 2 * (rl ++ s).length) h0 h' ∧ LR h' H mx ds.length p v2 (rl ++ s) G' ∧ LI ds k (rl ++ s) G' ∧ (∀ i, G i = true → G' i = true) ∧ oth ds.length k G G' ∧ dl ds k (10 + q) G' := by
  have n60 := S0.2.2.1.1
  have nF : nfc ds q ≤ 401 := (S0.2.2.1.2 q hq).2.2.1.1
  have abs : ∀ y, upk ds q y = true → Ab ds (10 + k) y := fun y hy => by
    have un : Un ds (10 + q) y := ⟨q, hq, rfl, hy⟩
    rcases hq2 with z | z
    · rw [z] at un; exact .single un
    · exact .tail z un
  -- one step at the parent
  obtain ⟨M, hM, hM2⟩ : ∃ M, NN = M + 1 ∧ 100001 ≤ M := by
    have := NN_ge (k := 100002) (by omega)
    exact ⟨NN - 1, by omega, by omega⟩
  have S1 := SM_ef u sx8 S0
  have R1 := RM_ef S0 u (by decide) (by decide) (by decide) R0
  obtain ⟨r1, r2, r3⟩ := R1 (10 + q) (by omega)
  rw [faF_hi hq] at r2
  rw [paF_hi hq] at r1
  have kq := S1.kk (k := 10 + q) (by omega)
  have kL : lsK h (fr h 376 (mx (10 + q))) := ⟨by rw [kq.l376]; decide, by rw [kq.l376]; decide, r3⟩
  have len : (ls h (fr h 376 (mx (10 + q)))).length = nfc ds q := by rw [r2, List.length_map]; exact fcs_len q _
  have no1 : ¬ nI (nfc ds q) ≤ (-1 : Int32) := fun z => absurd (Int32.lt_of_le_of_lt z (by decide : (-1 : Int32) < 0)) (nI_pos (by omega))
  rw [hM, f_X4_lay_l80_s]
  unfold b_X4_lay_l80
  rw [ldR_e kq.1, lsSize_e kL, len, if_neg no1, if_neg (show ¬ (0 : Int32) ≤ -1 by decide), ldR_e kq.1, r1]
  obtain ⟨h1, s1, G1, e1, u1, B1, I1, mo1, ot1, d1⟩ := la119 (v3 := v3) (v4 := mx (10 + q)) (ih := f_X4_lay_l80 H (nI k) v2 v3 (mx (10 + q)) M) (a5 := -1) (o := par ds q) hk (fun y hy => by
    have x : upk ds q y = true := by unfold upk; rw [hy]; simp
    exact ⟨abs y x, upk_c o hq x⟩) n2 np S0 u B I
  rw [e1, show (-1 : Int32) + 1 = nI 0 by decide]
  refine loop_gen (n := nfc ds q) (F := f_X4_lay_l80 H (nI k) v2 v3 (mx (10 + q)))
    (fun j h' => ∃ s G', Ef FL8 [] (c + 2 * (rl ++ s).length) h0 h' ∧ LR h' H mx ds.length p v2 (rl ++ s) G' ∧ LI ds k (rl ++ s) G' ∧ (∀ i, G i = true → G' i = true) ∧ oth ds.length k G G' ∧ (∀ y, par ds q = some y → Bk ds.length k G' y = true) ∧ ∀ y ∈ fcs ds q j, Bk ds.length k G' y = true)
    (fun r => ∃ h' s G', r = rok () h' ∧ Ef FL8 [] (c + 2 * (rl ++ s).length) h0 h' ∧ LR h' H mx ds.length p v2 (rl ++ s) G' ∧ LI ds k (rl ++ s) G' ∧ (∀ i, G i = true → G' i = true) ∧ oth ds.length k G G' ∧ dl ds k (10 + q) G') ?_ ?_ 100001 0 h1 M (by omega) hM2 (Nat.zero_le _) ⟨s1, G1, u1, B1, I1, mo1, ot1, d1, fun y hy => by simp [fcs] at hy⟩
  · rintro N j h2 hj ⟨s, G2, u2, B2, I2, mo, ot, dp, hd⟩ next
    rw [f_X4_lay_l80_s]
    unfold b_X4_lay_l80
    have S2 := SM_ef u2 sx8 S0
    have R2 := RM_ef S0 u2 (by decide) (by decide) (by decide) R0
    obtain ⟨q1, q2, q3⟩ := R2 (10 + q) (by omega)
    rw [faF_hi hq] at q2
    have kq := S2.kk (k := 10 + q) (by omega)
    have kL : lsK h2 (fr h2 376 (mx (10 + q))) := ⟨by rw [kq.l376]; decide, by rw [kq.l376]; decide, q3⟩
    have len : (ls h2 (fr h2 376 (mx (10 + q)))).length = nfc ds q := by rw [q2, List.length_map]; exact fcs_len q _
    have hm : (fcl ds q).getD j 0 = fcn ds q j := by
      show ((List.range (nfc ds q)).map (fcn ds q)).getD j 0 = _
      exact gr_map0 hj
    have hin : fcn ds q j ∈ fcl ds q := by
      show fcn ds q j ∈ (List.range (nfc ds q)).map (fcn ds q)
      exact List.mem_map.mpr ⟨j, List.mem_range.mpr hj, rfl⟩
    have hu : upk ds q (fcn ds q j) = true := by unfold upk; rw [decide_eq_true hin, Bool.or_true]
    have hp := (upk_c o hq hu).2
    have kp := S2.kk hp
    have z0 : (0 : Int32) ≤ nI j := (nI_leI (a := 0) (b := j) (by omega) (by omega)).mpr (Nat.zero_le _)
    rw [ldR_e kq.1, lsSize_e kL, len, if_neg (sz_no hj (by omega)), if_pos z0, ldR_e kq.1, lg_e kL (by omega) (by omega), q2, gE_map 0 (by show j < (fcs ds q _).length; rw [fcs_len]; exact hj), hm, cast_e kp.1 (by simp)]
    obtain ⟨h3, s3, G3, e3, u3, B3, I3, mo3, ot3, d3⟩ := la119 (v3 := v3) (v4 := mx (10 + q)) (ih := f_X4_lay_l80 H (nI k) v2 v3 (mx (10 + q)) N) (a5 := nI j) (o := some (fcn ds q j)) hk (fun y hy => by cases hy; exact ⟨abs _ hu, upk_c o hq hu⟩) n2 np S0 u2 B2 I2
    have e3' : f_X4_lay_l80b119 H (nI k) v2 v3 (mx (10 + q)) (f_X4_lay_l80 H (nI k) v2 v3 (mx (10 + q)) N) (nI j) (mx (fcn ds q j)) h2 = f_X4_lay_l80 H (nI k) v2 v3 (mx (10 + q)) N (nI j + 1) h3 := e3
    rw [e3', show nI j + 1 = nI (j + 1) from nI_add j 1]
    rw [List.append_assoc] at u3 B3 I3
    refine next h3 ⟨s ++ s3, G3, u3, B3, I3, fun i hi => mo3 i (mo i hi), fun a b h1 h2 h3 => (ot3 a b h1 h2 h3).trans (ot a b h1 h2 h3), fun y hy => Bk_mo mo3 (dp y hy), fun y hy => ?_⟩
    rw [fcs_s] at hy
    rcases List.mem_append.mp hy with w | w
    · exact Bk_mo mo3 (hd y w)
    · rw [List.mem_singleton.mp w]; exact d3 _ rfl
  · rintro N h2 ⟨s, G2, u2, B2, I2, mo, ot, dp, hd⟩
    rw [f_X4_lay_l80_s]
    unfold b_X4_lay_l80
    have S2 := SM_ef u2 sx8 S0
    have R2 := RM_ef S0 u2 (by decide) (by decide) (by decide) R0
    obtain ⟨q1, q2, q3⟩ := R2 (10 + q) (by omega)
    rw [faF_hi hq] at q2
    have kq := S2.kk (k := 10 + q) (by omega)
    have kL : lsK h2 (fr h2 376 (mx (10 + q))) := ⟨by rw [kq.l376]; decide, by rw [kq.l376]; decide, q3⟩
    have len : (ls h2 (fr h2 376 (mx (10 + q)))).length = nfc ds q := by rw [q2, List.length_map]; exact fcs_len q _
    rw [ldR_e kq.1, lsSize_e kL, len, if_pos (sz_le (Nat.le_refl _) (by omega))]
    refine ⟨h2, s, G2, rfl, u2, B2, I2, mo, ot, fun y hy => ?_⟩
    rw [show 10 + q - 10 = q by omega] at hy
    unfold upk at hy
    simp only [Bool.or_eq_true, decide_eq_true_eq] at hy
    rcases hy with z | z
    · exact dp y z
    · exact hd y z
theorem la_all (o : ok2 ds) (hk : k < ds.length) (I : LI ds k rl G) (hd : ∀ t, t < rl.length → dl ds k (rl.getD t 0) G) : ∀ {y : Nat}, Ab ds (10 + k) y → y ∈ rl := by
  have step : ∀ {x y : Nat}, x ∈ rl → Un ds x y → y ∈ rl := fun {x y} hx hu => by
    obtain ⟨t, ht, e⟩ := List.mem_iff_getElem.mp hx
    have d := hd t ht
    rw [gE_in ht, e] at d
    obtain ⟨q, hq, rfl, hu⟩ := hu
    have b := upk_c o hq hu
    exact I.2.2.2.2 y b.1 b.2 (d y (by rw [show 10 + q - 10 = q by omega]; exact hu))
  intro y hy
  induction hy with
  | single hu => exact step (by rw [← I.1.2, gE_in I.1.1]; exact List.getElem_mem _) hu
  | tail _ hu ih => exact step ih hu
/-- the row at last -/
def Lw (ds : List DC) (k t : Nat) : Bool := decide (k = t) || Wn ds k (10 + t)
theorem la59 (o : ok2 ds) (hk : k < ds.length) (n2 : kc h0 v2 = 0) (np : kc h0 p = 0) (S0 : SM W h0 H tr mx ds) (R0 : RM h0 mx (10 + ds.length) (paF ds ds.length) (faF ds ds.length)) (u : Ef FL8 [] (c + 2 * rl.length) h0 h) (B : LR h H mx ds.length p v2 rl G) (I : LI ds k rl G) :
    ∃ h' G', f_X4_lay_l59 H (nI k) v2 NN (nI 0) h = rok () h' ∧ Ef FL8 [] (c + 2 * ds.length) h0 h' ∧ (fr h' 58 H = p ∧ Rw h' 1322 p (ds.length * ds.length) G') ∧ oth ds.length k G G' ∧ ∀ t, t < ds.length → G' (k * ds.length + t) = Lw ds k t := by
  have n60 := S0.2.2.1.1
  have fin : ∀ {h1 : HP} {rl : List Nat} {G1 : Nat → Bool}, Ef FL8 [] (c + 2 * rl.length) h0 h1 → LR h1 H mx ds.length p v2 rl G1 → LI ds k rl G1 → oth ds.length k G G1 → (∀ t, t < rl.length → dl ds k (rl.getD t 0) G1) →
      ∃ h' G', (rok () h1 : Rs Unit) = rok () h' ∧ Ef FL8 [] (c + 2 * ds.length) h0 h' ∧ (fr h' 58 H = p ∧ Rw h' 1322 p (ds.length * ds.length) G') ∧ oth ds.length k G G' ∧ ∀ t, t < ds.length → G' (k * ds.length + t) = Lw ds k t := fun {h1 rl G1} u1 B1 I1 ot hd => by
    have bl := LI_len I1
    refine ⟨h1, G1, rfl, u1.le (by omega), ⟨B1.1, B1.2.1⟩, ot, fun t ht => ?_⟩
    have bk : Bk ds.length k G1 (10 + t) = G1 (k * ds.length + t) := by unfold Bk; rw [show 10 + t - 10 = t by omega]
    rw [← bk]
    have iff : Bk ds.length k G1 (10 + t) = true ↔ Lw ds k t = true := by
      unfold Lw
      rw [Bool.or_eq_true, decide_eq_true_eq]
      constructor
      · intro z
        rcases (I1.2.1 _ (I1.2.2.2.2 _ (by omega) (by omega) z)).1 with y | y
        · exact .inl (by omega)
        · exact .inr ((Wn_ab hk).mpr y)
      · rintro (z | z)
        · subst z
          exact I1.2.2.1 _ (by rw [← I1.1.2, gE_in I1.1.1]; exact List.getElem_mem _)
        · exact I1.2.2.1 _ (la_all o hk I1 hd ((Wn_ab hk).mp z))
    cases g : Lw ds k t
    · cases g2 : Bk ds.length k G1 (10 + t)
      · rfl
      · rw [iff.mp g2] at g; cases g
    · exact iff.mpr g
  refine loop_NN (n := ds.length) (F := f_X4_lay_l59 H (nI k) v2) (by omega)
    (fun i h' => ∃ rl G1, Ef FL8 [] (c + 2 * rl.length) h0 h' ∧ LR h' H mx ds.length p v2 rl G1 ∧ LI ds k rl G1 ∧ oth ds.length k G G1 ∧ i ≤ rl.length ∧ ∀ t, t < i → dl ds k (rl.getD t 0) G1)
    (fun r => ∃ h' G', r = rok () h' ∧ Ef FL8 [] (c + 2 * ds.length) h0 h' ∧ (fr h' 58 H = p ∧ Rw h' 1322 p (ds.length * ds.length) G') ∧ oth ds.length k G G' ∧ ∀ t, t < ds.length → G' (k * ds.length + t) = Lw ds k t) ?_ ?_ (Nat.zero_le _) ⟨rl, G, u, B, I, fun _ _ _ _ _ => rfl, Nat.zero_le _, fun t ht => by omega⟩
  · rintro N i h1 hi ⟨rl, G1, u1, B1, I1, ot, hil, hd⟩ next
    rw [f_X4_lay_l59_s]
    unfold b_X4_lay_l59
    have bl := LI_len I1
    have kl : lsK h1 v2 := ⟨by rw [B1.2.2.1]; decide, by rw [B1.2.2.1]; decide, B1.2.2.2.1⟩
    have ln : (ls h1 v2).length = rl.length := by rw [B1.2.2.2.2, List.length_map]
    rw [lsSize_e kl, ln]
    by_cases z : rl.length ≤ i
    · rw [if_pos (sz_le z (by omega))]
      exact fin u1 B1 I1 ot (fun t ht => hd t (by omega))
    have hx : rl.getD i 0 ∈ rl := by rw [gE_in (by omega)]; exact List.getElem_mem _
    obtain ⟨x1, x2, x3⟩ := I1.2.1 _ hx
    obtain ⟨q, hq⟩ : ∃ q, rl.getD i 0 = 10 + q := ⟨rl.getD i 0 - 10, by omega⟩
    rw [hq] at x1 x3
    have S1 := SM_ef u1 sx8 S0
    have kq := S1.kk (k := 10 + q) (by omega)
    rw [if_neg (sz_no (by omega) (by omega)), lg_e kl (by omega) (by omega), B1.2.2.2.2, gE_map 0 (by omega), hq, cast_e kq.1 (by simp)]
    obtain ⟨h2, s, G2, e2, u2, B2, I2, mo, ot2, d2⟩ := la80 (v3 := nI i) o hk (by omega) x1 n2 np S0 R0 u1 B1 I1
    rw [e2, bd_ok, lt3_n]
    refine next h2 ⟨rl ++ s, G2, u2, B2, I2, fun a b h1 h2 h3 => (ot2 a b h1 h2 h3).trans (ot a b h1 h2 h3), by rw [List.length_append]; omega, fun t ht y hy => ?_⟩
    by_cases w : t = i
    · rw [w, gA_l (by omega), hq] at hy
      exact d2 y hy
    · rw [gA_l (by omega)] at hy
      exact Bk_mo mo (hd t (by omega) y hy)
  · rintro N h1 ⟨rl, G1, u1, B1, I1, ot, hil, hd⟩
    rw [f_X4_lay_l59_s]
    unfold b_X4_lay_l59
    have bl := LI_len I1
    have kl : lsK h1 v2 := ⟨by rw [B1.2.2.1]; decide, by rw [B1.2.2.1]; decide, B1.2.2.2.1⟩
    have ln : (ls h1 v2).length = rl.length := by rw [B1.2.2.2.2, List.length_map]
    rw [lsSize_e kl, ln, if_pos (sz_le bl (by omega))]
    exact fin u1 B1 I1 ot (fun t ht => hd t (by omega))
/-- what lies below what, in the twin -/
def LB (h : HP) (H n : Nat) (ds : List DC) : Prop := ∃ G, Rw h 1322 (fr h 58 H) (n * n) G ∧ ∀ k t, k < n → t < n → G (k * n + t) = Lw ds k t
theorem lay_e (o : ok2 ds) (S : SM W h H tr mx ds) (T : TbM h H L mx ds.length []) (R : RM h mx (10 + ds.length) (paF ds ds.length) (faF ds ds.length)) :
    ∃ h', f_X4_lay H h = rok () h' ∧ Ef FL8 [] (38 + (2 * ds.length + 3) * ds.length) h h' ∧ LB h' H ds.length ds := by
  have n60 := S.2.2.1.1
  have nn : ds.length * ds.length ≤ 3600 := Nat.mul_le_mul n60 n60
  have w := S.1
  have z0 := w.2.1 (nx h) (Nat.le_refl _)
  unfold f_X4_lay
  rw [S.n54, S.n54, nI_mulN, nwA_e (by omega)]
  have u1 : Ef FL8 [] (0 + 38) h (nA h 1322 (ds.length * ds.length)) := (Ef.refl w FL8 []).nA (k := 1322) (n := ds.length * ds.length) (b := 38) (by omega) (by omega)
  have R1 : Rw (nA h 1322 (ds.length * ds.length)) 1322 (nx h) (ds.length * ds.length) (fun _ => false) := ⟨kc_nA_n, by rw [xl_nA, if_pos rfl], fun j _ => z0.2.2.2.2.1 j⟩
  have kH : kc (nA h 1322 (ds.length * ds.length)) H = 5 := u1.kk S.2.1.1 (by decide)
  have u2 := u1.sR (f := 58) (v := nx h) kH (by decide) (.inr (by simp))
  rw [stR_e kH]
  have f58 : fr (sR (nA h 1322 (ds.length * ds.length)) 58 H (nx h)) 58 H = nx h := by rw [fr_sR, if_pos ⟨rfl, rfl⟩]
  have R2 : Rw (sR (nA h 1322 (ds.length * ds.length)) 58 H (nx h)) 1322 (nx h) (ds.length * ds.length) (fun _ => false) := R1
  generalize sR (nA h 1322 (ds.length * ds.length)) 58 H (nx h) = h2 at *
  have main := loop_NN (n := ds.length) (F := f_X4_lay_l17 H) (by omega)
    (fun i h' => ∃ G, Ef FL8 [] (38 + (2 * ds.length + 3) * i) h h' ∧ (fr h' 58 H = nx h ∧ Rw h' 1322 (nx h) (ds.length * ds.length) G) ∧ (∀ k t, k < i → t < ds.length → G (k * ds.length + t) = Lw ds k t) ∧ ∀ k t, i ≤ k → k < ds.length → t < ds.length → G (k * ds.length + t) = false)
    (fun r => ∃ h', r = rok () h' ∧ Ef FL8 [] (38 + (2 * ds.length + 3) * ds.length) h h' ∧ LB h' H ds.length ds) (fun N i h1 hi I next => by
      obtain ⟨G, u1, ⟨g1, g2⟩, g3, g4⟩ := I
      rw [f_X4_lay_l17_s]
      unfold b_X4_lay_l17
      have S1 := SM_ef u1 sx8 S
      have T1 := TbM_ef u1 sx8 (by decide) T
      rw [S1.n54, if_neg (sz_no hi (by omega))]
      obtain ⟨h3, e3, u30, kl, l3, c3, z3⟩ := newl (n := 162) S1.1 (by decide) [] []
      have u3 : Ef FL8 [] 1 h1 h3 := u30.wk (fun _ z => by simp at z) (fun _ z => z) (Nat.le_refl _)
      have u13 := u1.trans u3
      have S3 := SM_ef u3 sx8 S1
      have T3 := TbM_ef u3 sx8 (by decide) T1
      have k3 := S3.kk (k := 10 + i) (by omega)
      have nz : kc h (nx h1) = 0 := u1.zero (Nat.le_refl _)
      have ne : nx h1 ≠ nx h := fun z => by rw [z, g2.1] at z3; exact absurd z3 (by decide)
      rw [e3, tm_e S3 T3 hi]
      have R3 := Rw_ef u3 g2 (by decide) (by simp)
      have f3 : fr h3 58 H = nx h := (u30.gr S1.2.1.1 (by decide) (by simp)).trans g1
      generalize nx h1 = v2 at *
      have KL : lsK h3 v2 := ⟨by rw [kl]; decide, by rw [kl]; decide, by rw [c3]; decide⟩
      have u4 := Ef_ladb (v := mx (10 + i)) (b := 1) u13 kl (by decide) (.inl nz) (by omega) (by rw [l3]; simp)
      rw [lsAdd_e KL (.inr (.inr (.inr (by rw [k3.1]; decide)))) (by rw [l3]; simp)]
      have S4 := SM_ef u4 sx8 S
      have f4 : fr (lad h3 v2 (mx (10 + i))) 58 H = nx h := f3
      have R4 : Rw (lad h3 v2 (mx (10 + i))) 1322 (nx h) (ds.length * ds.length) G := R3
      have kl4 : kc (lad h3 v2 (mx (10 + i))) v2 = 162 := kl
      have cp4 : cp (lad h3 v2 (mx (10 + i))) v2 ≠ RAW := (lad_K KL (by rw [l3]; simp)).2.2
      have ls4 : ls (lad h3 v2 (mx (10 + i))) v2 = [10 + i].map mx := by rw [lad_ls, l3]; rfl
      generalize lad h3 v2 (mx (10 + i)) = h4 at *
      have il := ix_lt hi hi
      rw [ldR_e S4.2.1.1, f4, S4.n54, nI_mulN, nI_add, Rw_sv R4 (by decide) il (by omega), zB1]
      have u5 := u4.sXi (j := i * ds.length + i) (v := zB true) R4.1 (by decide) (.inl z0.1)
      have B5 : LR (sXi h4 (nx h) (i * ds.length + i) (zB true)) H mx ds.length (nx h) v2 [10 + i] (ud G (i * ds.length + i) true) := ⟨f4, Rw_st R4, kl4, cp4, ls4⟩
      have I5 : LI ds i [10 + i] (ud G (i * ds.length + i) true) := ⟨⟨by simp, rfl⟩, fun x hx => by rw [List.mem_singleton.mp hx]; exact ⟨.inl rfl, by omega, by omega⟩, fun x hx => by
        rw [List.mem_singleton.mp hx]
        unfold Bk
        rw [show 10 + i - 10 = i by omega, ud_s], fun a b h1 h2 _ => by simp at h1 h2; omega, fun x hx hx2 hb => by
        obtain ⟨t, rfl⟩ : ∃ t, x = 10 + t := ⟨x - 10, by omega⟩
        unfold Bk at hb
        rw [show 10 + t - 10 = t by omega] at hb
        by_cases q : t = i
        · rw [q]; simp
        · rw [ud_o (fun e => q (ix_inj (by omega) hi e).2), g4 i t (Nat.le_refl _) hi (by omega)] at hb
          cases hb⟩
      obtain ⟨h6, G6, e6, u6, ⟨p1, p2⟩, ot, hr⟩ := la59 (c := 38 + (2 * ds.length + 3) * i) o hi nz z0.1 S R (u5.le (by simp)) B5 I5
      rw [show (0 : Int32) = nI 0 from rfl, e6, bd_ok, lt3_n]
      refine next h6 ⟨G6, u6.le (by rw [Nat.mul_succ]; omega), ⟨p1, p2⟩, fun k t hk ht => ?_, fun k t hk hk2 ht => ?_⟩
      · by_cases q : k = i
        · rw [q]; exact hr t ht
        · rw [ot k t (by omega) ht q, ud_o (fun e => q (ix_inj ht hi e).1)]
          exact g3 k t (by omega) ht
      · rw [ot k t hk2 ht (by omega), ud_o (fun e => by have := (ix_inj ht hi e).1; omega)]
        exact g4 k t (by omega) hk2 ht) (fun N h1 I => by
      obtain ⟨G, u1, ⟨g1, g2⟩, g3, g4⟩ := I
      rw [f_X4_lay_l17_s]
      unfold b_X4_lay_l17
      have S1 := SM_ef u1 sx8 S
      rw [S1.n54, if_pos (sz_le (Nat.le_refl _) (by omega))]
      exact ⟨h1, rfl, u1, G, by rw [g1]; exact g2, g3⟩) (i := 0) (h := h2) (Nat.zero_le _) ⟨fun _ => false, u2.le (by omega), ⟨f58, R2⟩, fun k t hk => by omega, fun _ _ _ _ _ => rfl⟩
  obtain ⟨h', e', r⟩ := main
  exact ⟨h', by rw [show (0 : Int32) = nI 0 from rfl, e', bd_ok], r⟩
