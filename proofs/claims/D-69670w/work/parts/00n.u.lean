/-! PHASE B settle 40: the twin: all members -/
set_option maxRecDepth 100000
variable {F K : List Nat} {c : Nat} {h h' h0 : HP} {mx : Nat → Nat} {ds : List DC} {W : Nat → Prop} {H tr L q a j k i p s b r kp : Nat} {AR : AT} {T : Ty} {nm : List Nat} {d : DC} {vs ps : List Vr} {t : Mt} {v : Vr} {m : Mb}
/-- the first r methods of a kind know their types' kinds -/
def CkK (h : HP) (mx : Nat → Nat) (ds : List DC) (AR : AT) (k r : Nat) : Prop := ∀ j, j < r → MeC h ds AR (mM h mx k j) ((metL (mem (dc ds k))).getD j (vr0, mt0))
theorem mM_ef (S : SM W h H tr mx ds) (u : Ef F K c h h') (s : Sx F K) (hk : k < ds.length) : mM h' mx k j = mM h mx k j := by
  unfold mM
  have k0 := S.kk (k := 10 + k) (by omega)
  rw [u.gr k0.1 (by decide) (s.1 372 (by decide)), u.gl (S.k137 hk).1 (by decide) (s.2 137 (by decide))]
theorem CkK_cz (S : SM W h H tr mx ds) (u : Ef F K c h h') (s : Sx F K) (z : Cz W h h') (hk : k < ds.length) (hr : r ≤ (metL (mem (dc ds k))).length) (x : CkK h mx ds AR k r) : CkK h' mx ds AR k r := fun j hj => by
  rw [mM_ef S u s hk]
  exact MeC_cz u s z (S.me hk (by omega)) (x j hj)
theorem mem122_e (o : ok3 ds) (x : MK W h H tr L mx ds AR) (I : TyI W h ds AR) (of : okFs ds) (hk : k < ds.length) (u0 : Ef FT [] c h0 h) (z0 : kc h0 p = 0) (kp1 : kc h p = kp) (hkp : kp = 159 ∨ kp = 164) (cq : cp h p ≠ RAW) (A : A2 (VaN W h) (ls h p) (fdp ds (10 + k))) (fl : ∀ j, (fds ds j).length ≤ 140) :
    OM tr FT [] (c + 20 * nmb ds k) h0 (frs (mbb ds AR k) (nmb ds k)) (fun h' => MK W h' H tr L mx ds AR ∧ TyI W h' ds AR ∧ Cz W h h' ∧ CkK h' mx ds AR k (metL (mem (dc ds k))).length) (f_X4_members_l122 H (mx (10 + k)) p NN (0 : Int32) (0 : Int32) (0 : Int32) h) := by
  have n401 : nmb ds k ≤ 401 := (x.1.2.2.1.2 k hk).2.2.1.2.1
  have okp : okc kp = true := by rcases hkp with z | z <;> rw [z] <;> decide
  have kpn : kp ≠ 0 ∧ 100 ≤ kp ∧ kp < 200 := by omega
  have sw : Sx [] [kp] := by rcases hkp with z | z <;> rw [z] <;> (constructor <;> decide)
  have xw : Xm [] [kp] := by rcases hkp with z | z <;> rw [z] <;> exact ⟨by constructor <;> decide, by decide, by decide⟩
  have fpl : (fdp ds (10 + k)).length ≤ 140 := by
    have := fl (10 + k)
    unfold fds at this
    rw [List.length_append] at this
    omega
  exact loop_SN (σ := Int32 × Int32 × Int32 × HP) (n := nmb ds k) (G := fun N s => f_X4_members_l122 H (mx (10 + k)) p N s.1 s.2.1 s.2.2.1 s.2.2.2) (by omega)
    (fun i s => s.1 = nI (ownL ((mem (dc ds k)).take i)).length ∧ s.2.1 = nI (metL ((mem (dc ds k)).take i)).length ∧ s.2.2.1 = nI i ∧ Ef FT [] (c + 20 * i) h0 s.2.2.2 ∧ MK W s.2.2.2 H tr L mx ds AR ∧ TyI W s.2.2.2 ds AR ∧ (kc s.2.2.2 p = kp ∧ cp s.2.2.2 p ≠ RAW ∧ A2 (VaN W s.2.2.2) (ls s.2.2.2 p) (fdp ds (10 + k) ++ ownL ((mem (dc ds k)).take i))) ∧ frs (mbb ds AR k) i = none ∧ Cz W h s.2.2.2 ∧ CkK s.2.2.2 mx ds AR k (metL ((mem (dc ds k)).take i)).length)
    (fun R => OM tr FT [] (c + 20 * nmb ds k) h0 (frs (mbb ds AR k) (nmb ds k)) (fun h' => MK W h' H tr L mx ds AR ∧ TyI W h' ds AR ∧ Cz W h h' ∧ CkK h' mx ds AR k (metL (mem (dc ds k))).length) R)
    (fun N i s hi J next => by
      obtain ⟨s1, s2, s3, h1⟩ := s
      obtain ⟨e1, e2, e3, u1, X1, I1, ⟨kp2, c1, A1⟩, hn, cz1, ck1⟩ := J
      have e1 : s1 = nI (ownL ((mem (dc ds k)).take i)).length := e1
      have e2 : s2 = nI (metL ((mem (dc ds k)).take i)).length := e2
      have e3 : s3 = nI i := e3
      subst e1 e2 e3
      have u1 : Ef FT [] (c + 20 * i) h0 h1 := u1
      have X1 : MK W h1 H tr L mx ds AR := X1
      have I1 : TyI W h1 ds AR := I1
      have kp2 : kc h1 p = kp := kp2
      have c1 : cp h1 p ≠ RAW := c1
      have A1 : A2 (VaN W h1) (ls h1 p) (fdp ds (10 + k) ++ ownL ((mem (dc ds k)).take i)) := A1
      have hn : frs (mbb ds AR k) i = none := hn
      have cz1 : Cz W h h1 := cz1
      have ck1 : CkK h1 mx ds AR k (metL ((mem (dc ds k)).take i)).length := ck1
      have mle : (metL ((mem (dc ds k)).take i)).length ≤ (metL (mem (dc ds k))).length := by
        have := congrArg List.length (metL_pre (ms := mem (dc ds k)) (i := i))
        rw [List.length_take] at this; omega
      dsimp only
      have S := X1.1
      have hi' : i < (mem (dc ds k)).length := hi
      have m401 : (mem (dc ds k)).length ≤ 401 := n401
      have k0 := S.kk (k := 10 + k) (by omega)
      have Lf := k0.l374
      rw [dM_hi] at Lf
      have lnf : (ls h1 (fr h1 374 (mx (10 + k)))).length = nmb ds k := by
        have := Lf.len
        unfold DC.flg at this
        rwa [List.length_map] at this
      have iv : IvX h1 ((ls h1 (fr h1 374 (mx (10 + k)))).getD i 0) (if ((mem (dc ds k)).getD i mb0).2.isSome then 1 else 0) := by
        have := Lf.2.2.getD (i := i) (d := 0) (e := 0) (by unfold DC.flg; rw [List.length_map]; exact hi)
        unfold DC.flg at this
        rwa [gE_map mb0 hi'] at this
      obtain ⟨of1, of2, of3⟩ := of k hk
      obtain ⟨d8, dp, dt⟩ := of3 _ (gDm mb0 hi')
      have ok1 := okMb_k S.2.2.1 hk hi'
      have own := ownL_s hi'
      have met := metL_s hi'
      have lnA := A1.len
      rw [List.length_append] at lnA
      have ol := Nat.le_trans (ownL_le (ms := (mem (dc ds k)).take i)) (show ((mem (dc ds k)).take i).length ≤ 401 by rw [List.length_take]; omega)
      have KLf := Lf.k (by decide) (by decide)
      rw [f_X4_members_l122_s]
      unfold b_X4_members_l122
      rw [ldR_e k0.1, lsSize_e KLf, lnf, if_neg (sz_no hi (by omega)), ldR_e k0.1, lg_e KLf (by omega) (by omega), cast_e iv.1 (by simp), ivGet_e iv]
      cases gm : ((mem (dc ds k)).getD i mb0).2 with
      | none =>
        rw [gm, if_neg (by decide)] at own
        rw [gm] at met
        obtain ⟨oa1, oa2⟩ := ownL_at hi' gm
        have Lo := S.k138 hk
        have lno := Lo.len
        have va : VaN W h1 ((ls h1 (fr h1 371 (mx (10 + k)))).getD (ownL ((mem (dc ds k)).take i)).length 0) ((ownL (mem (dc ds k))).getD (ownL ((mem (dc ds k)).take i)).length vr0) := Lo.2.2.getD oa1
        rw [oa2] at va
        have KLo := Lo.k (by decide) (by decide)
        have le3 := ownL_le (ms := mem (dc ds k))
        have E := known_e va.2.1 d8 X1 I1 (Ef.refl S.1 FT [])
        have nw := ok1.1 gm
        have mv : mbb ds AR k i = if res ds AR ((mem (dc ds k)).getD i mb0).1.1 = none then some ((mem (dc ds k)).getD i mb0).1.1.2.1 else if kno ds ((mem (dc ds k)).getD i mb0).1.2.1 ≠ none ∨ ((mem (dc ds k)).getD i mb0).1.2.1 ∈ nms (fdp ds (10 + k)) ∨ ((mem (dc ds k)).getD i mb0).1.2.1 ∈ nms (ownL ((mem (dc ds k)).take i)) ∨ 40 ≤ (fdp ds (10 + k)).length + (ownL ((mem (dc ds k)).take i)).length then some ((mem (dc ds k)).getD i mb0).1.2.2 else none := by
          unfold mbb
          rw [gm]
        generalize hv : (ls h1 (fr h1 371 (mx (10 + k)))).getD (ownL ((mem (dc ds k)).take i)).length 0 = vp at *
        generalize hvv : ((mem (dc ds k)).getD i mb0).1 = v at *
        rw [if_pos (by decide), ldR_e k0.1, lg_e KLo (by omega) (by omega), hv, cast_e va.1 (by simp), lt3_n, ldR_e va.1, if_pos S.2.1.1]
        by_cases z1 : res ds AR v.1 = none
        · rw [if_pos z1] at E mv
          obtain ⟨h2, e2, u2, w2⟩ := E
          rw [frs_at hn mv hi, e2, bd_ex]
          exact ⟨h2, rfl, (u1.trans u2).le (by omega), w2⟩
        rw [if_neg z1] at E mv
        obtain ⟨h2, e2, _, u2, X2, I2, cz2, _⟩ := E
        have va2 := VaN_ef u2 sx383n va
        have to2 := va2.2.2
        have kp3 : kc h2 p = kp := u2.kk kp2 kpn.1
        have A2' : A2 (VaN W h2) (ls h2 p) (fdp ds (10 + k) ++ ownL ((mem (dc ds k)).take i)) := by
          rw [u2.gl kp2 kpn.1 (by simp)]; exact A1.imp fun _ _ _ z => VaN_ef u2 sx383n z
        have c2 : cp h2 p ≠ RAW := by rw [u2.gc kp2 kpn.1 (by simp)]; exact c1
        have uT : Ef FT [] 0 h1 h2 := u2.wk f383T (fun _ z => by simp at z) (Nat.le_refl _)
        have u12 : Ef FT [] (c + 20 * i) h0 h2 := (u1.trans uT).le (by omega)
        have KL : lsK h2 p := ⟨by rw [kp3]; exact kpn.2.1, by rw [kp3]; exact kpn.2.2, c2⟩
        have lnA2 := A2'.len
        rw [List.length_append] at lnA2
        rw [e2, bd_ok, ldR_e va2.1, ldR_e to2.1, if_pos X2.1.2.1.1, isClass_e X2 to2.2.1 nw, bd_ok]
        have wr : ∀ {a3 : Int32}, mbb ds AR k i = some v.2.2 → OM tr FT [] (c + 20 * nmb ds k) h0 (frs (mbb ds AR k) (nmb ds k)) (fun h' => MK W h' H tr L mx ds AR ∧ TyI W h' ds AR ∧ Cz W h h' ∧ CkK h' mx ds AR k (metL (mem (dc ds k))).length) (f_X4_members_l122b221 H (mx (10 + k)) p (f_X4_members_l122 H (mx (10 + k)) p N) a3 (nI (metL ((mem (dc ds k)).take i)).length) (nI i) vp H h2) := fun {a3} hp => by
          obtain ⟨h3, e3, u3, w3⟩ := must_no (p := v.2.2) X2.1 u12 ⟨by simp, by simp⟩
          unfold f_X4_members_l122b221 f_X4_members_l122b222
          rw [ldR_e va2.1, ldI_e to2.1, to2.2.2, if_pos X2.1.2.1.1, e3, frs_at hn hp hi]
          exact ⟨h3, rfl, u3.le (by omega), w3⟩
        by_cases z2 : kno ds v.2.1 = none
        · rw [if_pos z2, if_pos y00, ldR_e va2.1, ldR_e to2.1, isAmong_e kp3 kpn.2 c2 A2' to2.2.1 (by rw [List.length_append]; omega), bd_ok, show nms (fdp ds (10 + k) ++ ownL ((mem (dc ds k)).take i)) = nms (fdp ds (10 + k)) ++ nms (ownL ((mem (dc ds k)).take i)) from List.map_append]
          by_cases z3 : v.2.1 ∈ nms (fdp ds (10 + k)) ++ nms (ownL ((mem (dc ds k)).take i))
          · rw [if_pos z3, if_neg z10]
            exact wr (mv.trans (if_pos (.inr ((List.mem_append.mp z3).imp (fun y => y) Or.inl))))
          · rw [if_neg z3, if_pos y00, lsSize_e KL, lnA2]
            by_cases z4 : 40 ≤ (fdp ds (10 + k)).length + (ownL ((mem (dc ds k)).take i)).length
            · rw [if_pos (show (40 : Int32) ≤ nI _ from sz_le (n := 40) z4 (by omega))]
              exact wr (mv.trans (if_pos (.inr (.inr (.inr z4)))))
            · have pn : mbb ds AR k i = none := mv.trans (if_neg (fun w => by
                rcases w with w | w | w | w
                · exact w z2
                · exact z3 (List.mem_append.mpr (.inl w))
                · exact z3 (List.mem_append.mpr (.inr w))
                · exact z4 w))
              rw [if_neg (show ¬ (40 : Int32) ≤ nI _ from sz_no (n := 40) (Nat.lt_of_not_le z4) (by omega))]
              unfold f_X4_members_l122b222 f_X4_members_l122b265
              rw [ldR_e va2.1, ldI_e to2.1, if_pos X2.1.2.1.1, must_e X2.1 z10, lsAdd_e KL (.inr (.inr (.inr (by rw [va2.1]; decide)))) (by omega), lt3_n]
              have u3 := Ef_ladb (v := vp) (b := 1) u12 kp3 okp (.inl z0) (by omega) (by omega)
              have w3 : Ef [] [kp] (0 + 1) h2 (lad h2 p vp) := Ef_ladb (b := 1) (Ef.refl X2.1.1 _ _) kp3 okp (.inr (by simp)) (by omega) (by omega)
              refine next (nI ((ownL ((mem (dc ds k)).take i)).length + 1), nI (metL ((mem (dc ds k)).take i)).length, nI (i + 1), lad h2 p vp) ⟨?_, ?_, rfl, u3.le (by omega), MK_ef w3 xw X2, TyI_ef w3 sw (by simp) I2, ⟨kp3, (lad_K KL (by omega)).2.2, ?_⟩, (frs_s hn).trans pn, (cz1.trans cz2).trans (Cz_ef w3 (by simp) I2), ?_⟩
              · show nI _ = nI _
                rw [own, List.length_append, List.length_singleton]
              · show nI _ = nI _
                rw [met, List.append_nil]
              · show A2 _ (ls (lad h2 p vp) p) _
                rw [lad_ls, own, ← List.append_assoc]
                exact A2.app (A2'.imp fun _ _ _ z => VaN_ef w3 sw z) (A2.one (VaN_ef w3 sw va2))
              · show CkK (lad h2 p vp) mx ds AR k _
                rw [met, List.append_nil]
                exact CkK_cz X2.1 w3 sw (Cz_ef w3 (by simp) I2) hk mle (CkK_cz S u2 sx383n cz2 hk mle ck1)
        · rw [if_neg z2, if_neg z10]
          exact wr (mv.trans (if_pos (.inl z2)))
      | some t =>
        rw [gm, if_pos (show (some t).isSome = true from rfl), List.append_nil] at own
        rw [gm] at met
        have Lm := S.k137 hk
        obtain ⟨ma1, ma2⟩ := metL_at hi' gm
        have lnm := Lm.len
        have le3 := metL_le (ms := mem (dc ds k))
        have me := S.me hk ma1
        have KLm := Lm.k (by decide) (by decide)
        have E := signature_e X1 I1 of hk hi' gm
        have mv : mbb ds AR k i = thn (if res ds AR ((mem (dc ds k)).getD i mb0).1.1 = none then some ((mem (dc ds k)).getD i mb0).1.1.2.1 else none) (mtb ds AR k i ((mem (dc ds k)).getD i mb0).1 t) := by
          unfold mbb
          rw [gm]
          by_cases z : res ds AR ((mem (dc ds k)).getD i mb0).1.1 = none
          · rw [if_pos z, if_pos z]; rfl
          · rw [if_neg z, if_neg z]; rfl
        rw [← mv] at E
        rw [if_pos (show (some t).isSome = true from rfl), if_neg (show ¬ nI 1 = (0 : Int32) from z10), ldR_e k0.1, lg_e KLm (by omega) (by omega), show (ls h1 (fr h1 372 (mx (10 + k)))).getD (metL ((mem (dc ds k)).take i)).length 0 = mM h1 mx k (metL ((mem (dc ds k)).take i)).length from rfl, cast_e me.1 (by simp), if_pos S.2.1.1]
        cases gb : mbb ds AR k i with
        | some pl =>
          rw [gb] at E
          obtain ⟨h2, e2, u2, w2⟩ := E
          rw [frs_at hn gb hi, e2, bd_ex]
          exact ⟨h2, rfl, (u1.trans u2).le (by omega), w2⟩
        | none =>
          rw [gb] at E
          obtain ⟨h2, e2, u2, X2, I2, cz2, mc2⟩ := E
          unfold f_X4_members_l122b265
          rw [e2, bd_ok, lt3_n, lt3_n]
          refine next (nI (ownL ((mem (dc ds k)).take i)).length, nI ((metL ((mem (dc ds k)).take i)).length + 1), nI (i + 1), h2) ⟨?_, ?_, rfl, (u1.trans u2).le (by omega), X2, I2, ⟨u2.kk kp2 kpn.1, ?_, ?_⟩, (frs_s hn).trans gb, cz1.trans cz2, ?_⟩
          · show nI _ = nI _
            rw [own]
          · show nI _ = nI _
            rw [met, List.length_append]; rfl
          · show cp h2 p ≠ RAW
            rw [u2.gc kp2 kpn.1 (by simp)]; exact c1
          · show A2 _ (ls h2 p) _
            rw [u2.gl kp2 kpn.1 (by simp), own]; exact A1.imp fun _ _ _ z => VaN_ef u2 sxT z
          · show CkK h2 mx ds AR k _
            rw [met, List.length_append]
            intro j hj
            have hj : j < (metL ((mem (dc ds k)).take i)).length + 1 := hj
            by_cases w : j < (metL ((mem (dc ds k)).take i)).length
            · exact CkK_cz S u2 sxT cz2 hk mle ck1 j w
            · have : j = (metL ((mem (dc ds k)).take i)).length := by omega
              subst this
              rw [mM_ef S u2 sxT hk, ma2]
              exact mc2)
    (fun N s J => by
      obtain ⟨s1, s2, s3, h1⟩ := s
      obtain ⟨e1, e2, e3, u1, X1, I1, _, hn, cz1, ck1⟩ := J
      have e3 : s3 = nI (nmb ds k) := e3
      subst e3
      have u1 : Ef FT [] (c + 20 * nmb ds k) h0 h1 := u1
      have X1 : MK W h1 H tr L mx ds AR := X1
      have hn : frs (mbb ds AR k) (nmb ds k) = none := hn
      dsimp only
      have k0 := X1.1.kk (k := 10 + k) (by omega)
      have Lf := k0.l374
      rw [dM_hi] at Lf
      have lnf : (ls h1 (fr h1 374 (mx (10 + k)))).length = nmb ds k := by
        have := Lf.len
        unfold DC.flg at this
        rwa [List.length_map] at this
      rw [f_X4_members_l122_s]
      unfold b_X4_members_l122
      rw [ldR_e k0.1, lsSize_e (Lf.k (by decide) (by decide)), lnf, if_pos (sz_le (Nat.le_refl _) (by omega)), hn]
      refine ⟨h1, rfl, u1, X1, I1, cz1, ?_⟩
      have ck1 : CkK h1 mx ds AR k (metL ((mem (dc ds k)).take (mem (dc ds k)).length)).length := ck1
      rw [List.take_length] at ck1
      exact ck1) (i := 0) (s := ((0 : Int32), (0 : Int32), (0 : Int32), h)) (Nat.zero_le _) ⟨by simp [ownL]; rfl, by simp [metL]; rfl, rfl, u0.le (by omega), x, I, ⟨kp1, cq, by simpa [ownL] using A⟩, rfl, Cz.refl, fun j hj => by simp [metL] at hj⟩
/-- what telling a kind's members costs -/
def cMb (ds : List DC) (k : Nat) : Nat := 3 + (up ds (10 + k)).length + 3 * (fdp ds (10 + k)).length + 20 * nmb ds k
theorem bad4_eq (of : okFs ds) (hk : k < ds.length) : thn (frs (cob ds k) (con (dc ds k)).length) (frs (mbb ds AR k) (nmb ds k)) = bad4 ds AR k := by
  unfold bad4
  rcases (of k hk).2.1 with z | z
  · have e : frs (cob ds k) (con (dc ds k)).length = none := by
      rw [show (con (dc ds k)).length = 0 from by rw [show con (dc ds k) = [] from z]; rfl]; rfl
    rw [e, thn_n]
    cases frs (mbb ds AR k) (nmb ds k) <;> rfl
  · have e : frs (mbb ds AR k) (nmb ds k) = none := by
      rw [show nmb ds k = 0 from by unfold nmb; rw [z]; rfl]; rfl
    rw [show frs (mbb ds AR k) (mem (dc ds k)).length = none from e, thn_n]
    cases frs (cob ds k) (con (dc ds k)).length <;> rfl
theorem OM_cz {o : Option Nat} {h1 h2 : HP} {P : HP → Prop} {R : Rs Unit} {Q : HP → Prop} {h3 : HP} (z : Cz W h3 h2) (E : OM tr F K c h1 o (fun h' => P h' ∧ Q h' ∧ Cz W h2 h' ∧ CkK h' mx ds AR k r) R) : OM tr F K c h1 o (fun h' => P h' ∧ Q h' ∧ Cz W h3 h' ∧ CkK h' mx ds AR k r) R := by
  cases o with
  | none =>
    obtain ⟨h', e, u, p, q, cz, ck⟩ := E
    exact ⟨h', e, u, p, q, z.trans cz, ck⟩
  | some p => exact E
theorem Mmembers_e (o : ok3 ds) (x : MK W h H tr L mx ds AR) (I : TyI W h ds AR) (of : okFs ds) (hk : k < ds.length) (fl : ∀ j, (fds ds j).length ≤ 140) :
    OM tr FT [] (cMb ds k) h (bad4 ds AR k) (fun h' => MK W h' H tr L mx ds AR ∧ TyI W h' ds AR ∧ Cz W h h' ∧ CkK h' mx ds AR k (metL (mem (dc ds k))).length) (f_X4_members H (mx (10 + k)) h) := by
  have S := x.1
  have w := S.1
  have E := mem2_e S hk
  rw [← bad4_eq of hk]
  unfold f_X4_members f_X4_members_b113
  cases gc : frs (cob ds k) (con (dc ds k)).length with
  | some p =>
    rw [gc] at E
    obtain ⟨h2, e2, u2, w2⟩ := E
    rw [e2, bd_ex]
    exact ⟨h2, rfl, u2.le (by unfold cMb; omega), w2⟩
  | none =>
    rw [gc] at E
    obtain ⟨h2, e2, u2, q2⟩ := E
    subst q2
    have k0 := S.kk (k := 10 + k) (by omega)
    rw [e2, bd_ok, ldR_e k0.1, x.p375 (by omega), thn_n]
    have tail : ∀ {R : Rs Unit} {cc : Nat}, cc ≤ cMb ds k → OM tr FT [] cc h2 (frs (mbb ds AR k) (nmb ds k)) (fun h' => MK W h' H tr L mx ds AR ∧ TyI W h' ds AR ∧ Cz W h2 h' ∧ CkK h' mx ds AR k (metL (mem (dc ds k))).length) R → OM tr FT [] (cMb ds k) h2 (frs (mbb ds AR k) (nmb ds k)) (fun h' => MK W h' H tr L mx ds AR ∧ TyI W h' ds AR ∧ Cz W h2 h' ∧ CkK h' mx ds AR k (metL (mem (dc ds k))).length) (bd R (fun _ h2 => rok () h2)) := fun {R cc} hc E => by
      unfold OM at E ⊢
      cases gf : frs (mbb ds AR k) (nmb ds k) with
      | none =>
        rw [gf] at E
        obtain ⟨h', e', u', r⟩ := E
        exact ⟨h', by rw [e', bd_ok], u'.le hc, r⟩
      | some p =>
        rw [gf] at E
        obtain ⟨h', e', u', r⟩ := E
        exact ⟨h', by rw [e', bd_ex], u'.le hc, r⟩
    cases gp : paF ds ds.length (10 + k) with
    | none =>
      obtain ⟨h3, e3, u3, k3, l3, c3, z3⟩ := newl (n := 164) w (by decide) FT []
      obtain ⟨h9, e9, u9, _⟩ := newl (n := 164) w (by decide) [] []
      have : h3 = h9 := by
        have q1 : (nwC 164 3 h2 fun p h2 => lsInit p h2 fun h3 => (rok () h3 : Rs Unit)) = rok () h3 := e3
        have q2 : (nwC 164 3 h2 fun p h2 => lsInit p h2 fun h3 => (rok () h3 : Rs Unit)) = rok () h9 := e9
        have this : (rok () h3 : Rs Unit) = rok () h9 := q1.symm.trans q2
        unfold rok at this
        injection this with t1
        injection t1 with t2
        injection t2
      rw [← this] at u9
      have cz9 : Cz W h2 h3 := Cz_ef u9 (by simp) I
      have X3 := MK_ef u3 xmT x
      rw [if_pos (show kxo mx none = 0 from rfl), e3]
      refine tail (cc := 0 + 1 + 20 * nmb ds k) (by unfold cMb; omega) (OM_cz cz9 (mem122_e o X3 (TyI_ef u9 sx00 (by simp) I) of hk (u3.le (by omega)) z3 k3 (.inr rfl) (by rw [c3]; decide) (by rw [l3, fdp_none gp]; exact True.intro) fl))
    | some pp =>
      obtain ⟨_, hp, hp10, _⟩ := pa_un gp
      have us := up_some o gp
      have r1 := up_rk o pp
      have r2 := rnk_le (ds := ds) (j := pp)
      have n60 := o.1.1.1
      obtain ⟨h3, pl, e3, u3, z3, k3, c3, A3⟩ := fieldsOf_e o fl pp hp 100 h2 (by omega) x
      have u3' : Ef FT [] ((up ds pp).length + 1 + 3 * (fds ds pp).length) h2 h3 := u3.wk (fun _ z => by simp at z) (fun _ z => z) (Nat.le_refl _)
      have e3' : f_X4_fieldsOf 100 (mx pp) h2 = rok pl h3 := e3
      rw [if_neg (show ¬ kxo mx (some pp) = 0 from x.nz (q := pp) (by omega)), ldR_e k0.1, x.p375 (by omega), gp, show kxo mx (some pp) = mx pp from rfl, e3', bd_ok]
      refine tail (cc := (up ds pp).length + 1 + 3 * (fds ds pp).length + 20 * nmb ds k) ?_ (OM_cz (Cz_ef u3 (by simp) I) (mem122_e o (MK_ef u3 xm00 x) (TyI_ef u3 sx00 (by simp) I) of hk u3' z3 k3 (.inl rfl) c3 (by rw [fdp_some o gp]; exact A3) fl))
      unfold cMb
      rw [us, List.length_cons, fdp_some o gp]; omega
def CkD (h : HP) (mx : Nat → Nat) (ds : List DC) (AR : AT) (r : Nat) : Prop := ∀ k, k < r → CkK h mx ds AR k (metL (mem (dc ds k))).length
theorem CkD_cz (S : SM W h H tr mx ds) (u : Ef F K c h h') (s : Sx F K) (z : Cz W h h') (hr : r ≤ ds.length) (x : CkD h mx ds AR r) : CkD h' mx ds AR r := fun k hk => CkK_cz S u s z (by omega) (Nat.le_refl _) (x k hk)
theorem l254_e (o : ok3 ds) (x : MK W h H tr L mx ds AR) (I : TyI W h ds AR) (of : okFs ds) (fl : ∀ j, (fds ds j).length ≤ 140) :
    OM tr FT [] (sm (cMb ds) ds.length) h (frs (bad4 ds AR) ds.length) (fun h' => MK W h' H tr L mx ds AR ∧ TyI W h' ds AR ∧ Cz W h h' ∧ CkD h' mx ds AR ds.length) (f_X4_rounds_l254 H NN (0 : Int32) h) := by
  have n60 := o.1.1.1
  refine loop_NN (n := ds.length) (F := f_X4_rounds_l254 H) (i := 0) (h := h) (by omega) (fun r h' => Ef FT [] (sm (cMb ds) r) h h' ∧ MK W h' H tr L mx ds AR ∧ TyI W h' ds AR ∧ frs (bad4 ds AR) r = none ∧ Cz W h h' ∧ CkD h' mx ds AR r)
    (OM tr FT [] (sm (cMb ds) ds.length) h (frs (bad4 ds AR) ds.length) (fun h' => MK W h' H tr L mx ds AR ∧ TyI W h' ds AR ∧ Cz W h h' ∧ CkD h' mx ds AR ds.length)) ?_ ?_ (Nat.zero_le _) ⟨(Ef.refl x.1.1 _ _).le (by omega), x, I, rfl, Cz.refl, fun k hk => by omega⟩
  · rintro N r h1 hr ⟨u1, X1, I1, hn, cz1, ck1⟩ next
    have E := Mmembers_e o X1 I1 of hr fl
    have le := sm_le (f := cMb ds) hr
    rw [f_X4_rounds_l254_s]
    unfold b_X4_rounds_l254
    rw [ldI_e X1.1.2.1.1, X1.1.2.1.2.2.2, if_neg (sz_no hr (by omega)), tm_e X1.1 X1.tb hr, if_pos X1.1.2.1.1]
    cases g : bad4 ds AR r with
    | none =>
      rw [g] at E
      obtain ⟨h2, e2, u2, X2, I2, cz2, ck2⟩ := E
      rw [e2, bd_ok, lt3_n]
      refine next h2 ⟨(u1.trans u2).le (Nat.le_refl _), X2, I2, (frs_s hn).trans g, cz1.trans cz2, fun k hk => ?_⟩
      by_cases z : k = r
      · rw [z]; exact ck2
      · exact CkD_cz X1.1 u2 sxT cz2 (Nat.le_of_lt hr) ck1 k (by omega)
    | some p =>
      rw [g] at E
      obtain ⟨h2, e2, u2, w2⟩ := E
      rw [e2, bd_ex, frs_at hn g hr]
      exact ⟨h2, rfl, (u1.trans u2).le le, w2⟩
  · rintro N h1 ⟨u1, X1, I1, hn, cz1, ck1⟩
    rw [f_X4_rounds_l254_s]
    unfold b_X4_rounds_l254
    rw [ldI_e X1.1.2.1.1, X1.1.2.1.2.2.2, if_pos (sz_le (Nat.le_refl _) (by omega)), hn]
    exact ⟨h1, rfl, u1, X1, I1, cz1, ck1⟩
