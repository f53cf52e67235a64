/-! PHASE B settle 38: the twin: a method's heading -/
set_option maxRecDepth 100000
variable {F K : List Nat} {c : Nat} {h h' h0 : HP} {mx : Nat → Nat} {ds : List DC} {W : Nat → Prop} {H tr L q a j k i p s b r : Nat} {AR : AT} {T : Ty} {nm : List Nat} {d : DC} {vs ps : List Vr} {t : Mt} {v : Vr}
theorem sxT : Sx FT [] := by constructor <;> decide
theorem xmT : Xm FT [] := ⟨by constructor <;> decide, by decide, by decide⟩
theorem sx383n : Sx F383 [] := by constructor <;> decide
theorem f383T : ∀ f ∈ F383, f ∈ FT := by decide
theorem metL_pre {ms : List Mb} {i : Nat} : (metL ms).take (metL (ms.take i)).length = metL (ms.take i) := by
  have : metL ms = metL (ms.take i) ++ metL (ms.drop i) := by
    unfold metL
    rw [← List.filterMap_append, List.take_append_drop]
  rw [this, List.take_left']
  rfl
theorem ownL_pre {ms : List Mb} {i : Nat} : (ownL ms).take (ownL (ms.take i)).length = ownL (ms.take i) := by
  have : ownL ms = ownL (ms.take i) ++ ownL (ms.drop i) := by
    unfold ownL
    rw [← List.filterMap_append, List.take_append_drop]
  rw [this, List.take_left']
  rfl
abbrev mt0 : Mt := (0, 0, [], none)
theorem metL_at {ms : List Mb} {i : Nat} {t : Mt} (hi : i < ms.length) (hm : (ms.getD i mb0).2 = some t) : (metL (ms.take i)).length < (metL ms).length ∧ (metL ms).getD (metL (ms.take i)).length (vr0, mt0) = ((ms.getD i mb0).1, t) := by
  have e : metL ms = metL (ms.take i) ++ ((ms.getD i mb0).1, t) :: metL (ms.drop (i + 1)) := by
    have h1 : metL ms = metL (ms.take (i + 1)) ++ metL (ms.drop (i + 1)) := by
      unfold metL
      rw [← List.filterMap_append, List.take_append_drop]
    rw [h1, metL_s hi, hm, List.append_assoc]; rfl
  rw [e]
  refine ⟨by rw [List.length_append, List.length_cons]; omega, ?_⟩
  rw [List.getD_eq_getElem?_getD, List.getElem?_append_right (Nat.le_refl _), Nat.sub_self]; rfl
theorem ownL_at {ms : List Mb} {i : Nat} (hi : i < ms.length) (hm : (ms.getD i mb0).2 = none) : (ownL (ms.take i)).length < (ownL ms).length ∧ (ownL ms).getD (ownL (ms.take i)).length vr0 = (ms.getD i mb0).1 := by
  have e : ownL ms = ownL (ms.take i) ++ (ms.getD i mb0).1 :: ownL (ms.drop (i + 1)) := by
    have h1 : ownL ms = ownL (ms.take (i + 1)) ++ ownL (ms.drop (i + 1)) := by
      unfold ownL
      rw [← List.filterMap_append, List.take_append_drop]
    rw [h1, ownL_s hi, hm, if_neg (by decide), List.append_assoc]; rfl
  rw [e]
  refine ⟨by rw [List.length_append, List.length_cons]; omega, ?_⟩
  rw [List.getD_eq_getElem?_getD, List.getElem?_append_right (Nat.le_refl _), Nat.sub_self]; rfl
/-- the shape, as the twin looks at it -/
theorem shapeM_e {w f ab m : Nat} {bo : Bool} (k47 : kc h q = 47) (f363 : fi h 363 q = nI f) (f364 : fi h 364 q = nI ab) (hf : 1 ≤ f ∧ f ≤ 4) (hab : ab ≤ 1) (h1 : f ≠ 1 → ab = 0) (k50 : kc h m = 50) (f388 : fi h 388 m = nI w) (hw : w ≤ 2) :
    f_X4_signature_b191 H q m (if bo = true then 1 else 0) h = f_X4_signature_b279 H m (if shp f ab w bo = true then 1 else 0) h := by
  have e2 : nI f = (2 : Int32) ↔ f = 2 := nk f (c := 2) rfl (by omega) (by omega)
  have e1 : nI f = (1 : Int32) ↔ f = 1 := nk f (c := 1) rfl (by omega) (by omega)
  have w0 : nI w = (0 : Int32) ↔ w = 0 := nk w (c := 0) rfl (by omega) (by omega)
  have w1 : nI w = (1 : Int32) ↔ w = 1 := nk w (c := 1) rfl (by omega) (by omega)
  have w2 : nI w = (2 : Int32) ↔ w = 2 := nk w (c := 2) rfl (by omega) (by omega)
  have a0 : nI ab = (0 : Int32) ↔ ab = 0 := nk ab (c := 0) rfl (by omega) (by omega)
  unfold f_X4_signature_b191 f_X4_signature_b246 f_X4_signature_b213 f_X4_signature_b226 f_X4_signature_b230 f_X4_signature_b274 f_X4_signature_b278 shp
  have W : w = 0 ∨ w = 1 ∨ w = 2 := by omega
  simp only [ldI_e k47, ldI_e k50, f363, f364, f388, e2, e1, w0, w1, w2, a0]
  by_cases z : f = 2
  · rcases W with y | y | y <;> subst y <;> cases bo <;> simp [z]
  · by_cases z1 : f = 1
    · by_cases v : ab = 0
      · rcases W with y | y | y <;> subst y <;> cases bo <;> simp [z1, v]
      · rcases W with y | y | y <;> subst y <;> cases bo <;> simp [z1, v]
    · have v := h1 z1
      rcases W with y | y | y <;> subst y <;> cases bo <;> simp [z, z1, v]
/-- the type of a parameter -/
def pT (h : HP) (m t : Nat) : Nat := fr h 384 ((ls h (fr h 391 m)).getD t 0)
/-- parameters -/
theorem sig20_e {v3 : Int32} {m v1 : Nat} (x : MK W h H tr L mx ds AR) (I : TyI W h ds AR) (z0 : kc h0 p = 0) (u0 : Ef FT [] c h0 h) (kp : kc h p = 163) (lp : ls h p = []) (cq : cp h p ≠ RAW) (k50 : kc h m = 50) (Lp : LsS h (fr h 391 m) 132 (VaN W) ps) (h8 : ps.length ≤ 8) (hd : ∀ v ∈ ps, v.1.2.2 ≤ 8 ∧ v.2.1 ∉ PW) :
    OM tr FT [] (c + 2 * ps.length) h0 (frs (pbd ds AR ps) ps.length) (fun h' => MK W h' H tr L mx ds AR ∧ TyI W h' ds AR ∧ Ef FT [163] (2 * ps.length) h h' ∧ Cz W h h' ∧ ∀ t, t < ps.length → TyC h' ds AR (pT h m t) (ps.getD t vr0).1) (f_X4_signature_l20 H v1 m v3 p NN (0 : Int32) h) := by
  refine loop_NN (n := ps.length) (F := f_X4_signature_l20 H v1 m v3 p) (i := 0) (h := h) (by omega)
    (fun r h' => Ef FT [] (c + 2 * r) h0 h' ∧ Ef FT [163] (2 * r) h h' ∧ MK W h' H tr L mx ds AR ∧ TyI W h' ds AR ∧ A2 (VaN W h') (ls h' p) (ps.take r) ∧ cp h' p ≠ RAW ∧ frs (pbd ds AR ps) r = none ∧ Cz W h h' ∧ ∀ t, t < r → TyC h' ds AR (pT h m t) (ps.getD t vr0).1)
    (fun R => OM tr FT [] (c + 2 * ps.length) h0 (frs (pbd ds AR ps) ps.length) (fun h' => MK W h' H tr L mx ds AR ∧ TyI W h' ds AR ∧ Ef FT [163] (2 * ps.length) h h' ∧ Cz W h h' ∧ ∀ t, t < ps.length → TyC h' ds AR (pT h m t) (ps.getD t vr0).1) R) ?_ ?_ (Nat.zero_le _) ⟨u0.le (by omega), Ef.refl x.1.1 _ _, x, I, by rw [lp]; exact True.intro, cq, rfl, Cz.refl, fun t ht => by omega⟩
  · rintro N r h1 hr ⟨u1, v1', X1, I1, A1, c1, hn, cz1, tc1⟩ next
    have s163 : Sx FT [163] := by constructor <;> decide
    have k50' : kc h1 m = 50 := v1'.kk k50 (by decide)
    have g391 : fr h1 391 m = fr h 391 m := v1'.gr k50 (by decide) (s163.1 _ (by decide))
    have L1 : LsS h1 (fr h1 391 m) 132 (VaN W) ps := by
      rw [g391]; exact LsS_ef v1' Lp (by decide) (by decide) (fun _ _ z => VaN_ef v1' s163 z)
    have kp1 : kc h1 p = 163 := v1'.kk kp (by decide)
    have va : VaN W h1 ((ls h1 (fr h1 391 m)).getD r 0) (ps.getD r vr0) := L1.2.2.getD hr
    have ln := L1.len
    obtain ⟨d8, dw⟩ := hd _ (gDm vr0 hr)
    have E := known_e va.2.1 d8 X1 I1 (Ef.refl X1.1.1 FT [])
    have lnp := A1.len
    rw [List.length_take] at lnp
    have hpT : fr h1 384 ((ls h1 (fr h1 391 m)).getD r 0) = pT h m r := by
      have va0 : VaN W h ((ls h (fr h 391 m)).getD r 0) (ps.getD r vr0) := Lp.2.2.getD hr
      unfold pT
      rw [g391, v1'.gl Lp.1 (by decide) (by decide)]
      exact v1'.gr va0.1 (by decide) (s163.1 _ (by decide))
    have Wp : ∀ t, t < ps.length → W (pT h m t) := fun t ht => by
      have va0 : VaN W h ((ls h (fr h 391 m)).getD t 0) (ps.getD t vr0) := Lp.2.2.getD ht
      exact va0.2.1.2.2.2.2
    generalize hv : (ls h1 (fr h1 391 m)).getD r 0 = vp at *
    rw [f_X4_signature_l20_s]
    unfold b_X4_signature_l20 f_X4_signature_l20b91 f_X4_signature_l20b92
    rw [ldR_e k50', lsSize_e (L1.k (by decide) (by decide)), ln, if_neg (sz_no hr (by omega)), ldR_e k50', lg_e (L1.k (by decide) (by decide)) (by omega) (by omega), hv, cast_e va.1 (by simp), ldR_e va.1, if_pos X1.1.2.1.1]
    by_cases z1 : res ds AR (ps.getD r vr0).1 = none
    · rw [if_pos z1] at E
      obtain ⟨h2, e2, u2, w2⟩ := E
      have : pbd ds AR ps r = some (ps.getD r vr0).1.2.1 := if_pos z1
      rw [frs_at hn this hr, e2, bd_ex]
      exact ⟨h2, rfl, (u1.trans u2).le (by omega), w2⟩
    rw [if_neg z1] at E
    obtain ⟨h2, e2, _, u2, X2, I2, cz2, tc2⟩ := E
    have va2 := VaN_ef u2 sx383n va
    have to2 := va2.2.2
    have A2' : A2 (VaN W h2) (ls h2 p) (ps.take r) := by
      rw [u2.gl kp1 (by decide) (by simp)]; exact A1.imp fun _ _ _ z => VaN_ef u2 sx383n z
    have c2 : cp h2 p ≠ RAW := by rw [u2.gc kp1 (by decide) (by simp)]; exact c1
    have kp2 : kc h2 p = 163 := u2.kk kp1 (by decide)
    have uT : Ef FT [] 0 h1 h2 := u2.wk f383T (fun _ z => by simp at z) (Nat.le_refl _)
    have u12 : Ef FT [] (c + 2 * r) h0 h2 := (u1.trans uT).le (by omega)
    have v12 : Ef FT [163] (2 * r) h h2 := (v1'.trans (uT.wk (fun _ z => z) (fun _ z => by simp at z) (Nat.le_refl _))).le (by omega)
    rw [e2, bd_ok, ldR_e va2.1, ldR_e to2.1, if_pos X2.1.2.1.1, isClass_e X2 to2.2.1 dw, bd_ok]
    have wr : ∀ {R : Rs Unit}, R = (ldR 49 385 vp h2 fun x1 => ldI 45 354 x1 h2 fun x2 => if kc h2 H = 5 then bd (f_X4_must H 0 x2 h2) (fun _ h3 => lsAdd p vp h3 fun h4 => lt3 (nI r + 1) fun x5 => f_X4_signature_l20 H v1 m v3 p N x5 h4) else none) → pbd ds AR ps r = some (ps.getD r vr0).2.2 → OM tr FT [] (c + 2 * ps.length) h0 (frs (pbd ds AR ps) ps.length) (fun h' => MK W h' H tr L mx ds AR ∧ TyI W h' ds AR ∧ Ef FT [163] (2 * ps.length) h h' ∧ Cz W h h' ∧ ∀ t, t < ps.length → TyC h' ds AR (pT h m t) (ps.getD t vr0).1) R := fun {R} hR hp => by
      obtain ⟨h3, e3, u3, w3⟩ := must_no (p := (ps.getD r vr0).2.2) X2.1 u12 ⟨by simp, by simp⟩
      rw [hR, ldR_e va2.1, ldI_e to2.1, to2.2.2, if_pos X2.1.2.1.1, e3, frs_at hn hp hr]
      exact ⟨h3, rfl, u3.le (by omega), w3⟩
    by_cases z2 : kno ds (ps.getD r vr0).2.1 = none
    · rw [if_pos z2, if_pos y00, ldR_e va2.1, ldR_e to2.1, isAmong_e kp2 (by decide) c2 A2' to2.2.1 (by rw [List.length_take]; omega), bd_ok]
      by_cases z3 : (ps.getD r vr0).2.1 ∈ nms (ps.take r)
      · rw [if_pos z3, if_neg z10]
        exact wr rfl (by unfold pbd; rw [if_neg z1, if_pos (.inr z3)])
      · have pn : pbd ds AR ps r = none := by unfold pbd; rw [if_neg z1, if_neg (fun w => w.elim (fun y => y z2) z3)]
        have KL : lsK h2 p := ⟨by rw [kp2]; decide, by rw [kp2]; decide, c2⟩
        have lnp2 := A2'.len
        rw [List.length_take] at lnp2
        rw [if_neg z3, if_pos y00, ldR_e va2.1, ldI_e to2.1, if_pos X2.1.2.1.1, must_e X2.1 z10, lsAdd_e KL (.inr (.inr (.inr (by rw [va2.1]; decide)))) (by omega), lt3_n]
        have u3 := Ef_ladb (v := vp) (b := 1) u12 kp2 (by decide) (.inl z0) (by omega) (by omega)
        have v3' := Ef_ladb (v := vp) (b := 1) v12 kp2 (by decide) (.inr (by simp)) (by omega) (by omega)
        have w3 : Ef [] [163] (0 + 1) h2 (lad h2 p vp) := Ef_ladb (b := 1) (Ef.refl X2.1.1 _ _) kp2 (by decide) (.inr (by simp)) (by omega) (by omega)
        have sw : Sx [] [163] := by constructor <;> decide
        have xw : Xm [] [163] := ⟨sw, by decide, by decide⟩
        have cz3 : Cz W h2 (lad h2 p vp) := Cz_ef w3 (by simp) I2
        refine next _ ⟨u3.le (by omega), v3'.le (by omega), MK_ef w3 xw X2, TyI_ef w3 sw (by simp) I2, ?_, (lad_K KL (by omega)).2.2, (frs_s hn).trans pn, (cz1.trans cz2).trans cz3, fun t ht => ?_⟩
        rotate_left
        · by_cases zt : t = r
          · rw [zt]
            rw [hpT] at tc2
            exact TyC_cz tc2 cz3 (Wp r hr)
          · exact TyC_cz (tc1 t (by omega)) (cz2.trans cz3) (Wp t (by omega))
        rw [lad_ls, tk_s vr0 hr]
        exact A2.app (A2'.imp fun _ _ _ z => VaN_ef w3 sw z) (A2.one (VaN_ef w3 sw va2))
    · rw [if_neg z2, if_neg z10]
      exact wr rfl (by unfold pbd; rw [if_neg z1, if_pos (.inl z2)])
  · rintro N h1 ⟨u1, v1', X1, I1, A1, c1, hn, cz1, tc1⟩
    have s163 : Sx FT [163] := by constructor <;> decide
    have k50' : kc h1 m = 50 := v1'.kk k50 (by decide)
    have g391 : fr h1 391 m = fr h 391 m := v1'.gr k50 (by decide) (s163.1 _ (by decide))
    have L1 : LsS h1 (fr h1 391 m) 132 (VaN W) ps := by
      rw [g391]; exact LsS_ef v1' Lp (by decide) (by decide) (fun _ _ z => VaN_ef v1' s163 z)
    rw [f_X4_signature_l20_s]
    unfold b_X4_signature_l20
    rw [ldR_e k50', lsSize_e (L1.k (by decide) (by decide)), L1.len, if_pos (sz_le (Nat.le_refl _) (by omega)), hn]
    exact ⟨h1, rfl, u1, X1, I1, v1', cz1, tc1⟩
/-- earlier methods of the same name -/
theorem sig120_e {m : Nat} (S : SM W h H tr mx ds) (hk : k < ds.length) (hi : i < (mem (dc ds k)).length) (k50 : kc h m = 50) (tm : ToM h (fr h 390 m) v.2) :
    OM tr FT [] (c + 1) h (if v.2.1 ∈ (metL ((mem (dc ds k)).take i)).map (fun x => x.1.2.1) then some v.2.2 else none) (fun h' => h' = h) (f_X4_signature_l120 H (mx (10 + k)) m (nI (metL ((mem (dc ds k)).take i)).length) NN (0 : Int32) h) := by
  have k0 := S.kk (k := 10 + k) (by omega)
  have Lm := k0.l372
  rw [dM_hi] at Lm
  have Lm : LsS h (fr h 372 (mx (10 + k))) 137 (fun h b v => MeN W h b (mx (10 + k)) v) (metL (mem (dc ds k))) := Lm
  have ln := Lm.len
  have m401 : (mem (dc ds k)).length ≤ 401 := (S.2.2.1.2 k hk).2.2.1.2.1
  have le1 : (metL ((mem (dc ds k)).take i)).length ≤ (metL (mem (dc ds k))).length := by
    have := congrArg List.length (metL_pre (ms := mem (dc ds k)) (i := i))
    rw [List.length_take] at this; omega
  have le2 := metL_le (ms := mem (dc ds k))
  have pre : ∀ j, j < (metL ((mem (dc ds k)).take i)).length → (metL ((mem (dc ds k)).take i)).getD j (vr0, mt0) = (metL (mem (dc ds k))).getD j (vr0, mt0) := fun j hj => by
    rw [← metL_pre (ms := mem (dc ds k)) (i := i), List.getD_eq_getElem?_getD, List.getElem?_take_of_lt hj, ← List.getD_eq_getElem?_getD]
  refine loop_NN (n := (metL ((mem (dc ds k)).take i)).length) (F := f_X4_signature_l120 H (mx (10 + k)) m (nI (metL ((mem (dc ds k)).take i)).length)) (i := 0) (h := h) (by omega)
    (fun r h' => h' = h ∧ v.2.1 ∉ ((metL ((mem (dc ds k)).take i)).take r).map (fun x => x.1.2.1))
    (fun R => OM tr FT [] (c + 1) h (if v.2.1 ∈ (metL ((mem (dc ds k)).take i)).map (fun x => x.1.2.1) then some v.2.2 else none) (fun h' => h' = h) R) ?_ ?_ (Nat.zero_le _) ⟨rfl, by simp⟩
  · rintro N r h1 hr ⟨rfl, hn⟩ next
    have me : MeN W h1 ((ls h1 (fr h1 372 (mx (10 + k)))).getD r 0) (mx (10 + k)) ((metL (mem (dc ds k))).getD r (vr0, mt0)) := Lm.2.2.getD (by omega)
    obtain ⟨m1, _, _, _, _, t1, _⟩ := me
    rw [f_X4_signature_l120_s]
    unfold b_X4_signature_l120 f_X4_signature_l120b163
    rw [if_neg (sz_no hr (by omega)), ldR_e k0.1, lg_e (Lm.k (by decide) (by decide)) (by omega) (by omega), cast_e m1 (by simp), ldR_e m1, ldR_e t1.1, ldR_e k50, ldR_e tm.1, txEq_e ⟨t1.2.1.1, tm.2.1.1⟩, t1.2.1.2, tm.2.1.2, ← pre r hr]
    by_cases z : ((metL ((mem (dc ds k)).take i)).getD r (vr0, mt0)).1.2.1 = v.2.1
    · have : v.2.1 ∈ (metL ((mem (dc ds k)).take i)).map (fun x => x.1.2.1) := List.mem_map.mpr ⟨_, gDm (vr0, mt0) hr, z⟩
      obtain ⟨h3, e3, u3, w3⟩ := must_no (p := v.2.2) S (Ef.refl S.1 FT []) ⟨by simp, by simp⟩
      rw [if_pos z, if_neg z10, ldR_e k50, ldI_e tm.1, tm.2.2, if_pos S.2.1.1, e3, if_pos this]
      exact ⟨h3, rfl, u3.le (by omega), w3⟩
    · rw [if_neg z, if_pos y00, ldR_e k50, ldI_e tm.1, if_pos S.2.1.1, must_e S z10, lt3_n]
      refine next h1 ⟨rfl, fun y => ?_⟩
      rw [tk_s (vr0, mt0) hr, List.map_append] at y
      rcases List.mem_append.mp y with y1 | y1
      · exact hn y1
      · exact z (List.mem_singleton.mp y1).symm
  · rintro N h1 ⟨rfl, hn⟩
    rw [List.take_length] at hn
    rw [f_X4_signature_l120_s]
    unfold b_X4_signature_l120
    rw [if_pos (sz_le (Nat.le_refl _) (by omega)), if_neg hn]
    exact ⟨h1, rfl, (Ef.refl S.1 _ _).le (by omega), rfl⟩
