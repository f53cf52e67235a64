/-! PHASE B settle 39: the twin: members -/
set_option maxRecDepth 100000
variable {F K : List Nat} {c : Nat} {h h' h0 : HP} {mx : Nat → Nat} {ds : List DC} {W : Nat → Prop} {H tr L q a j k i p s b r : Nat} {AR : AT} {T : Ty} {nm : List Nat} {d : DC} {vs ps : List Vr} {t : Mt} {v : Vr} {m : Mb}
/-- where a method of the twin stands -/
def mM (h : HP) (mx : Nat → Nat) (k j : Nat) : Nat := (ls h (fr h 372 (mx (10 + k)))).getD j 0
theorem SM.k137 (S : SM W h H tr mx ds) (hk : k < ds.length) : LsS h (fr h 372 (mx (10 + k))) 137 (fun h b v => MeN W h b (mx (10 + k)) v) (metL (mem (dc ds k))) := by
  have := (S.kk (k := 10 + k) (by omega)).l372
  rw [dM_hi] at this
  exact this
theorem SM.k138 (S : SM W h H tr mx ds) (hk : k < ds.length) : LsS h (fr h 371 (mx (10 + k))) 138 (VaN W) (ownL (mem (dc ds k))) := by
  have := (S.kk (k := 10 + k) (by omega)).l371
  rw [dM_hi] at this
  exact this
theorem SM.me (S : SM W h H tr mx ds) (hk : k < ds.length) (hj : j < (metL (mem (dc ds k))).length) : MeN W h (mM h mx k j) (mx (10 + k)) ((metL (mem (dc ds k))).getD j (vr0, mt0)) := (S.k137 hk).2.2.getD hj
theorem okMb_p (o : okMb m) (hm : m.2 = some t) : (∀ v ∈ t.2.2.1, v.2.1 ∉ PW) ∧ t.2.2.1.length ≤ 8 := by
  obtain ⟨_, a, b⟩ := o
  unfold mps at a b
  rw [hm] at a b
  exact ⟨a, b⟩
theorem okMb_k (o : okDs ds) (hk : k < ds.length) (hi : i < (mem (dc ds k)).length) : okMb ((mem (dc ds k)).getD i mb0) := (o.2 k hk).2.2.2.2 _ (gDm mb0 hi)
theorem pT_ef {q : Nat} {v : Vr × Mt} (u : Ef F K c h h') (s : Sx F K) (me : MeN W h a q v) (ht : b < v.2.2.2.1.length) : pT h' a b = pT h a b := by
  have L := me.2.2.2.2.2.2.1
  have va : VaN W h ((ls h (fr h 391 a)).getD b 0) (v.2.2.2.1.getD b vr0) := L.2.2.getD ht
  unfold pT
  rw [u.gr me.1 (by decide) (s.1 391 (by decide)), u.gl L.1 (by decide) (s.2 132 (by decide))]
  exact u.gr va.1 (by decide) (s.1 384 (by decide))
/-- a method whose types know their kinds -/
def MeC (h : HP) (ds : List DC) (AR : AT) (a : Nat) (v : Vr × Mt) : Prop := TyC h ds AR (fr h 389 a) v.1.1 ∧ ∀ t, t < v.2.2.2.1.length → TyC h ds AR (pT h a t) (v.2.2.2.1.getD t vr0).1
theorem MeN.wp {q : Nat} {v : Vr × Mt} (me : MeN W h a q v) (ht : b < v.2.2.2.1.length) : W (pT h a b) := by
  have va : VaN W h ((ls h (fr h 391 a)).getD b 0) (v.2.2.2.1.getD b vr0) := me.2.2.2.2.2.2.1.2.2.getD ht
  exact va.2.1.2.2.2.2
theorem MeC_cz {q : Nat} {v : Vr × Mt} (u : Ef F K c h h') (s : Sx F K) (z : Cz W h h') (me : MeN W h a q v) (x : MeC h ds AR a v) : MeC h' ds AR a v := by
  refine ⟨?_, fun t ht => ?_⟩
  · rw [u.gr me.1 (by decide) (s.1 389 (by decide))]
    exact TyC_cz x.1 z me.2.2.2.2.1.2.2.2.2
  · rw [pT_ef u s me ht]
    exact TyC_cz (x.2 t ht) z (me.wp ht)
theorem signature_e (x : MK W h H tr L mx ds AR) (I : TyI W h ds AR) (of : okFs ds) (hk : k < ds.length) (hi : i < (mem (dc ds k)).length) (hm : ((mem (dc ds k)).getD i mb0).2 = some t) :
    OM tr FT [] 20 h (thn (if res ds AR ((mem (dc ds k)).getD i mb0).1.1 = none then some ((mem (dc ds k)).getD i mb0).1.1.2.1 else none) (mtb ds AR k i ((mem (dc ds k)).getD i mb0).1 t)) (fun h' => MK W h' H tr L mx ds AR ∧ TyI W h' ds AR ∧ Cz W h h' ∧ MeC h' ds AR (mM h mx k (metL ((mem (dc ds k)).take i)).length) (((mem (dc ds k)).getD i mb0).1, t)) (f_X4_signature H (mx (10 + k)) (mM h mx k (metL ((mem (dc ds k)).take i)).length) (nI (metL ((mem (dc ds k)).take i)).length) h) := by
  have S := x.1
  obtain ⟨ma1, ma2⟩ := metL_at hi hm
  have me := S.me hk ma1
  rw [ma2] at me
  obtain ⟨of1, of2, of3⟩ := of k hk
  obtain ⟨d8, dp, dt⟩ := of3 _ (gDm mb0 hi)
  obtain ⟨dt1, dt2⟩ := dt t hm
  have okm := okMb_p (okMb_k S.2.2.1 hk hi) hm
  have dps : ∀ v ∈ t.2.2.1, v.1.2.2 ≤ 8 ∧ v.2.1 ∉ PW := fun v hv => ⟨dp v (by unfold mps; rw [hm]; exact hv), okm.1 v hv⟩
  have okd := (S.2.2.1.2 k hk).2.2.2.1
  unfold mtb
  generalize hv : ((mem (dc ds k)).getD i mb0).1 = v at *
  generalize ha : mM h mx k (metL ((mem (dc ds k)).take i)).length = a at *
  have E := known_e me.2.2.2.2.1 d8 x I (Ef.refl S.1 FT [])
  unfold f_X4_signature
  rw [ldR_e me.1, if_pos S.2.1.1]
  by_cases z1 : res ds AR v.1 = none
  · rw [if_pos z1] at E ⊢
    obtain ⟨h2, e2, u2, w2⟩ := E
    rw [e2, bd_ex]
    exact ⟨h2, rfl, u2.le (by omega), w2⟩
  rw [if_neg z1] at E ⊢
  obtain ⟨h2, e2, u2, v2, X2, I2, cz2, tc2⟩ := E
  obtain ⟨h3, e3, u3, k3, l3, c3, z3⟩ := newl (n := 163) X2.1.1 (by decide) FT []
  have u3' : Ef FT [] (0 + 1 + 1) h h3 := u2.trans u3
  have X3 := MK_ef u3 xmT X2
  have u9 : Ef [] [] 1 h2 h3 := by
    obtain ⟨h9, e9, u9, _⟩ := newl (n := 163) X2.1.1 (by decide) [] []
    have q1 : (nwC 163 3 h2 fun p h2 => lsInit p h2 fun h3 => (rok () h3 : Rs Unit)) = rok () h3 := e3
    have q2 : (nwC 163 3 h2 fun p h2 => lsInit p h2 fun h3 => (rok () h3 : Rs Unit)) = rok () h9 := e9
    have : (rok () h3 : Rs Unit) = rok () h9 := q1.symm.trans q2
    have : h3 = h9 := by
      unfold rok at this
      injection this with t1
      injection t1 with t2
      injection t2
    rw [this]; exact u9
  have I3 : TyI W h3 ds AR := TyI_ef u9 sx00 (by simp) I2
  have cz3 : Cz W h2 h3 := Cz_ef u9 (by simp) I2
  have me3 := MeN_ef u3' sxT me
  have zp : kc h (nx h2) = 0 := u2.k0 z3
  have E3 := sig20_e (ps := t.2.2.1) (v3 := nI (metL ((mem (dc ds k)).take i)).length) (v1 := mx (10 + k)) X3 I3 zp u3' k3 l3 (by rw [c3]; decide) me3.1 me3.2.2.2.2.2.2.1 okm.2 dps
  rw [e2, bd_ok, e3, thn_n]
  cases gp : frs (pbd ds AR t.2.2.1) t.2.2.1.length with
  | some pl =>
    rw [gp] at E3
    obtain ⟨h4, e4, u4, w4⟩ := E3
    rw [e4, bd_ex]
    exact ⟨h4, rfl, u4.le (by have := okm.2; omega), w4⟩
  | none =>
    rw [gp] at E3
    obtain ⟨h4, e4, u4, X4, I4, v4, cz4, tc4⟩ := E3
    have s163 : Sx FT [163] := by constructor <;> decide
    have me4 := MeN_ef v4 s163 me3
    have E4 := sig120_e (c := 0) (v := v) (m := a) X4.1 hk hi me4.1 me4.2.2.2.2.2.1
    rw [e4, bd_ok, thn_n]
    by_cases zn : v.2.1 ∈ (metL ((mem (dc ds k)).take i)).map (fun x => x.1.2.1)
    · rw [if_pos zn] at E4 ⊢
      obtain ⟨h5, e5, u5, w5⟩ := E4
      rw [e5, bd_ex]
      exact ⟨h5, rfl, (u4.trans u5).le (by have := okm.2; omega), w5⟩
    · rw [if_neg zn] at E4 ⊢
      obtain ⟨h5, e5, u5, q5⟩ := E4
      subst q5
      have k4 := X4.1.kk (k := 10 + k) (by omega)
      have f363 := k4.2.2.1
      have f364 := k4.2.2.2.1
      rw [dM_hi] at f363 f364
      have eb : (if fr h5 392 a = 0 then f_X4_signature_b191 H (mx (10 + k)) a 0 h5 else f_X4_signature_b191 H (mx (10 + k)) a 1 h5) = f_X4_signature_b191 H (mx (10 + k)) a (if t.2.2.2.isSome = true then 1 else 0) h5 := by
        have bb := me4.2.2.2.2.2.2.2
        cases gb : t.2.2.2 with
        | none =>
          have bb : match t.2.2.2 with | none => fr h5 392 a = 0 | some b => fr h5 392 a ≠ 0 ∧ fi h5 393 a = nI b.1 ∧ LsS h5 (fr h5 392 a) 133 (ItN W) b.2.1 := bb
          rw [gb] at bb
          rw [if_pos bb]; rfl
        | some bo =>
          have bb : match t.2.2.2 with | none => fr h5 392 a = 0 | some b => fr h5 392 a ≠ 0 ∧ fi h5 393 a = nI b.1 ∧ LsS h5 (fr h5 392 a) 133 (ItN W) b.2.1 := bb
          rw [gb] at bb
          rw [if_neg bb.1]; rfl
      rw [e5, bd_ok, ldR_e me4.1, eb, shapeM_e (f := (dc ds k).1) (ab := (dc ds k).2.2.1) (w := t.1) k4.1 f363 f364 ⟨okd.1, okd.2.1⟩ okd.2.2.1 of1 me4.1 me4.2.2.2.1 dt1]
      unfold f_X4_signature_b279
      rw [ldI_e me4.1, me4.2.2.1, if_pos X4.1.2.1.1]
      by_cases sh : shp (dc ds k).1 (dc ds k).2.2.1 t.1 t.2.2.2.isSome = true
      · rw [if_pos sh, if_pos sh, must_e X4.1 z10]
        refine ⟨h5, rfl, u4.le (by have := okm.2; omega), X4, I4, (cz2.trans cz3).trans cz4, ?_, fun b hb => ?_⟩
        · rw [u4.gr me.1 (by decide) (sxT.1 389 (by decide))]
          exact TyC_cz tc2 (cz3.trans cz4) me.2.2.2.2.1.2.2.2.2
        · have := tc4 b hb
          rw [pT_ef u3' sxT me hb] at this
          rw [pT_ef u4 sxT me hb]
          exact this
      · rw [if_neg sh, if_neg sh]
        obtain ⟨h6, e6, u6, w6⟩ := must_no (p := t.2.1) X4.1 u4 ⟨by simp, by simp⟩
        exact ⟨h6, e6 _ _, u6.le (by have := okm.2; omega), w6⟩
/-- constants: each once -/
theorem mem15_e (S : SM W h H tr mx ds) (hk : k < ds.length) (hi : i < (con (dc ds k)).length) :
    OM tr FT [] 1 h (cob ds k i) (fun h' => h' = h) (f_X4_members_l15 H (mx (10 + k)) (nI i) NN (0 : Int32) h) := by
  have k0 := S.kk (k := 10 + k) (by omega)
  have Lc := k0.l373
  rw [dM_hi] at Lc
  have Lc : LsS h (fr h 373 (mx (10 + k))) 136 ToM (con (dc ds k)) := Lc
  have ln := Lc.len
  have c401 : (con (dc ds k)).length ≤ 401 := (S.2.2.1.2 k hk).2.2.1.2.2
  have at' : ∀ j, j < (con (dc ds k)).length → ToM h ((ls h (fr h 373 (mx (10 + k)))).getD j 0) ((con (dc ds k)).getD j ([], 0)) := fun j hj => Lc.2.2.getD hj
  refine loop_NN (n := i) (F := f_X4_members_l15 H (mx (10 + k)) (nI i)) (i := 0) (h := h) (by omega)
    (fun r h' => h' = h ∧ ((con (dc ds k)).getD i ([], 0)).1 ∉ ((con (dc ds k)).take r).map Prod.fst)
    (fun R => OM tr FT [] 1 h (cob ds k i) (fun h' => h' = h) R) ?_ ?_ (Nat.zero_le _) ⟨rfl, by simp⟩
  · rintro N r h1 hr ⟨rfl, hn⟩ next
    have t1 := at' r (by omega)
    have t2 := at' i hi
    rw [f_X4_members_l15_s]
    unfold b_X4_members_l15 f_X4_members_l15b60
    rw [if_neg (sz_no hr (by omega)), ldR_e k0.1, lg_e (Lc.k (by decide) (by decide)) (by omega) (by omega), cast_e t1.1 (by simp), ldR_e t1.1, ldR_e k0.1, lg_e (Lc.k (by decide) (by decide)) (by omega) (by omega), cast_e t2.1 (by simp), ldR_e t2.1, txEq_e ⟨t1.2.1.1, t2.2.1.1⟩, t1.2.1.2, t2.2.1.2]
    by_cases z : ((con (dc ds k)).getD r ([], 0)).1 = ((con (dc ds k)).getD i ([], 0)).1
    · have : ((con (dc ds k)).getD i ([], 0)).1 ∈ ((con (dc ds k)).take i).map Prod.fst := by
        refine List.mem_map.mpr ⟨(con (dc ds k)).getD r ([], 0), ?_, z⟩
        have : ((con (dc ds k)).take i).getD r ([], 0) = (con (dc ds k)).getD r ([], 0) := by
          rw [List.getD_eq_getElem?_getD, List.getElem?_take_of_lt hr, ← List.getD_eq_getElem?_getD]
        rw [← this]
        exact gDm _ (by rw [List.length_take]; omega)
      have cb : cob ds k i = some ((con (dc ds k)).getD i ([], 0)).2 := if_pos this
      obtain ⟨h3, e3, u3, w3⟩ := must_no (p := ((con (dc ds k)).getD i ([], 0)).2) S (Ef.refl S.1 FT []) ⟨by simp, by simp⟩
      rw [if_pos z, if_neg z10, ldR_e k0.1, lg_e (Lc.k (by decide) (by decide)) (by omega) (by omega), cast_e t2.1 (by simp), ldI_e t2.1, t2.2.2, if_pos S.2.1.1, e3, cb]
      exact ⟨h3, rfl, u3.le (by omega), w3⟩
    · rw [if_neg z, if_pos y00, ldR_e k0.1, lg_e (Lc.k (by decide) (by decide)) (by omega) (by omega), cast_e t2.1 (by simp), ldI_e t2.1, if_pos S.2.1.1, must_e S z10, lt3_n]
      refine next h1 ⟨rfl, fun y => ?_⟩
      rw [fst_s (by omega)] at y
      rcases List.mem_append.mp y with y1 | y1
      · exact hn y1
      · exact z (List.mem_singleton.mp y1).symm
  · rintro N h1 ⟨rfl, hn⟩
    have cb : cob ds k i = none := if_neg hn
    rw [f_X4_members_l15_s]
    unfold b_X4_members_l15
    rw [if_pos (sz_le (Nat.le_refl _) (by omega)), cb]
    exact ⟨h1, rfl, (Ef.refl S.1 _ _).le (by omega), rfl⟩
theorem mem2_e (S : SM W h H tr mx ds) (hk : k < ds.length) :
    OM tr FT [] 1 h (frs (cob ds k) (con (dc ds k)).length) (fun h' => h' = h) (f_X4_members_l2 H (mx (10 + k)) NN (0 : Int32) h) := by
  have k0 := S.kk (k := 10 + k) (by omega)
  have Lc := k0.l373
  rw [dM_hi] at Lc
  have Lc : LsS h (fr h 373 (mx (10 + k))) 136 ToM (con (dc ds k)) := Lc
  have ln := Lc.len
  have c401 : (con (dc ds k)).length ≤ 401 := (S.2.2.1.2 k hk).2.2.1.2.2
  refine loop_NN (n := (con (dc ds k)).length) (F := f_X4_members_l2 H (mx (10 + k))) (i := 0) (h := h) (by omega)
    (fun r h' => h' = h ∧ frs (cob ds k) r = none)
    (fun R => OM tr FT [] 1 h (frs (cob ds k) (con (dc ds k)).length) (fun h' => h' = h) R) ?_ ?_ (Nat.zero_le _) ⟨rfl, rfl⟩
  · rintro N r h1 hr ⟨rfl, hn⟩ next
    have E := mem15_e S hk hr
    rw [f_X4_members_l2_s]
    unfold b_X4_members_l2
    rw [ldR_e k0.1, lsSize_e (Lc.k (by decide) (by decide)), ln, if_neg (sz_no hr (by omega))]
    cases g : cob ds k r with
    | some p =>
      rw [g] at E
      obtain ⟨h2, e2, u2, w2⟩ := E
      rw [e2, bd_ex, frs_at hn g hr]
      exact ⟨h2, rfl, u2, w2⟩
    | none =>
      rw [g] at E
      obtain ⟨h2, e2, u2, q2⟩ := E
      subst q2
      rw [e2, bd_ok, lt3_n]
      exact next h2 ⟨rfl, (frs_s hn).trans g⟩
  · rintro N h1 ⟨rfl, hn⟩
    rw [f_X4_members_l2_s]
    unfold b_X4_members_l2
    rw [ldR_e k0.1, lsSize_e (Lc.k (by decide) (by decide)), ln, if_pos (sz_le (Nat.le_refl _) (by omega)), hn]
    exact ⟨h1, rfl, (Ef.refl S.1 _ _).le (by omega), rfl⟩
