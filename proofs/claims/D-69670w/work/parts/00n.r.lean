/-! PHASE B settle 37: the twin: fields of a kind; names -/
set_option maxRecDepth 100000
variable {F K : List Nat} {c : Nat} {h h' h0 : HP} {mx : Nat → Nat} {ds : List DC} {W : Nat → Prop} {H tr L q a j k i p s b : Nat} {AR : AT} {T : Ty} {nm : List Nat} {d : DC} {vs : List Vr}
abbrev FT : List Nat := [131, 132, 383]
def OM (tr : Nat) (F K : List Nat) (c : Nat) (h0 : HP) (o : Option Nat) (P : HP → Prop) (r : Rs Unit) : Prop := match o with
  | none => ∃ h', r = rok () h' ∧ Ef F K c h0 h' ∧ P h'
  | some p => ∃ h', r = rex h' ∧ Ef F K c h0 h' ∧ WrM h' tr p
theorem KdN.l371 (x : KdN W h a k d) : LsS h (fr h 371 a) 138 (VaN W) d.own := by
  obtain ⟨_, _, _, _, _, _, _, _, _, _, y, _⟩ := x
  exact y
theorem KdN.l372 (x : KdN W h a k d) : LsS h (fr h 372 a) 137 (fun h b v => MeN W h b a v) d.met := by
  obtain ⟨_, _, _, _, _, _, _, _, _, _, _, y, _⟩ := x
  exact y
theorem KdN.l373 (x : KdN W h a k d) : LsS h (fr h 373 a) 136 ToM d.2.2.2.2.2.2 := by
  obtain ⟨_, _, _, _, _, _, _, _, _, _, _, _, y, _⟩ := x
  exact y
theorem KdN.l374 (x : KdN W h a k d) : LsS h (fr h 374 a) 135 IvX d.flg := by
  obtain ⟨_, _, _, _, _, _, _, _, _, _, _, _, _, y, _⟩ := x
  exact y
theorem ow_dM (hj : j < 10 + ds.length) : (dM ds j).own = ow ds j := by
  by_cases z : j < 10
  · unfold dM ow; rw [if_pos z, if_pos z]; rfl
  · obtain ⟨k, rfl⟩ : ∃ k, j = 10 + k := ⟨j - 10, by omega⟩
    rw [dM_hi, ow_hi]; rfl
abbrev K159 : List Nat := [159]
theorem sx159 : Sx [] K159 := by constructor <;> decide
theorem sx00 : Sx [] [] := by constructor <;> simp
theorem xm00 : Xm [] [] := ⟨sx00, by simp, by simp⟩
/-- own fields put behind -/
theorem l25_e {R : TY_S10} (S : SM W h H tr mx ds) (hj : j < 10 + ds.length) (u : Ef F K c h0 h) (n0 : kc h0 p = 0) (kp : kc h p = 159) (cq : cp h p ≠ RAW) (A : A2 (VaN W h) (ls h p) vs) (hl : vs.length + (ow ds j).length ≤ 140) :
    ∃ h', f_X4_fieldsOf_l25 R (mx j) p NN (0 : Int32) h = rok () h' ∧ Ef F K (c + 3 * (ow ds j).length) h0 h' ∧ kc h' p = 159 ∧ cp h' p ≠ RAW ∧ A2 (VaN W h') (ls h' p) (vs ++ ow ds j) := by
  refine loop_NN (n := (ow ds j).length) (F := f_X4_fieldsOf_l25 R (mx j) p) (i := 0) (h := h) (by omega)
    (fun i h' => Ef F K (c + 3 * i) h0 h' ∧ Ef [] K159 (3 * i) h h' ∧ cp h' p ≠ RAW ∧ A2 (VaN W h') (ls h' p) (vs ++ (ow ds j).take i))
    (fun R' => ∃ h', R' = rok () h' ∧ Ef F K (c + 3 * (ow ds j).length) h0 h' ∧ kc h' p = 159 ∧ cp h' p ≠ RAW ∧ A2 (VaN W h') (ls h' p) (vs ++ ow ds j)) ?_ ?_ (Nat.zero_le _) ⟨u.le (by omega), Ef.refl S.1 _ _, cq, by simpa using A⟩
  · rintro N i h1 hi ⟨u1, v1, c1, A1⟩ next
    have S1 := SM_ef v1 sx159 S
    have k0 := S1.kk hj
    have L := k0.l371
    have own := ow_dM (ds := ds) hj
    rw [own] at L
    have kp1 : kc h1 p = 159 := v1.kk kp (by decide)
    have va : VaN W h1 ((ls h1 (fr h1 371 (mx j))).getD i 0) ((ow ds j).getD i vr0) := L.2.2.getD hi
    have ln := L.len
    have KL : lsK h1 p := ⟨by rw [kp1]; decide, by rw [kp1]; decide, c1⟩
    have lp := A1.len
    rw [List.length_append, List.length_take] at lp
    rw [f_X4_fieldsOf_l25_s]
    unfold b_X4_fieldsOf_l25
    rw [ldR_e k0.1, lsSize_e (L.k (by decide) (by decide)), ln, if_neg (sz_no hi (by omega)), ldR_e k0.1, lg_e (L.k (by decide) (by decide)) (by omega) (by omega), cast_e va.1 (by simp), lsAdd_e KL (.inr (.inr (.inr (by rw [va.1]; decide)))) (by omega), lt3_n]
    have u2 := Ef_ladb (v := (ls h1 (fr h1 371 (mx j))).getD i 0) (b := 3) u1 kp1 (by decide) (.inl n0) (by omega) (by omega)
    have v2 : Ef [] K159 (0 + 3) h1 (lad h1 p ((ls h1 (fr h1 371 (mx j))).getD i 0)) := Ef_ladb (b := 3) (Ef.refl S1.1 _ _) kp1 (by decide) (.inr (by simp)) (by omega) (by omega)
    refine next _ ⟨u2.le (by omega), (v1.trans v2).le (by omega), (lad_K KL (by omega)).2.2, ?_⟩
    rw [lad_ls, tk_s vr0 hi, ← List.append_assoc]
    exact A2.app (A1.imp fun _ _ _ z => VaN_ef v2 sx159 z) (A2.one (VaN_ef v2 sx159 va))
  · rintro N h1 ⟨u1, v1, c1, A1⟩
    have S1 := SM_ef v1 sx159 S
    have k0 := S1.kk hj
    have L := k0.l371
    rw [ow_dM (ds := ds) hj] at L
    rw [f_X4_fieldsOf_l25_s]
    unfold b_X4_fieldsOf_l25
    rw [ldR_e k0.1, lsSize_e (L.k (by decide) (by decide)), L.len, if_pos (sz_le (Nat.le_refl _) (by omega))]
    rw [List.take_length] at A1
    exact ⟨h1, rfl, u1, v1.kk kp (by decide), c1, A1⟩
/-- what stays in the twin while members are looked at, with parents -/
theorem MK.p375 (x : MK W h H tr L mx ds AR) (hj : j < 10 + ds.length + AR.length) : fr h 375 (mx j) = kxo mx (paF ds ds.length j) := x.2.2.2.2.2.1 j hj
theorem fieldsOf_e (o : ok3 ds) (fl : ∀ j, (fds ds j).length ≤ 140) : ∀ j, j < 10 + ds.length → ∀ f h, (up ds j).length < f → MK W h H tr L mx ds AR →
    ∃ h' p, r_S10 f (mx j) h = rok p h' ∧ Ef [] [] ((up ds j).length + 1 + 3 * (fds ds j).length) h h' ∧ kc h p = 0 ∧ kc h' p = 159 ∧ cp h' p ≠ RAW ∧ A2 (VaN W h') (ls h' p) (fds ds j) := by
  refine up_ind o (fun j g hj f h hf x => ?_) (fun j p g ih hj f h hf x => ?_)
  · obtain ⟨f, rfl⟩ : ∃ f', f = f' + 1 := ⟨f - 1, by omega⟩
    have w := x.1.1
    obtain ⟨h1, e1, u1, k1, l1, c1, z1⟩ := newl (n := 159) w (by decide) [] []
    have x1 := MK_ef u1 xm00 x
    have k0 := x1.1.kk hj
    rw [r_S10_s]
    unfold f_X4_fieldsOf_o f_X4_fieldsOf_b23
    have fq := fl j
    have fe : fds ds j = ow ds j := by unfold fds; rw [fdp_none g]; rfl
    rw [fe] at fq
    obtain ⟨h2, e2, u2, k2, c2, A2'⟩ := l25_e (R := r_S10 f) (vs := []) x1.1 hj u1 w.new k1 (by rw [c1]; decide) (by rw [l1]; exact True.intro) (by simpa using fq)
    rw [e1, ldR_e k0.1, x1.p375 (by omega), g, if_pos (show kxo mx none = 0 from rfl), e2, bd_ok]
    refine ⟨h2, nx h, rfl, u2.le ?_, w.new, k2, c2, by rw [fe]; exact A2'⟩
    rw [fe]; omega
  · obtain ⟨f, rfl⟩ : ∃ f', f = f' + 1 := ⟨f - 1, by omega⟩
    have w := x.1.1
    obtain ⟨_, hp, hp10, _⟩ := pa_un g
    have us := up_some o g
    rw [us, List.length_cons] at hf
    obtain ⟨h1, e1, u1, k1, l1, c1, z1⟩ := newl (n := 159) w (by decide) [] []
    have x1 := MK_ef u1 xm00 x
    have k0 := x1.1.kk hj
    obtain ⟨h2, q, e2, u2, z2, k2, c2, A2'⟩ := ih hp f h1 (by omega) x1
    have x2 := MK_ef u2 xm00 x1
    have u12 := u1.trans u2
    have fe : fds ds j = fds ds p ++ ow ds j := by
      show fdp ds j ++ ow ds j = _
      rw [fdp_some o g]
    have fq := fl j
    rw [fe, List.length_append] at fq
    obtain ⟨h3, e3, u3, k3, c3, A3⟩ := l25_e (R := r_S10 f) x2.1 hj u12 (u1.k0 z2) k2 c2 A2' fq
    rw [r_S10_s]
    unfold f_X4_fieldsOf_o f_X4_fieldsOf_b23
    rw [e1, ldR_e k0.1, x1.p375 (by omega), g, show kxo mx (some p) = mx p from rfl, if_neg (x1.nz (q := p) (by omega)), ldR_e k0.1, x1.p375 (by omega), g, show kxo mx (some p) = mx p from rfl, e2, bd_ok, e3, bd_ok]
    refine ⟨h3, q, rfl, u3.le ?_, u1.k0 z2, k3, c3, by rw [fe]; exact A3⟩
    rw [fe, us, List.length_append, List.length_cons]; omega
/-- a name among variables -/
theorem isAmong_e {k0 : Nat} (kp : kc h p = k0) (hk : 100 ≤ k0 ∧ k0 < 200) (cq : cp h p ≠ RAW) (A : A2 (VaN W h) (ls h p) vs) (hs : StrX h s nm) (hl : vs.length ≤ 10000) :
    f_X4_isAmong p s h = rok (if nm ∈ nms vs then 1 else 0) h := by
  have kL : lsK h p := ⟨by rw [kp]; exact hk.1, by rw [kp]; exact hk.2, cq⟩
  have len := A.len
  have main : f_X4_isAmong_l2 p s NN (nI 0) h = rok (if nm ∈ nms vs then Sum.inl () else Sum.inr ()) h := by
    refine loop_NN (n := vs.length) (F := f_X4_isAmong_l2 p s) (by omega) (fun i h' => h' = h ∧ nm ∉ nms (vs.take i)) (fun r => r = rok (if nm ∈ nms vs then Sum.inl () else Sum.inr ()) h) ?_ ?_ (Nat.zero_le _) ⟨rfl, by simp⟩
    · rintro N i h' hi ⟨rfl, hn⟩ next
      rw [f_X4_isAmong_l2_s]
      unfold b_X4_isAmong_l2
      have va : VaN W h' ((ls h' p).getD i 0) (vs.getD i vr0) := A.getD hi
      obtain ⟨v1, _, t1, t2, _⟩ := va
      have ns := nms_s hi
      rw [lsSize_e kL, len, if_neg (sz_no hi (by omega)), lg_e kL (by omega) (by omega), cast_e v1 (by simp), ldR_e v1, ldR_e t1, txEq_e ⟨t2.1, hs.1⟩, t2.2, hs.2]
      by_cases z : (vs.getD i vr0).2.1 = nm
      · rw [if_pos z, if_neg z10, if_pos (nms_m (gDm vr0 hi) z)]
      · rw [if_neg z, if_pos y00, lt3_n]
        refine next h' ⟨rfl, fun y => ?_⟩
        rw [ns] at y
        rcases List.mem_append.mp y with y1 | y1
        · exact hn y1
        · exact z (List.mem_singleton.mp y1).symm
    · rintro N h' ⟨rfl, hn⟩
      rw [List.take_length] at hn
      rw [f_X4_isAmong_l2_s]
      unfold b_X4_isAmong_l2
      rw [lsSize_e kL, len, if_pos (sz_le (Nat.le_refl _) (by omega)), if_neg hn]
  unfold f_X4_isAmong
  rw [show (0 : Int32) = nI 0 from rfl, main, bd_ok]
  by_cases z : nm ∈ nms vs
  · rw [if_pos z, if_pos z]; rfl
  · rw [if_neg z, if_neg z]; rfl
/-- a kind's name -/
theorem isClass_e (x : MK W h H tr L mx ds AR) (hs : StrX h s nm) (hw : nm ∉ PW) : f_X4_isClassName H s h = rok (if kno ds nm = none then 0 else 1) h := by
  have S := x.1
  have T := x.tb
  have n60 := S.2.2.1.1
  have main : f_X4_isClassName_l3 H s NN (nI 8) h = rok (if kno ds nm = none then Sum.inr () else Sum.inl ()) h := by
    refine loop_NN (n := 10 + ds.length) (F := f_X4_isClassName_l3 H s) (by omega) (fun i h' => h' = h ∧ ∀ j, j < i → (NT ds).getD j [] ≠ nm) (fun r => r = rok (if kno ds nm = none then Sum.inr () else Sum.inl ()) h) ?_ ?_ (by omega) ⟨rfl, fun j hj z => ?_⟩
    · rintro N i h' hi ⟨rfl, hj⟩ next
      rw [f_X4_isClassName_l3_s]
      unfold b_X4_isClassName_l3
      have k0 := S.kk (k := i) hi
      rw [ldI_e S.2.1.1, S.2.1.2.2.2, show (10 : Int32) + nI ds.length = nI (10 + ds.length) from nI_add 10 _, if_neg (sz_no hi (by omega)), T.l53, T.get n60 hi, cast_e k0.1 (by simp), ldR_e k0.1, txEq_e ⟨k0.2.2.2.2.1.1, hs.1⟩, k0.2.2.2.2.1.2, hs.2, dM_nm hi]
      by_cases d : (NT ds).getD i [] = nm
      · have : kno ds nm = some i := fnd_eq (by rw [NT_len]; omega) d hj
        rw [if_pos d, if_neg z10, if_neg (by rw [this]; simp)]
      · rw [if_neg d, if_pos y00, lt3_n]
        exact next h' ⟨rfl, fun j h1 => by
          by_cases z : j = i
          · rw [z]; exact d
          · exact hj j (by omega)⟩
    · rintro N h' ⟨rfl, hj⟩
      rw [f_X4_isClassName_l3_s]
      unfold b_X4_isClassName_l3
      have : kno ds nm = none := fnd_nn (fun j h1 => hj j (by rw [NT_len] at h1; exact h1))
      rw [ldI_e S.2.1.1, S.2.1.2.2.2, show (10 : Int32) + nI ds.length = nI (10 + ds.length) from nI_add 10 _, if_pos (sz_le (Nat.le_refl _) (by omega)), if_pos this]
    · rw [NT_lo (by omega)] at z
      exact hw (by rw [← z]; exact NB_PW j hj)
  unfold f_X4_isClassName
  rw [show (8 : Int32) = nI 8 from rfl, main, bd_ok]
  by_cases z : kno ds nm = none
  · rw [if_pos z, if_pos z]; rfl
  · rw [if_neg z, if_neg z]; rfl
/-- a type that must be there -/
theorem known_e (t : TyN W h a T) (hT : T.2.2 ≤ 8) (x : MK W h H tr L mx ds AR) (i : TyI W h ds AR) (u : Ef FT K c h0 h) :
    OM tr FT K (c + 1) h0 (if res ds AR T = none then some T.2.1 else none) (fun h' => Ef F383 [] 0 h h' ∧ MK W h' H tr L mx ds AR ∧ TyI W h' ds AR ∧ Cz W h h' ∧ TyC h' ds AR a T) (f_X4_known H a h) := by
  obtain ⟨h1, e1, u1, x1, i1, z1, v1⟩ := kot0_e t hT x i
  have t1 := TyN_ef u1 (show Sx F383 [] by constructor <;> decide) t
  have u2 : Ef FT K c h0 h1 := (u.trans (u1.wk (fun _ z => by simp at z ⊢; omega) (fun _ z => by simp at z) (Nat.le_refl _))).le (by omega)
  have N4 := x.2.2.1.1
  unfold f_X4_known
  rw [ldR_e x.2.1.1, x.2.1.2.1, e1, bd_ok]
  cases g : res ds AR T with
  | none =>
    rw [if_pos rfl, if_pos (show kni none < 0 by decide), ldI_e t1.1, t1.2.2.1, if_pos x1.1.2.1.1]
    obtain ⟨h2, e2, u3, w3⟩ := must_no (p := T.2.1) x1.1 u2 ⟨by simp, by simp⟩
    exact ⟨h2, e2 _ _, u3, w3⟩
  | some k =>
    have := res_lt g
    rw [if_neg (by simp), show kni (some k) = nI k from rfl, if_neg (nI_pos (n := k) (by omega)), ldI_e t1.1, t1.2.2.1, if_pos x1.1.2.1.1, must_e x1.1 z10]
    exact ⟨h1, rfl, u2.le (by omega), u1, x1, i1, z1, k, by omega, g, by rw [v1, g]; rfl⟩
