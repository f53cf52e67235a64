/-! PHASE B settle 9: the twin: what is above a kind -/
set_option maxRecDepth 100000
variable {F K : List Nat} {c : Nat} {h h' h0 : HP} {mx : Nat → Nat} {ds : List DC} {W : Nat → Prop} {H tr L Q k : Nat} {as : List Nat} {pa : Nat → Option Nat} {fa : Nat → List Nat}
theorem dM_b {p : Nat} (o : okDs ds) (hp : p < 10 + ds.length) : (dM ds p).1 ≤ 4 := by
  by_cases z : p < 10
  · unfold dM; rw [if_pos z]; exact Nat.zero_le _
  · obtain ⟨j, rfl⟩ : ∃ j, p = 10 + j := ⟨p - 10, by omega⟩
    rw [dM_hi]; exact (o.2 j (by omega)).2.2.2.1.2.1
theorem al95 (hk : k < ds.length) (hfa : fa (10 + k) = []) (S : SM W h H tr mx ds) (T : TbM h H L mx ds.length as) (R : RM h mx (10 + ds.length) pa fa) (u : Ef FRm [134] c h0 h) :
    match frs (badf ds k) (fcd ds k).length with
    | none => ∃ h', f_X4_above_l95 H (mx (10 + k)) NN (nI 0) h = rok () h' ∧ Ef FRm [134] (c + 10 * (fcd ds k).length) h0 h' ∧ SM W h' H tr mx ds ∧ TbM h' H L mx ds.length as ∧ RM h' mx (10 + ds.length) pa (ud fa (10 + k) (fcl ds k))
    | some p => ∃ h', f_X4_above_l95 H (mx (10 + k)) NN (nI 0) h = rex h' ∧ Ef FRm [134] (c + 10 * (fcd ds k).length + 1) h0 h' ∧ WrM h' tr p := by
  have n60 := S.2.2.1.1
  have o := S.2.2.1
  have nF : (fcd ds k).length ≤ 401 := (S.2.2.1.2 k hk).2.2.1.1
  refine loop_NN (n := (fcd ds k).length) (F := f_X4_above_l95 H (mx (10 + k))) (by omega) (fun i h' => Ef FRm [134] (c + 10 * i) h0 h' ∧ SM W h' H tr mx ds ∧ TbM h' H L mx ds.length as ∧ RM h' mx (10 + ds.length) pa (ud fa (10 + k) (fcs ds k i)) ∧ frs (badf ds k) i = none)
    (fun r => match frs (badf ds k) (fcd ds k).length with
    | none => ∃ h', r = rok () h' ∧ Ef FRm [134] (c + 10 * (fcd ds k).length) h0 h' ∧ SM W h' H tr mx ds ∧ TbM h' H L mx ds.length as ∧ RM h' mx (10 + ds.length) pa (ud fa (10 + k) (fcl ds k))
    | some p => ∃ h', r = rex h' ∧ Ef FRm [134] (c + 10 * (fcd ds k).length + 1) h0 h' ∧ WrM h' tr p) ?_ ?_ (Nat.zero_le _) ⟨u.le (by omega), S, T, fun j hj => ?_, rfl⟩
  · rintro N i h1 hi ⟨u1, S1, T1, R1, hn⟩ next
    rw [f_X4_above_l95_s]
    unfold b_X4_above_l95 f_X4_above_l95b162 f_X4_above_l95b163
    have k0 := S1.kk (k := 10 + k) (by omega)
    have kL : LsS h1 (fr h1 370 (mx (10 + k))) 139 ToM (fcd ds k) := by
      have y := k0
      rw [dM_hi] at y
      obtain ⟨_, _, _, _, _, _, _, _, _, y, _⟩ := y
      exact y
    have el : ToM h1 ((ls h1 (fr h1 370 (mx (10 + k)))).getD i 0) ((fcd ds k).getD i ([], 0)) := kL.2.2.getD hi
    have wr : ∀ {B : Rs Unit}, badf ds k i = some ((fcd ds k).getD i ([], 0)).2 → (∀ h2, (∀ (β : Type) (f : HP → Rs β), bd (f_X4_must H 0 (nI ((fcd ds k).getD i ([], 0)).2) h1) (fun _ h2 => f h2) = rex h2) → B = rex h2) →
        (match frs (badf ds k) (fcd ds k).length with
        | none => ∃ h', B = rok () h' ∧ Ef FRm [134] (c + 10 * (fcd ds k).length) h0 h' ∧ SM W h' H tr mx ds ∧ TbM h' H L mx ds.length as ∧ RM h' mx (10 + ds.length) pa (ud fa (10 + k) (fcl ds k))
        | some p => ∃ h', B = rex h' ∧ Ef FRm [134] (c + 10 * (fcd ds k).length + 1) h0 h' ∧ WrM h' tr p) := fun {B} hb hB => by
      obtain ⟨h2, e2, u2, w2⟩ := must_no (p := ((fcd ds k).getD i ([], 0)).2) S1 u1 ⟨by simp, by simp⟩
      rw [frs_at hn hb hi]
      exact ⟨h2, hB h2 e2, u2.le (by omega), w2⟩
    rw [ldR_e k0.1, lsSize_e (kL.k (by decide) (by decide)), kL.len, if_neg (sz_no hi (by omega)), ldR_e k0.1, lg_e (kL.k (by decide) (by decide)) (by rw [kL.len]; exact hi) (by rw [kL.len]; omega), cast_e el.1 (by simp), T1.l53, ldR_e el.1, kindNamed_e S1 T1 el.2.1]
    cases g : kno ds ((fcd ds k).getD i ([], 0)).1 with
    | none =>
      rw [if_pos (show kni none < (10 : Int32) by decide), ldI_e el.1, el.2.2, if_pos T1.1]
      exact wr (by unfold badf; rw [g]) (fun h2 e2 => e2 _ _)
    | some p =>
      have hp := kno_lt g
      have kp := S1.kk hp
      by_cases p10 : p < 10
      · rw [if_pos (show kni (some p) < (10 : Int32) from (lt10 (by omega)).mpr p10), ldI_e el.1, el.2.2, if_pos T1.1]
        exact wr (by unfold badf; rw [g]; exact if_pos (.inl fun z => by have := (so4 o hp).mp z; omega)) (fun h2 e2 => e2 _ _)
      have bp := dM_b o hp
      rw [if_neg (show ¬ kni (some p) < (10 : Int32) from fun z => p10 ((lt10 (by omega)).mp z)), show kni (some p) = nI p from rfl, T1.l53, T1.get n60 hp, cast_e kp.1 (by simp), ldI_e kp.1, kp.2.2.1]
      by_cases f2 : (dM ds p).1 = 2
      · obtain ⟨r1, r2, r3⟩ := R1 (10 + k) (by omega)
        rw [ud_s] at r2
        have A := al173 S1 T1 hk r2 r3 fcs_lt hp (fcs_len k i) (by omega) el u1
        rw [if_pos ((nk _ (c := 2) (C := (2 : Int32)) rfl (by omega) (by omega)).mpr f2), ldI_e el.1, if_pos T1.1, must_e S1 (by decide)]
        by_cases m : p ∈ fcs ds k i
        · rw [if_pos m] at A
          obtain ⟨h2, e2, u2, w2⟩ := A
          rw [show (0 : Int32) = nI 0 from rfl, e2, bd_ex, frs_at hn (p := ((fcd ds k).getD i ([], 0)).2) (by unfold badf; rw [g]; exact if_pos (.inr m)) hi]
          exact ⟨h2, rfl, u2.le (by omega), w2⟩
        · rw [if_neg m] at A
          have l376 := k0.l376
          have KL : lsK h1 (fr h1 376 (mx (10 + k))) := ⟨by rw [l376]; decide, by rw [l376]; decide, r3⟩
          have len2 : (ls h1 (fr h1 376 (mx (10 + k)))).length = i := by rw [r2, List.length_map, fcs_len]
          rw [show (0 : Int32) = nI 0 from rfl, A, bd_ok, ldR_e k0.1, T1.l53, T1.get n60 hp, cast_e kp.1 (by simp), lsAdd_e KL (.inr (.inr (.inr (by rw [kp.1]; decide)))) (by omega), lt3_n]
          have st : Ef FRm [134] (0 + 10) h1 (lad h1 (fr h1 376 (mx (10 + k))) (mx p)) := (Ef.refl S1.1 FRm [134]).lad l376 (by decide) (by decide) (.inr (by simp)) (by omega)
          refine next _ ⟨(u1.trans st).le (by omega), SM_ef st sxM S1, TbM_ef st sxM (by decide) T1, fun j hj => ?_, (frs_s hn).trans (by unfold badf; rw [g]; exact if_neg (fun z => z.elim (fun y => y ((so4 o hp).mpr ⟨by omega, f2⟩)) m))⟩
          obtain ⟨q1, q2, q3⟩ := R1 j hj
          refine ⟨q1, ?_, ?_⟩
          · show ls (lad h1 (fr h1 376 (mx (10 + k))) (mx p)) (fr h1 376 (mx j)) = _
            by_cases z : j = 10 + k
            · rw [z, lad_ls, r2, ud_s, fcs_s, List.map_append, show fcn ds k i = p by unfold fcn; rw [g]; rfl]; rfl
            · unfold lad
              rw [ls_sLc, if_neg (fun y => z (S1.2.2.2.2 j (10 + k) hj (by omega) y)), q2, ud_o z, ud_o z]
          · show cp (lad h1 (fr h1 376 (mx (10 + k))) (mx p)) (fr h1 376 (mx j)) ≠ RAW
            by_cases z : j = 10 + k
            · rw [z]; exact (lad_K KL (by omega)).2.2
            · unfold lad
              rw [cp_sLc, if_neg (fun y => z (S1.2.2.2.2 j (10 + k) hj (by omega) y))]; exact q3
      · rw [if_neg (fun z => f2 ((nk _ (c := 2) (C := (2 : Int32)) rfl (by omega) (by omega)).mp z)), ldI_e el.1, el.2.2, if_pos T1.1]
        exact wr (by unfold badf; rw [g]; exact if_pos (.inl fun z => f2 ((so4 o hp).mp z).2)) (fun h2 e2 => e2 _ _)
  · rintro N h1 ⟨u1, S1, T1, R1, hn⟩
    rw [f_X4_above_l95_s]
    unfold b_X4_above_l95
    have k0 := S1.kk (k := 10 + k) (by omega)
    have kL : LsS h1 (fr h1 370 (mx (10 + k))) 139 ToM (fcd ds k) := by
      have y := k0
      rw [dM_hi] at y
      obtain ⟨_, _, _, _, _, _, _, _, _, y, _⟩ := y
      exact y
    rw [ldR_e k0.1, lsSize_e (kL.k (by decide) (by decide)), kL.len, if_pos (sz_le (Nat.le_refl _) (by omega)), hn]
    exact ⟨h1, rfl, u1, S1, T1, R1⟩
  · obtain ⟨q1, q2, q3⟩ := R j hj
    refine ⟨q1, ?_, q3⟩
    by_cases z : j = 10 + k
    · rw [z, ud_s]; rw [z] at q2; rw [q2, hfa]; rfl
    · rw [ud_o z]; exact q2
theorem above_e (hk : k < ds.length) (hpa : pa (10 + k) = none) (hfa : fa (10 + k) = []) (S : SM W h H tr mx ds) (T : TbM h H L mx ds.length as) (R : RM h mx (10 + ds.length) pa fa) (u : Ef FRm [134] c h0 h) :
    match bad2 ds k with
    | none => ∃ h', f_X4_above H (mx (10 + k)) h = rok () h' ∧ Ef FRm [134] (c + 10 * (fcd ds k).length) h0 h' ∧ SM W h' H tr mx ds ∧ TbM h' H L mx ds.length as ∧ RM h' mx (10 + ds.length) (ud pa (10 + k) (par ds k)) (ud fa (10 + k) (fcl ds k))
    | some p => ∃ h', f_X4_above H (mx (10 + k)) h = rex h' ∧ Ef FRm [134] (c + 10 * (fcd ds k).length + 1) h0 h' ∧ WrM h' tr p := by
  have n60 := S.2.2.1.1
  have o := S.2.2.1
  have k0 := S.kk (k := 10 + k) (by omega)
  have x369 : ToOs h (fr h 369 (mx (10 + k))) (dc ds k).2.2.2.1 := by
    have y := k0
    rw [dM_hi] at y
    obtain ⟨_, _, _, _, _, _, _, _, y, _⟩ := y
    exact y
  have go : ∀ {h1 : HP}, badp ds k = none → SM W h1 H tr mx ds → TbM h1 H L mx ds.length as → RM h1 mx (10 + ds.length) (ud pa (10 + k) (par ds k)) fa → Ef FRm [134] c h0 h1 →
      match bad2 ds k with
      | none => ∃ h', f_X4_above_b93 H (mx (10 + k)) h1 = rok () h' ∧ Ef FRm [134] (c + 10 * (fcd ds k).length) h0 h' ∧ SM W h' H tr mx ds ∧ TbM h' H L mx ds.length as ∧ RM h' mx (10 + ds.length) (ud pa (10 + k) (par ds k)) (ud fa (10 + k) (fcl ds k))
      | some p => ∃ h', f_X4_above_b93 H (mx (10 + k)) h1 = rex h' ∧ Ef FRm [134] (c + 10 * (fcd ds k).length + 1) h0 h' ∧ WrM h' tr p := fun {h1} hb S1 T1 R1 u1 => by
    have A := al95 hk hfa S1 T1 R1 u1
    rw [show bad2 ds k = frs (badf ds k) (fcd ds k).length by unfold bad2; rw [hb]; rfl]
    unfold f_X4_above_b93
    rw [show (0 : Int32) = nI 0 from rfl]
    cases g : frs (badf ds k) (fcd ds k).length with
    | none =>
      rw [g] at A
      obtain ⟨h2, e2, r⟩ := A
      exact ⟨h2, by rw [e2, bd_ok], r⟩
    | some p =>
      rw [g] at A
      obtain ⟨h2, e2, r⟩ := A
      exact ⟨h2, by rw [e2, bd_ex], r⟩
  have same : ∀ {h1 : HP}, par ds k = none → RM h1 mx (10 + ds.length) pa fa → RM h1 mx (10 + ds.length) (ud pa (10 + k) (par ds k)) fa := fun {h1} hp R1 => RM_cg (fun j hj => by
    by_cases z : j = 10 + k
    · rw [z, ud_s, hp, hpa]
    · rw [ud_o z]) (fun _ _ => rfl) R1
  unfold f_X4_above
  rw [ldR_e k0.1]
  cases hx : (dc ds k).2.2.2.1 with
  | none =>
    rw [hx] at x369
    rw [if_pos (show fr h 369 (mx (10 + k)) = 0 from x369)]
    exact go (by unfold badp; rw [hx]) S T (same (by unfold par exk; rw [hx]) R) u
  | some t =>
    rw [hx] at x369
    obtain ⟨n369, To⟩ := x369
    have wr : ∀ {B : Rs Unit}, badp ds k = some t.2 → (∀ h2, (∀ (β : Type) (f : HP → Rs β), bd (f_X4_must H 0 (nI t.2) h) (fun _ h2 => f h2) = rex h2) → B = rex h2) →
        (match bad2 ds k with
        | none => ∃ h', B = rok () h' ∧ Ef FRm [134] (c + 10 * (fcd ds k).length) h0 h' ∧ SM W h' H tr mx ds ∧ TbM h' H L mx ds.length as ∧ RM h' mx (10 + ds.length) (ud pa (10 + k) (par ds k)) (ud fa (10 + k) (fcl ds k))
        | some p => ∃ h', B = rex h' ∧ Ef FRm [134] (c + 10 * (fcd ds k).length + 1) h0 h' ∧ WrM h' tr p) := fun {B} hb hB => by
      obtain ⟨h2, e2, u2, w2⟩ := must_no (p := t.2) S u ⟨by simp, by simp⟩
      rw [show bad2 ds k = some t.2 by unfold bad2; rw [hb]; rfl]
      exact ⟨h2, hB h2 e2, u2.le (by omega), w2⟩
    rw [if_neg n369, ldR_e k0.1, ldR_e To.1, txEq_c S.1 To.2.1.1 To.2.1.2 (p := 30) (by decide) (by decide) rfl]
    by_cases ob : t.1 = codes (cStr.getD (30 - 1) "")
    · have k8 : kno ds t.1 = some 8 := by rw [ob]; exact kno_lo (ds := ds) (k := 8) (by omega)
      rw [if_pos ob, if_neg z10]
      exact go (by unfold badp; rw [hx]; show (match kno ds t.1 with | none => _ | some p => _) = _; rw [k8]; exact if_pos (.inr (so1.mpr rfl))) S T (same (by unfold par exk; rw [hx]; show (match kno ds t.1 with | none => none | some p => _) = _; rw [k8]; exact if_neg (by rw [so1.mpr rfl]; decide)) R) u
    rw [if_neg ob, if_pos y00, T.l53, ldR_e k0.1, ldR_e To.1, kindNamed_e S T To.2.1]
    unfold f_X4_above_b67 f_X4_above_b68
    have n8 : kno ds t.1 ≠ some 8 := fun z => ob (by
      have := (fnd_some z).2.1
      rw [NT_lo (by omega)] at this
      rw [← this]; decide)
    cases g : kno ds t.1 with
    | none =>
      rw [if_pos (show kni none < (10 : Int32) by decide), ldR_e k0.1, ldI_e To.1, To.2.2, if_pos T.1]
      exact wr (by unfold badp; rw [hx]; show (match kno ds t.1 with | none => some t.2 | some p => _) = _; rw [g]) (fun h2 e2 => e2 _ _)
    | some p =>
      have hp := kno_lt g
      have kp := S.kk hp
      have bp := dM_b o hp
      have ex : exk ds k = some p := by unfold exk; rw [hx]; exact g
      have p8 : p ≠ 8 := fun z => n8 (by rw [g, z])
      by_cases p10 : p < 10
      · rw [if_pos (show kni (some p) < (10 : Int32) from (lt10 (by omega)).mpr p10), ldR_e k0.1, ldI_e To.1, To.2.2, if_pos T.1]
        exact wr (by unfold badp; rw [hx]; show (match kno ds t.1 with | none => some t.2 | some p => _) = _; rw [g]; exact if_neg (fun z => z.elim (fun y => by have := (so3 o hp).mp y; omega) (fun y => p8 (so1.mp y)))) (fun h2 e2 => e2 _ _)
      rw [if_neg (show ¬ kni (some p) < (10 : Int32) from fun z => p10 ((lt10 (by omega)).mp z)), show kni (some p) = nI p from rfl, T.l53, T.get n60 hp, cast_e kp.1 (by simp), ldI_e kp.1, kp.2.2.1]
      by_cases f1 : (dM ds p).1 = 1
      · have s3 : so ds p = 3 := (so3 o hp).mpr ⟨by omega, f1⟩
        have pk : par ds k = some p := by unfold par; rw [ex]; exact if_pos s3
        rw [if_pos ((nk _ (c := 1) (C := (1 : Int32)) rfl (by omega) (by omega)).mpr f1), ldR_e k0.1, ldI_e To.1, if_pos T.1, must_e S (by decide), T.l53, T.get n60 hp, cast_e kp.1 (by simp), stR_e k0.1]
        have st : Ef FRm [134] 0 h (sR h 375 (mx (10 + k)) (mx p)) := (Ef.refl S.1 FRm [134]).sR k0.1 (by decide) (.inr (by simp))
        refine go (by unfold badp; rw [hx]; show (match kno ds t.1 with | none => _ | some p => _) = _; rw [g]; exact if_pos (.inl s3)) (SM_ef st sxM S) (TbM_ef st sxM (by decide) T) ?_ (u.trans st)
        rw [pk]
        exact RM_st S (by omega) R
      · rw [if_neg (fun z => f1 ((nk _ (c := 1) (C := (1 : Int32)) rfl (by omega) (by omega)).mp z)), ldR_e k0.1, ldI_e To.1, To.2.2, if_pos T.1]
        exact wr (by unfold badp; rw [hx]; show (match kno ds t.1 with | none => some t.2 | some p => _) = _; rw [g]; exact if_neg (fun z => z.elim (fun y => f1 ((so3 o hp).mp y).2) (fun y => p8 (so1.mp y)))) (fun h2 e2 => e2 _ _)
