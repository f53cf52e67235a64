/-! PHASE B settle 29: the twin: constants' numbers, all types' kinds -/
set_option maxRecDepth 100000
variable {F K : List Nat} {c : Nat} {h h' h0 : HP} {mx : Nat → Nat} {ds : List DC} {W : Nat → Prop} {H tr L q a M y : Nat} {AR : AT} {T : Ty} {TZ TY : List Ty}
theorem lt3_v {β : Type} {v : Int32} {f : Int32 → β} : lt3 v f = f v := rfl
/-- the first constant's number -/
def fkn (ds : List DC) : Nat → Nat
  | 0 => 1
  | k + 1 => fkn ds k + (dc ds k).2.2.2.2.2.2.length
theorem fkn_le (o : okDs ds) : ∀ k, k ≤ ds.length → fkn ds k ≤ 1 + 401 * k := by
  intro k
  induction k with
  | zero => intro _; exact Nat.le_refl _
  | succ k ih =>
    intro hk
    have := ih (by omega)
    have := (o.2 k (by omega)).2.2.1.2.2
    show fkn ds k + _ ≤ _
    omega
def FcM (h : HP) (mx : Nat → Nat) (ds : List DC) (r : Nat) : Prop := ∀ k, k < r → fi h 378 (mx (10 + k)) = nI (fkn ds k)
abbrev F378 : List Nat := [378]
theorem xm378 : Xm F378 [] := ⟨by constructor <;> decide, by decide, by decide⟩
theorem l175_e (x : MK W h H tr L mx ds AR) :
    ∃ h', f_X4_rounds_l175 H M NN (1 : Int32) (0 : Int32) h = rok () h' ∧ Ef F378 [] 0 h h' ∧ MK W h' H tr L mx ds AR ∧ FcM h' mx ds ds.length := by
  have n60 := x.1.2.2.1.1
  exact loop_SN (σ := Int32 × Int32 × HP) (n := ds.length) (G := fun N s => f_X4_rounds_l175 H M N s.1 s.2.1 s.2.2) (by omega)
    (fun d s => s.2.1 = nI d ∧ s.1 = nI (fkn ds d) ∧ Ef F378 [] 0 h s.2.2 ∧ MK W s.2.2 H tr L mx ds AR ∧ FcM s.2.2 mx ds d)
    (fun r => ∃ h', r = rok () h' ∧ Ef F378 [] 0 h h' ∧ MK W h' H tr L mx ds AR ∧ FcM h' mx ds ds.length)
    (fun N d s hd I next => by
      obtain ⟨s1, s2, s3⟩ := s
      obtain ⟨e1, e2, u1, X1, f1⟩ := I
      have e1 : s2 = nI d := e1
      have e2 : s1 = nI (fkn ds d) := e2
      have u1 : Ef F378 [] 0 h s3 := u1
      have X1 : MK W s3 H tr L mx ds AR := X1
      have f1 : FcM s3 mx ds d := f1
      subst e1 e2
      dsimp only
      rw [f_X4_rounds_l175_s]
      unfold b_X4_rounds_l175
      have kd := X1.1.kk (k := 10 + d) (by omega)
      have k0 : kc s3 (mx (10 + d)) = 47 := kd.1
      have u2 : Ef F378 [] 0 s3 (sI s3 378 (mx (10 + d)) (nI (fkn ds d))) := (Ef.refl u1.1 _ _).sI k0 (by decide) (.inr (by simp))
      have X2 := MK_ef u2 xm378 X1
      have kd2 := X2.1.kk (k := 10 + d) (by omega)
      have c373 := kd2.2.2.2.2.2.2.2.2.2.2.2.2.1
      have cn : (dM ds (10 + d)).2.2.2.2.2.2 = (dc ds d).2.2.2.2.2.2 := by rw [dM_hi]
      have fl := fkn_le X1.1.2.2.1 d (by omega)
      have c4 := (X1.1.2.2.1.2 d hd).2.2.1.2.2
      rw [ldI_e X1.1.2.1.1, X1.1.2.1.2.2.2, if_neg (sz_no hd (by omega)), if_pos X1.1.2.1.1, told_e X1.1 X1.tb hd, stI_e k0, if_pos X2.1.2.1.1, told_e X2.1 X2.tb hd, ldR_e kd2.1, lsSize_e (c373.k (by decide) (by decide)), c373.len, cn, nI_add, lt3_v, lt3_n]
      refine next (nI (fkn ds (d + 1)), nI (d + 1), sI s3 378 (mx (10 + d)) (nI (fkn ds d))) ⟨rfl, rfl, u1.trans u2, X2, fun k hk => ?_⟩
      show fi (sI s3 378 (mx (10 + d)) (nI (fkn ds d))) 378 (mx (10 + k)) = _
      rw [fi_sI]
      by_cases z : k = d
      · rw [z, if_pos ⟨rfl, rfl⟩]
      · rw [if_neg (fun w => z (by have := X1.1.inj (i := 10 + k) (j := 10 + d) (by omega) (by omega) w.2; omega))]
        exact f1 k (by omega))
    (fun N s I => by
      obtain ⟨s1, s2, s3⟩ := s
      obtain ⟨e1, e2, u1, X1, f1⟩ := I
      have e1 : s2 = nI ds.length := e1
      have u1 : Ef F378 [] 0 h s3 := u1
      have X1 : MK W s3 H tr L mx ds AR := X1
      have f1 : FcM s3 mx ds ds.length := f1
      subst e1
      dsimp only
      rw [f_X4_rounds_l175_s]
      unfold b_X4_rounds_l175
      rw [ldI_e X1.1.2.1.1, X1.1.2.1.2.2.2, if_pos (sz_le (Nat.le_refl _) (by omega))]
      exact ⟨s3, rfl, u1, X1, f1⟩) (i := 0) (s := ((1 : Int32), (0 : Int32), h)) (Nat.zero_le _) ⟨rfl, rfl, Ef.refl x.1.1 _ _, x, fun k hk => by omega⟩
/-- the types with arrays, in order -/
def TyZ (W : Nat → Prop) (h : HP) (M y : Nat) (TZ : List Ty) : Prop := (kc h M = 46 ∧ fr h 360 M = y) ∧ kc h y = 141 ∧ cp h y ≠ RAW ∧ A2 (TyN W h) (ls h y) TZ ∧ TZ.length ≤ 300 ∧ ∀ T ∈ TZ, T.2.2 ≤ 8
theorem TyZ_ef (u : Ef F K c h h') (s : Sx F K) (x : TyZ W h M y TZ) : TyZ W h' M y TZ := by
  obtain ⟨⟨m1, m2⟩, a, b, d, f⟩ := x
  exact ⟨⟨u.kk m1 (by decide), (u.gr m1 (by decide) (s.1 360 (by decide))).trans m2⟩, u.kk a (by decide), by rw [u.gc a (by decide) (s.2 _ (by decide))]; exact b, by rw [u.gl a (by decide) (s.2 _ (by decide))]; exact d.imp fun _ _ _ z => TyN_ef u s z, f⟩
theorem getD_m {l : List Ty} {i : Nat} (h : i < l.length) : l.getD i ([], 0, 0) ∈ l := by
  rw [List.getD_eq_getElem?_getD, List.getElem?_eq_getElem h]; exact List.getElem_mem h
theorem l214_e (x : MK W h H tr L mx ds []) (t : TyZ W h M y TZ) (i : TyI W h ds []) :
    ∃ h' mx', f_X4_rounds_l214 H M NN (0 : Int32) h = rok () h' ∧ Ef F383 K156 (17 * sdm TZ TZ.length) h h' ∧ MK W h' H tr L mx' ds (resI ds TZ TZ.length) ∧ TyI W h' ds (resI ds TZ TZ.length) ∧ ∀ j, j < 10 + ds.length → mx' j = mx j := by
  have t300 := t.2.2.2.2.1
  refine loop_NN (n := TZ.length) (F := f_X4_rounds_l214 H M) (by omega)
    (fun r h' => ∃ mx', Ef F383 K156 (17 * sdm TZ r) h h' ∧ MK W h' H tr L mx' ds (resI ds TZ r) ∧ TyI W h' ds (resI ds TZ r) ∧ ∀ j, j < 10 + ds.length → mx' j = mx j)
    (fun R => ∃ h' mx', R = rok () h' ∧ Ef F383 K156 (17 * sdm TZ TZ.length) h h' ∧ MK W h' H tr L mx' ds (resI ds TZ TZ.length) ∧ TyI W h' ds (resI ds TZ TZ.length) ∧ ∀ j, j < 10 + ds.length → mx' j = mx j) (fun N r h1 hr I next => ?_) (fun N h1 I => ?_) (i := 0) (h := h) (Nat.zero_le _) ⟨mx, (Ef.refl x.1.1 _ _).le (by omega), x, i, fun _ _ => rfl⟩
  · obtain ⟨mx1, u1, X1, i1, ag⟩ := I
    obtain ⟨⟨m1, m2⟩, t1, t2, t3, t4, t5⟩ := TyZ_ef u1 sx383 t
    have kL : lsK h1 y := ⟨by rw [t1]; decide, by rw [t1]; decide, t2⟩
    have ty : TyN W h1 ((ls h1 y).getD r 0) (TZ.getD r ([], 0, 0)) := t3.getD hr
    have len := t3.len
    rw [f_X4_rounds_l214_s]
    unfold b_X4_rounds_l214
    obtain ⟨h2, mx2, e2, u2, X2, i2, ag2⟩ := kot1_e ty (t5 _ (getD_m hr)) X1 i1
    rw [ldR_e m1, m2, lsSize_e kL, len, if_neg (sz_no hr (by omega)), ldR_e X1.2.1.1, X1.2.1.2.1, ldR_e m1, m2, lg_e kL (by omega) (by omega), cast_e ty.1 (by simp), e2, bd_ok, lt3_n]
    refine next h2 ⟨mx2, (u1.trans u2).le ?_, X2, i2, fun j hj => (ag2 j (by omega)).trans (ag j hj)⟩
    show 17 * sdm TZ r + 17 * _ ≤ 17 * (sdm TZ r + (TZ.getD r ([], 0, 0)).2.2)
    omega
  · obtain ⟨mx1, u1, X1, i1, ag⟩ := I
    obtain ⟨⟨m1, m2⟩, t1, t2, t3, t4, t5⟩ := TyZ_ef u1 sx383 t
    have kL : lsK h1 y := ⟨by rw [t1]; decide, by rw [t1]; decide, t2⟩
    have len := t3.len
    rw [f_X4_rounds_l214_s]
    unfold b_X4_rounds_l214
    rw [ldR_e m1, m2, lsSize_e kL, len, if_pos (sz_le (Nat.le_refl _) (by omega))]
    exact ⟨h1, mx1, rfl, u1, X1, i1, ag⟩
/-- types with no arrays change nothing -/
def resL (ds : List DC) (AR : AT) (l : List Ty) : AT := l.foldl (fun A T => rsA ds.length T.2.2 (kno ds T.1) A) AR
theorem resI_L : ∀ r, r ≤ TY.length → resI ds TY r = resL ds [] (TY.take r) := by
  intro r
  induction r with
  | zero => intro _; rfl
  | succ r ih =>
    intro hr
    have : TY.take (r + 1) = TY.take r ++ [TY.getD r ([], 0, 0)] := by
      rw [List.take_succ, List.getD_eq_getElem?_getD, List.getElem?_eq_getElem (by omega)]; rfl
    rw [resI_s, ih (by omega), this]
    unfold resL
    rw [List.foldl_append]; rfl
theorem resL_f : ∀ {l : List Ty} {AR : AT}, resL ds AR (l.filter fun T => decide (T.2.2 ≠ 0)) = resL ds AR l := by
  intro l
  induction l with
  | nil => intro AR; rfl
  | cons T l ih =>
    intro AR
    by_cases c : T.2.2 = 0
    · rw [List.filter_cons_of_neg (by simp [c]), ih]
      show _ = resL ds (rsA ds.length T.2.2 (kno ds T.1) AR) l
      rw [c]; rfl
    · rw [List.filter_cons_of_pos (by simp [c])]
      show resL ds (rsA ds.length T.2.2 (kno ds T.1) AR) _ = resL ds (rsA ds.length T.2.2 (kno ds T.1) AR) l
      exact ih
theorem resI_f : resI ds (TY.filter fun T => decide (T.2.2 ≠ 0)) (TY.filter fun T => decide (T.2.2 ≠ 0)).length = resI ds TY TY.length := by
  rw [resI_L _ (Nat.le_refl _), resI_L _ (Nat.le_refl _), List.take_length, List.take_length, resL_f]
