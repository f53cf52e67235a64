/-! PHASE B settle 28: the twin: the types' kinds -/
set_option maxRecDepth 100000
variable {F K : List Nat} {c : Nat} {h h' h0 : HP} {mx : Nat → Nat} {ds : List DC} {W : Nat → Prop} {H tr L q a : Nat} {AR : AT} {T : Ty} {o : Option Nat}
theorem lkD_app {n : Nat} {s : AT} : ∀ {d : Nat} {o : Option Nat} {k : Nat}, lkD n AR d o = some k → lkD n (AR ++ s) d o = some k := by
  intro d
  induction d with
  | zero => intro o k h; exact h
  | succ d ih =>
    intro o k h
    cases o with
    | none => cases h
    | some q =>
      have h : lkD n AR d (lkN n AR q) = some k := h
      show lkD n (AR ++ s) d (lkN n (AR ++ s) q) = some k
      cases g : lkN n AR q with
      | none => rw [g, lkD_none] at h; cases h
      | some p =>
        rw [g] at h
        rw [lk_app g]
        exact ih h
/-- what is there is not made again -/
theorem rs_lk {n : Nat} : ∀ {d : Nat} {o : Option Nat} {k : Nat}, lkD n AR d o = some k → rsN n d o AR = some k ∧ rsA n d o AR = AR := by
  intro d
  induction d with
  | zero => intro o k h; exact ⟨h, rfl⟩
  | succ d ih =>
    intro o k h
    cases o with
    | none => cases h
    | some q =>
      have h : lkD n AR d (lkN n AR q) = some k := h
      show rsN n d (mkN n AR q) (mkA n AR q) = some k ∧ rsA n d (mkN n AR q) (mkA n AR q) = AR
      unfold lkN at h
      unfold mkN mkA
      cases g : aix AR q with
      | none => rw [g] at h; rw [show Option.map (10 + n + ·) none = (none : Option Nat) from rfl, lkD_none] at h; cases h
      | some i =>
        rw [g] at h
        exact ih h
/-- the types that were made: what each one knows of its kind -/
def TyI (W : Nat → Prop) (h : HP) (ds : List DC) (AR : AT) : Prop := ∀ a, W a → ∃ T, TyN W h a T ∧ T.2.2 ≤ 8 ∧ (fi h 383 a = -1 ∨ ∃ k, res ds AR T = some k ∧ fi h 383 a = nI k)
theorem TyI_ef (u : Ef F K c h h') (s : Sx F K) (hF : 383 ∉ F) (x : TyI W h ds AR) : TyI W h' ds AR := fun a ha => by
  obtain ⟨T, t, d, z⟩ := x a ha
  exact ⟨T, TyN_ef u s t, d, by rw [u.gi t.1 (by decide) hF]; exact z⟩
theorem TyI_app {s : AT} (x : TyI W h ds AR) : TyI W h ds (AR ++ s) := fun a ha => by
  obtain ⟨T, t, d, z⟩ := x a ha
  exact ⟨T, t, d, z.imp (fun y => y) fun ⟨k, y1, y2⟩ => ⟨k, lkD_app y1, y2⟩⟩
theorem TyN_det {T' : Ty} (x : TyN W h a T) (y : TyN W h a T') (h1 : T.2.2 ≤ 8) (h2 : T'.2.2 ≤ 8) : T.1 = T'.1 ∧ T.2.2 = T'.2.2 := by
  obtain ⟨_, a2, _, a4, _⟩ := x
  obtain ⟨_, b2, _, b4, _⟩ := y
  exact ⟨a2.2.symm.trans b2.2, (nI_eq (by omega) (by omega)).mp (a4.symm.trans b4)⟩
abbrev F383 : List Nat := [383]
abbrev K156 : List Nat := [156]
theorem sx383 : Sx F383 K156 := by constructor <;> decide
theorem xm383 : Xm F383 [] := ⟨by constructor <;> decide, by decide, by decide⟩
/-- a type's kind is kept with it -/
theorem TyI_set (t : TyN W h a T) (hT : T.2.2 ≤ 8) (w : WG h) (i : TyI W h ds AR) : Ef F383 [] 0 h (sI h 383 a (kni (res ds AR T))) ∧ TyI W (sI h 383 a (kni (res ds AR T))) ds AR := by
  have u : Ef F383 [] 0 h (sI h 383 a (kni (res ds AR T))) := (Ef.refl w _ _).sI t.1 (by decide) (.inr (by simp))
  have s : Sx F383 [] := by constructor <;> decide
  refine ⟨u, fun b hb => ?_⟩
  obtain ⟨T1, t1, d1, z1⟩ := i b hb
  by_cases e : b = a
  · subst e
    refine ⟨T, TyN_ef u s t, hT, ?_⟩
    rw [fi_sI, if_pos ⟨rfl, rfl⟩]
    cases g : res ds AR T with
    | none => exact .inl rfl
    | some k => exact .inr ⟨k, rfl, rfl⟩
  · refine ⟨T1, TyN_ef u s t1, d1, ?_⟩
    rw [fi_sI, if_neg (fun y => e y.2)]
    exact z1
theorem l24L (t : TyN W h a T) (hT : T.2.2 ≤ 8) (x : MK W h H tr L mx ds AR) (ho : ∀ q, o = some q → q < 10 + ds.length + AR.length) :
    f_X4_kindOfType_l24 L a 0 NN (kni o) (nI 0) h = rok (kni (lkD ds.length AR T.2.2 o)) h := by
  have N4 := x.2.2.1.1
  exact loop_SN (σ := Int32 × Int32 × HP) (n := T.2.2) (G := fun N s => f_X4_kindOfType_l24 L a 0 N s.1 s.2.1 s.2.2) (by omega)
    (fun d s => ∃ o', s.2.1 = nI d ∧ s.1 = kni o' ∧ s.2.2 = h ∧ (∀ q, o' = some q → q < 10 + ds.length + AR.length) ∧ lkD ds.length AR (T.2.2 - d) o' = lkD ds.length AR T.2.2 o)
    (fun r => r = rok (kni (lkD ds.length AR T.2.2 o)) h)
    (fun N d s hd I next => by
      obtain ⟨s1, s2, s3⟩ := s
      obtain ⟨o', e1, e2, e3, ho1, r1⟩ := I
      have e1 : s2 = nI d := e1
      have e2 : s1 = kni o' := e2
      subst e1 e2
      have e3 : s3 = h := e3
      dsimp only
      rw [e3, f_X4_kindOfType_l24_s]
      unfold b_X4_kindOfType_l24 f_X4_kindOfType_l24b54
      rw [ldI_e t.1, t.2.2.2.1, if_neg (sz_no hd (by omega))]
      cases o' with
      | none =>
        rw [lkD_none] at r1
        rw [if_pos (show kni none < 0 by decide), ← r1]
      | some q =>
        have hq := ho1 q rfl
        obtain ⟨t', ht⟩ : ∃ t, T.2.2 - d = t + 1 := ⟨T.2.2 - d - 1, by omega⟩
        rw [show kni (some q) = nI q from rfl, if_neg (nI_pos (n := q) (by omega)), if_pos y00, MarrayOf x hq, lt3_n]
        refine next (kni (lkN ds.length AR q), nI (d + 1), h) ⟨lkN ds.length AR q, rfl, rfl, rfl, fun p hp => lk_lt hp, ?_⟩
        rw [← r1, ht, show T.2.2 - (d + 1) = t' by omega]; rfl)
    (fun N s I => by
      obtain ⟨s1, s2, s3⟩ := s
      obtain ⟨o', e1, e2, e3, ho1, r1⟩ := I
      have e1 : s2 = nI T.2.2 := e1
      have e2 : s1 = kni o' := e2
      subst e1 e2
      have e3 : s3 = h := e3
      dsimp only
      rw [e3, f_X4_kindOfType_l24_s]
      unfold b_X4_kindOfType_l24
      rw [ldI_e t.1, t.2.2.2.1, if_pos (sz_le (Nat.le_refl _) (by omega))]
      rw [Nat.sub_self] at r1
      have r1' : o' = lkD ds.length AR T.2.2 o := r1
      rw [r1']) (i := 0) (s := (kni o, nI 0, h)) (Nat.zero_le _) ⟨o, rfl, rfl, rfl, ho, rfl⟩
theorem l24M (t : TyN W h a T) (hT : T.2.2 ≤ 8) (x : MK W h H tr L mx ds AR) (ho : ∀ q, o = some q → q < 10 + ds.length + AR.length) :
    ∃ h' mx', f_X4_kindOfType_l24 L a 1 NN (kni o) (nI 0) h = rok (kni (rsN ds.length T.2.2 o AR)) h' ∧ Ef [] K156 (17 * T.2.2) h h' ∧ MK W h' H tr L mx' ds (rsA ds.length T.2.2 o AR) ∧ ∀ j, j < 10 + ds.length + AR.length → mx' j = mx j := by
  exact loop_SN (σ := Int32 × Int32 × HP) (n := T.2.2) (G := fun N s => f_X4_kindOfType_l24 L a 1 N s.1 s.2.1 s.2.2) (by omega)
    (fun d s => ∃ mx' AR' o', s.2.1 = nI d ∧ s.1 = kni o' ∧ Ef [] K156 (17 * d) h s.2.2 ∧ MK W s.2.2 H tr L mx' ds AR' ∧ (∀ q, o' = some q → q < 10 + ds.length + AR'.length) ∧ AR.length ≤ AR'.length ∧ (∀ j, j < 10 + ds.length + AR.length → mx' j = mx j) ∧ rsN ds.length (T.2.2 - d) o' AR' = rsN ds.length T.2.2 o AR ∧ rsA ds.length (T.2.2 - d) o' AR' = rsA ds.length T.2.2 o AR)
    (fun r => ∃ h' mx', r = rok (kni (rsN ds.length T.2.2 o AR)) h' ∧ Ef [] K156 (17 * T.2.2) h h' ∧ MK W h' H tr L mx' ds (rsA ds.length T.2.2 o AR) ∧ (∀ j, j < 10 + ds.length + AR.length → mx' j = mx j))
    (fun N d s hd I next => by
      obtain ⟨s1, s2, s3⟩ := s
      obtain ⟨mx', AR', o', e1, e2, u1, X1, ho1, hl, ag, r1, r2⟩ := I
      have e1 : s2 = nI d := e1
      have e2 : s1 = kni o' := e2
      have u1 : Ef [] K156 (17 * d) h s3 := u1
      have X1 : MK W s3 H tr L mx' ds AR' := X1
      subst e1 e2
      dsimp only
      rw [f_X4_kindOfType_l24_s]
      unfold b_X4_kindOfType_l24 f_X4_kindOfType_l24b54
      have t1 := TyN_ef u1 sx156 t
      rw [ldI_e t1.1, t1.2.2.2.1, if_neg (sz_no hd (by omega))]
      cases o' with
      | none =>
        rw [if_pos (show kni none < 0 by decide)]
        rw [rsN_none] at r1
        rw [rsA_none] at r2
        refine ⟨s3, mx', ?_, u1.le (by omega), by rw [← r2]; exact X1, ag⟩
        rw [← r1]
      | some q =>
        have hq := ho1 q rfl
        have N4 := X1.2.2.1.1
        obtain ⟨h2, mx2, g1, u2, X2, ag2⟩ := arrayMade_e X1 hq
        rw [show kni (some q) = nI q from rfl, if_neg (nI_pos (n := q) (by omega)), if_neg z10, g1, bd_ok, lt3_n]
        obtain ⟨t', ht⟩ : ∃ t, T.2.2 - d = t + 1 := ⟨T.2.2 - d - 1, by omega⟩
        obtain ⟨s, hs⟩ := mkA_x ds.length AR' q
        refine next (kni (mkN ds.length AR' q), nI (d + 1), h2) ⟨mx2, mkA ds.length AR' q, mkN ds.length AR' q, rfl, rfl, (u1.trans u2).le (by omega), X2, fun p hp => mkN_lt hp, by rw [hs, List.length_append]; omega, fun j hj => (ag2 j (by omega)).trans (ag j hj), ?_, ?_⟩
        · rw [← r1, ht, show T.2.2 - (d + 1) = t' by omega]; rfl
        · rw [← r2, ht, show T.2.2 - (d + 1) = t' by omega]; rfl)
    (fun N s I => by
      obtain ⟨s1, s2, s3⟩ := s
      obtain ⟨mx', AR', o', e1, e2, u1, X1, ho1, hl, ag, r1, r2⟩ := I
      have e1 : s2 = nI T.2.2 := e1
      have e2 : s1 = kni o' := e2
      have u1 : Ef [] K156 (17 * T.2.2) h s3 := u1
      have X1 : MK W s3 H tr L mx' ds AR' := X1
      subst e1 e2
      dsimp only
      rw [f_X4_kindOfType_l24_s]
      unfold b_X4_kindOfType_l24
      have t1 := TyN_ef u1 sx156 t
      rw [ldI_e t1.1, t1.2.2.2.1, if_pos (sz_le (Nat.le_refl _) (by omega))]
      rw [Nat.sub_self] at r1 r2
      have r1' : o' = rsN ds.length T.2.2 o AR := r1
      have r2' : AR' = rsA ds.length T.2.2 o AR := r2
      exact ⟨s3, mx', by rw [r1'], u1, by rw [← r2']; exact X1, ag⟩) (i := 0) (s := (kni o, nI 0, h)) (Nat.zero_le _) ⟨mx, AR, o, rfl, rfl, Ef.refl x.1.1 _ _, x, ho, Nat.le_refl _, fun _ _ => rfl, rfl, rfl⟩
/-- what a type knows: nothing, or its kind -/
theorem TyI_at (t : TyN W h a T) (hT : T.2.2 ≤ 8) (i : TyI W h ds AR) : fi h 383 a = -1 ∨ ∃ k, res ds AR T = some k ∧ fi h 383 a = nI k := by
  obtain ⟨T1, t1, d1, z1⟩ := i a t.2.2.2.2
  obtain ⟨e1, e2⟩ := TyN_det t1 t d1 hT
  rcases z1 with y | ⟨k, y1, y2⟩
  · exact .inl y
  · refine .inr ⟨k, ?_, y2⟩
    show lkD ds.length AR T.2.2 (kno ds T.1) = some k
    rw [← e1, ← e2]; exact y1
theorem res_lt {k : Nat} (y : res ds AR T = some k) : k < 10 + ds.length + AR.length := lkD_lt kno_N y
/-- what a type knows it keeps -/
def Cz (W : Nat → Prop) (h h' : HP) : Prop := ∀ b k, W b → k < 500 → fi h 383 b = nI k → fi h' 383 b = nI k
theorem Cz.refl : Cz W h h := fun _ _ _ _ z => z
theorem Cz.trans {h1 h2 h3 : HP} (a : Cz W h1 h2) (b : Cz W h2 h3) : Cz W h1 h3 := fun x k w hk z => b x k w hk (a x k w hk z)
theorem Cz_ef (u : Ef F K c h h') (hF : 383 ∉ F) (i : TyI W h ds AR) : Cz W h h' := fun b k w _ z => by
  obtain ⟨T, t, _⟩ := i b w
  exact (u.gi t.1 (by decide) hF).trans z
/-- a type that knows its kind -/
def TyC (h : HP) (ds : List DC) (AR : AT) (a : Nat) (T : Ty) : Prop := ∃ k, k < 500 ∧ res ds AR T = some k ∧ fi h 383 a = nI k
theorem TyC_cz (x : TyC h ds AR a T) (z : Cz W h h') (w : W a) : TyC h' ds AR a T := by
  obtain ⟨k, x1, x2, x3⟩ := x
  exact ⟨k, x1, x2, z a k w x1 x3⟩
theorem kot0_e (t : TyN W h a T) (hT : T.2.2 ≤ 8) (x : MK W h H tr L mx ds AR) (i : TyI W h ds AR) :
    ∃ h', f_X4_kindOfType L a 0 h = rok (kni (res ds AR T)) h' ∧ Ef F383 [] 0 h h' ∧ MK W h' H tr L mx ds AR ∧ TyI W h' ds AR ∧ Cz W h h' ∧ fi h' 383 a = kni (res ds AR T) := by
  unfold f_X4_kindOfType
  rw [ldI_e t.1]
  have N4 := x.2.2.1.1
  rcases TyI_at t hT i with y | ⟨k, y1, y2⟩
  · obtain ⟨u, i2⟩ := TyI_set t hT x.1.1 i
    rw [y, if_pos (by decide), ldR_e t.1, x.named t.2.1, show f_X4_kindOfType_l24 L a 0 NN (kni (kno ds T.1)) 0 h = rok (kni (res ds AR T)) h from l24L (o := kno ds T.1) t hT x kno_N, bd_ok, stI_e t.1]
    refine ⟨_, rfl, u, MK_ef u xm383 x, i2, fun b k w hk z => ?_, by rw [fi_sI, if_pos ⟨rfl, rfl⟩]⟩
    rw [fi_sI]
    by_cases e : b = a
    · rw [e, y] at z
      exact absurd (show nI k < 0 by rw [← z]; decide) (nI_pos (n := k) (by omega))
    · rw [if_neg (fun w => e w.2)]; exact z
  · have := res_lt y1
    rw [y2, if_neg (nI_pos (n := k) (by omega)), ldI_e t.1, y2]
    exact ⟨h, by rw [y1]; rfl, Ef.refl x.1.1 _ _, x, i, Cz.refl, by rw [y2, y1]; rfl⟩
theorem kot1_e (t : TyN W h a T) (hT : T.2.2 ≤ 8) (x : MK W h H tr L mx ds AR) (i : TyI W h ds AR) :
    ∃ h' mx', f_X4_kindOfType L a 1 h = rok (kni (rsN ds.length T.2.2 (kno ds T.1) AR)) h' ∧ Ef F383 K156 (17 * T.2.2) h h' ∧ MK W h' H tr L mx' ds (rsA ds.length T.2.2 (kno ds T.1) AR) ∧ TyI W h' ds (rsA ds.length T.2.2 (kno ds T.1) AR) ∧ ∀ j, j < 10 + ds.length + AR.length → mx' j = mx j := by
  unfold f_X4_kindOfType
  rw [ldI_e t.1]
  have N4 := x.2.2.1.1
  rcases TyI_at t hT i with y | ⟨k, y1, y2⟩
  · obtain ⟨h1, mx1, e1, u1, x1, ag⟩ := l24M (o := kno ds T.1) t hT x kno_N
    obtain ⟨_, f1, f2, s, f3⟩ := rs_fin (n := ds.length) (d := T.2.2) (o := kno ds T.1) x.2.2.1 kno_N
    have t1 := TyN_ef u1 sx156 t
    have i1 : TyI W h1 ds (rsA ds.length T.2.2 (kno ds T.1) AR) := by rw [f3]; exact TyI_app (TyI_ef u1 sx156 (by simp) i)
    obtain ⟨u2, i2⟩ := TyI_set t1 hT x1.1.1 i1
    rw [y, if_pos (by decide), ldR_e t.1, x.named t.2.1, show (0 : Int32) = nI 0 from rfl, e1, bd_ok, stI_e t1.1]
    rw [show res ds (rsA ds.length T.2.2 (kno ds T.1) AR) T = rsN ds.length T.2.2 (kno ds T.1) AR from f2] at u2 i2
    have u1' : Ef F383 K156 (17 * T.2.2) h h1 := u1.wk (fun _ z => by simp at z) (fun _ z => z) (Nat.le_refl _)
    have u2' : Ef F383 K156 0 h1 _ := u2.wk (fun _ z => z) (fun _ z => by simp at z) (Nat.le_refl _)
    exact ⟨_, mx1, rfl, (u1'.trans u2').le (by omega), MK_ef u2 xm383 x1, i2, ag⟩
  · have := res_lt y1
    obtain ⟨g1, g2⟩ := rs_lk (n := ds.length) (d := T.2.2) (o := kno ds T.1) y1
    rw [y2, if_neg (nI_pos (n := k) (by omega)), ldI_e t.1, y2, g1, g2]
    exact ⟨h, mx, rfl, (Ef.refl x.1.1 _ _).le (by omega), x, i, fun _ _ => rfl⟩
