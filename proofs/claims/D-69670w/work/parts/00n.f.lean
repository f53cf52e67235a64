/-! PHASE B settle 25: the component: the types' kinds -/
set_option maxRecDepth 100000
variable {F K : List Nat} {c : Nat} {h h' h0 : HP} {e : EE} {kx ax : Nat → Nat} {ds : List DC} {C DL kl q : Nat} {AR : AT} {D : List (List Nat)} {TY : List Ty}
theorem lk_lt {n q k : Nat} (h : lkN n AR q = some k) : k < 10 + n + AR.length := by
  unfold lkN at h
  cases g : aix AR q with
  | none => rw [g] at h; cases h
  | some i =>
    rw [g] at h
    have := (aix_some g).1
    cases h
    show 10 + n + i < _
    omega
theorem lkD_lt {n : Nat} : ∀ {d : Nat} {o : Option Nat} {k : Nat}, (∀ q, o = some q → q < 10 + n + AR.length) → lkD n AR d o = some k → k < 10 + n + AR.length := by
  intro d
  induction d with
  | zero => intro o k ho h; exact ho k h
  | succ d ih =>
    intro o k ho h
    cases o with
    | none => cases h
    | some q => exact ih (fun p hp => lk_lt hp) h
theorem kxo_cg {kx' : Nat → Nat} {o : Option Nat} {m : Nat} (ho : ∀ k, o = some k → k < m) (hk : ∀ j, j < m → kx' j = kx j) : kxo kx' o = kxo kx o := by
  cases o with
  | none => rfl
  | some k => exact hk k (ho k rfl)
/-- the types' kinds of arrays after the first r types -/
def resI (ds : List DC) (TY : List Ty) : Nat → AT
  | 0 => []
  | r + 1 => rsA ds.length (TY.getD r ([], 0, 0)).2.2 (kno ds (TY.getD r ([], 0, 0)).1) (resI ds TY r)
abbrev res (ds : List DC) (AR : AT) (T : Ty) : Option Nat := lkD ds.length AR T.2.2 (kno ds T.1)
theorem resI_s (r : Nat) : resI ds TY (r + 1) = rsA ds.length (TY.getD r ([], 0, 0)).2.2 (kno ds (TY.getD r ([], 0, 0)).1) (resI ds TY r) := rfl
theorem mkN_no (h : mkN ds.length AR q = none) : mkA ds.length AR q = AR := by
  unfold mkN at h
  unfold mkA
  cases g : aix AR q with
  | some i => rfl
  | none =>
    simp only [g] at h
    split at h
    · rename_i z; exact if_pos z
    · cases h
/-- a type's kind is made -/
theorem l40_e {a T : Nat} {v0 : Nat} {v3 : Int32} {o : Option Nat} (ka : kc h a = 14) (fa : fi h 172 a = nI T) (hT : T ≤ 8) (x : XK e h C DL kl kx ax ds AR D) (ho : ∀ q, o = some q → q < 10 + ds.length + AR.length) :
    ∃ h' kx' D', f_X10_resolve_l40 v0 C 1 v3 a NN (kxo kx o) (nI 0) h = rok (kxo kx' (rsN ds.length T o AR)) h' ∧ Ef F37 K12 (42 * T) h h' ∧ XK e h' C DL kl kx' ax ds (rsA ds.length T o AR) D' ∧ (∀ j, j < 10 + ds.length + AR.length → kx' j = kx j) := by
  exact loop_SN (σ := Nat × Int32 × HP) (n := T) (G := fun N s => f_X10_resolve_l40 v0 C 1 v3 a N s.1 s.2.1 s.2.2) (by omega)
    (fun d s => ∃ kx' D' AR' o', s.2.1 = nI d ∧ s.1 = kxo kx' o' ∧ Ef F37 K12 (42 * d) h s.2.2 ∧ XK e s.2.2 C DL kl kx' ax ds AR' D' ∧ (∀ q, o' = some q → q < 10 + ds.length + AR'.length) ∧ AR.length ≤ AR'.length ∧ (∀ j, j < 10 + ds.length + AR.length → kx' j = kx j) ∧ rsN ds.length (T - d) o' AR' = rsN ds.length T o AR ∧ rsA ds.length (T - d) o' AR' = rsA ds.length T o AR)
    (fun r => ∃ h' kx' D', r = rok (kxo kx' (rsN ds.length T o AR)) h' ∧ Ef F37 K12 (42 * T) h h' ∧ XK e h' C DL kl kx' ax ds (rsA ds.length T o AR) D' ∧ (∀ j, j < 10 + ds.length + AR.length → kx' j = kx j))
    (fun N d s hd I next => by
      obtain ⟨s1, s2, s3⟩ := s
      obtain ⟨kx', D', AR', o', e1, e2, u1, X1, ho1, hl, ag, r1, r2⟩ := I
      have e1 : s2 = nI d := e1
      have e2 : s1 = kxo kx' o' := e2
      have u1 : Ef F37 K12 (42 * d) h s3 := u1
      have X1 : XK e s3 C DL kl kx' ax ds AR' D' := X1
      subst e1 e2
      dsimp only
      rw [f_X10_resolve_l40_s]
      unfold b_X10_resolve_l40 f_X10_resolve_l40b73
      have ka1 : kc s3 a = 14 := u1.kk ka (by decide)
      have fa1 : fi s3 172 a = nI T := (u1.gi ka (by decide) (by decide)).trans fa
      rw [ldI_e ka1, fa1, if_neg (sz_no hd (by omega))]
      cases o' with
      | none =>
        rw [if_pos (show kxo kx' none = 0 from rfl)]
        rw [rsN_none] at r1
        rw [rsA_none] at r2
        refine ⟨s3, kx', D', ?_, u1.le (by omega), by rw [← r2]; exact X1, ag⟩
        rw [← r1]
      | some q =>
        have hq := ho1 q rfl
        obtain ⟨h2, kx2, D2, g1, u2, X2, ag2⟩ := arrayOf_e X1 hq
        rw [show kxo kx' (some q) = kx' q from rfl, if_neg (X1.nz hq), if_neg z10, if_pos X1.1.2.2.2.2.2.2.2, g1, bd_ok, lt3_n]
        obtain ⟨t, ht⟩ : ∃ t, T - d = t + 1 := ⟨T - d - 1, by omega⟩
        obtain ⟨s, hs⟩ := mkA_x ds.length AR' q
        refine next (kxo kx2 (mkN ds.length AR' q), nI (d + 1), h2) ⟨kx2, D2, mkA ds.length AR' q, mkN ds.length AR' q, rfl, rfl, (u1.trans u2).le (by omega), X2, fun p hp => mkN_lt hp, by rw [hs, List.length_append]; omega, fun j hj => (ag2 j (by omega)).trans (ag j hj), ?_, ?_⟩
        · rw [← r1, ht, show T - (d + 1) = t by omega]; rfl
        · rw [← r2, ht, show T - (d + 1) = t by omega]; rfl)
    (fun N s I => by
      obtain ⟨s1, s2, s3⟩ := s
      obtain ⟨kx', D', AR', o', e1, e2, u1, X1, ho1, hl, ag, r1, r2⟩ := I
      have e1 : s2 = nI T := e1
      have e2 : s1 = kxo kx' o' := e2
      have u1 : Ef F37 K12 (42 * T) h s3 := u1
      have X1 : XK e s3 C DL kl kx' ax ds AR' D' := X1
      subst e1 e2
      dsimp only
      rw [f_X10_resolve_l40_s]
      unfold b_X10_resolve_l40
      have ka1 : kc s3 a = 14 := u1.kk ka (by decide)
      have fa1 : fi s3 172 a = nI T := (u1.gi ka (by decide) (by decide)).trans fa
      rw [ldI_e ka1, fa1, if_pos (sz_le (Nat.le_refl _) (by omega))]
      rw [Nat.sub_self] at r1 r2
      have r1' : o' = rsN ds.length T o AR := r1
      have r2' : AR' = rsA ds.length T o AR := r2
      exact ⟨s3, kx', D', by rw [r1'], u1, by rw [← r2']; exact X1, ag⟩) (i := 0) (s := (kxo kx o, nI 0, h)) (Nat.zero_le _) ⟨kx, D, AR, o, rfl, rfl, Ef.refl x.1.1 _ _, x, ho, Nat.le_refl _, fun _ _ => rfl, rfl, rfl⟩
/-- the list of types -/
def TyL (e : EE) (h : HP) (TY : List Ty) : Prop := kc h e.tl = 106 ∧ cp h e.tl ≠ RAW ∧ A2 (TyX h) (ls h e.tl) TY ∧ TY.length ≤ 300
theorem TyL_ef (u : Ef F K c h h') (s : Sx F K) (x : TyL e h TY) : TyL e h' TY := by
  obtain ⟨a, b, d, f⟩ := x
  exact ⟨u.kk a (by decide), by rw [u.gc a (by decide) (s.2 _ (by decide))]; exact b, by rw [u.gl a (by decide) (s.2 _ (by decide))]; exact d.imp fun _ _ _ z => TyX_ef u s z, f⟩
def sdm (TY : List Ty) (r : Nat) : Nat := sm (fun r => (TY.getD r ([], 0, 0)).2.2) r
abbrev FRs : List Nat := [37, 173]
theorem sxRs : Sx FRs K12 := by constructor <;> decide
/-- the first r types know their kinds -/
def RsX (e : EE) (h : HP) (kx : Nat → Nat) (ds : List DC) (TY : List Ty) (AR : AT) (r : Nat) : Prop := ∀ i, i < r → fr h 173 ((ls h e.tl).getD i 0) = kxo kx (res ds AR (TY.getD i ([], 0, 0))) ∧ fin ds.length AR (TY.getD i ([], 0, 0)).2.2 (kno ds (TY.getD i ([], 0, 0)).1)
theorem kno_N {nm : List Nat} : ∀ q, kno ds nm = some q → q < 10 + ds.length + AR.length := fun q hq => by
  have := kno_lt hq; omega
theorem resolve_e (x : XK e h C DL kl kx ax ds [] D) (t : TyL e h TY) :
    ∃ h' kx' D', f_X10_resolve e.P C 1 h = rok () h' ∧ Ef FRs K12 (42 * sdm TY TY.length) h h' ∧ XK e h' C DL kl kx' ax ds (resI ds TY TY.length) D' ∧ RsX e h' kx' ds TY (resI ds TY TY.length) TY.length ∧ ∀ j, j < 10 + ds.length → kx' j = kx j := by
  have t300 := t.2.2.2
  have main := loop_NN (n := TY.length) (F := f_X10_resolve_l2 e.P C 1) (by omega)
    (fun r h' => ∃ kx' D', Ef FRs K12 (42 * sdm TY r) h h' ∧ XK e h' C DL kl kx' ax ds (resI ds TY r) D' ∧ RsX e h' kx' ds TY (resI ds TY r) r ∧ ∀ j, j < 10 + ds.length → kx' j = kx j)
    (fun R => ∃ h' kx' D', R = rok () h' ∧ Ef FRs K12 (42 * sdm TY TY.length) h h' ∧ XK e h' C DL kl kx' ax ds (resI ds TY TY.length) D' ∧ RsX e h' kx' ds TY (resI ds TY TY.length) TY.length ∧ ∀ j, j < 10 + ds.length → kx' j = kx j) (fun N r h1 hr I next => by
      obtain ⟨kx1, D1, u1, X1, R1, ag⟩ := I
      have t1 := TyL_ef u1 sxRs t
      have kL : lsK h1 e.tl := ⟨by rw [t1.1]; decide, by rw [t1.1]; decide, t1.2.1⟩
      have len : (ls h1 e.tl).length = TY.length := t1.2.2.1.len
      have ty : TyX h1 ((ls h1 e.tl).getD r 0) (TY.getD r ([], 0, 0)) := t1.2.2.1.getD hr
      have kP : kc h1 e.P ∈ ksParser := by rw [X1.1.2.1.1]; decide
      rw [f_X10_resolve_l2_s]
      unfold b_X10_resolve_l2 f_X10_resolve_l2b81
      generalize hT : TY.getD r ([], 0, 0) = T at *
      generalize ha : (ls h1 e.tl).getD r 0 = a at *
      obtain ⟨y1, y2, y3, y4, y5, y6⟩ := ty
      obtain ⟨h2, kx2, D2, e2, u2, X2, ag2⟩ := l40_e (v0 := e.P) (v3 := nI r) y1 y5 y6 X1 (o := kno ds T.1) kno_N
      have ka2 : kc h2 a = 14 := u2.kk y1 (by decide)
      rw [ldMR_e kP, X1.1.2.1.2.2.2.2.1, lsSize_e kL, len, if_neg (sz_no hr (by omega)), ldMR_e kP, X1.1.2.1.2.2.2.2.1, lg_e kL (by omega) (by omega), ha, cast_e y1 (by simp), ldR_e y1, if_pos X1.1.2.2.2.2.2.2.2, X1.named ⟨y2, y3⟩, bd_ok, show (0 : Int32) = nI 0 from rfl, e2, bd_ok, stR_e ka2, lt3_n]
      have u2' : Ef FRs K12 (42 * T.2.2) h1 h2 := u2.wk (fun f z => by simp at z ⊢; exact .inl z) (fun _ z => z) (Nat.le_refl _)
      have u3' : Ef [173] [] 0 h2 (sR h2 173 a (kxo kx2 (rsN ds.length T.2.2 (kno ds T.1) (resI ds TY r)))) := (Ef.refl u2.1 [173] []).sR ka2 (by decide) (.inr (by simp))
      have xx : Xx [173] [] := ⟨by constructor <;> decide, by decide, by decide⟩
      have X3 := XK_ef u3' xx X2
      have u3 : Ef FRs K12 0 h2 (sR h2 173 a (kxo kx2 (rsN ds.length T.2.2 (kno ds T.1) (resI ds TY r)))) := u3'.wk (fun f z => by simp at z ⊢; exact .inr z) (fun _ z => by simp at z) (Nat.le_refl _)
      have rI : resI ds TY (r + 1) = rsA ds.length T.2.2 (kno ds T.1) (resI ds TY r) := by rw [resI_s, hT]
      obtain ⟨_, f1, f2, _⟩ := rs_fin (d := T.2.2) (o := kno ds T.1) X1.2.2.1 kno_N
      have len2 : ls (sR h2 173 a (kxo kx2 (rsN ds.length T.2.2 (kno ds T.1) (resI ds TY r)))) e.tl = ls h1 e.tl := by show ls h2 e.tl = _; exact u2.gl t1.1 (by decide) (by decide)
      refine next _ ⟨kx2, D2, ((u1.trans u2').trans u3).le ?_, by rw [rI]; exact X3, fun i hi => ?_, fun j hj => (ag2 j (by omega)).trans (ag j hj)⟩
      · show 42 * sdm TY r + 42 * T.2.2 + 0 ≤ 42 * (sdm TY r + (TY.getD r ([], 0, 0)).2.2)
        rw [hT]; omega
      · rw [rI, len2]
        by_cases z : i = r
        · rw [z, ha, hT]
          refine ⟨?_, f1⟩
          rw [fr_sR, if_pos ⟨rfl, rfl⟩, ← f2]
        · obtain ⟨g1, g2⟩ := R1 i (by omega)
          obtain ⟨f3, f4⟩ := fin_rs (d := T.2.2) (o := kno ds T.1) g2
          refine ⟨?_, f3⟩
          rw [fr_sR]
          have same : kxo kx2 (res ds (rsA ds.length T.2.2 (kno ds T.1) (resI ds TY r)) (TY.getD i ([], 0, 0))) = kxo kx1 (res ds (resI ds TY r) (TY.getD i ([], 0, 0))) := by
            show kxo kx2 (lkD _ _ _ _) = _
            rw [f4]
            exact kxo_cg (m := 10 + ds.length + (resI ds TY r).length) (fun k hk => lkD_lt kno_N hk) ag2
          have tyi : TyX h1 ((ls h1 e.tl).getD i 0) (TY.getD i ([], 0, 0)) := t1.2.2.1.getD (by omega)
          by_cases w : (ls h1 e.tl).getD i 0 = a
          · rw [if_pos ⟨rfl, w⟩]
            rw [w] at tyi
            obtain ⟨w1, w2, w3, w4, w5, w6⟩ := tyi
            have e1 : (TY.getD i ([], 0, 0)).1 = T.1 := w3.symm.trans y3
            have e2 : (TY.getD i ([], 0, 0)).2.2 = T.2.2 := (nI_eq (by omega) (by omega)).mp (w5.symm.trans y5)
            show _ = kxo kx2 (lkD _ _ (TY.getD i ([], 0, 0)).2.2 (kno ds (TY.getD i ([], 0, 0)).1))
            rw [e1, e2, ← f2]
          · rw [if_neg (fun y => w y.2), same, ← g1]
            exact u2.gr tyi.1 (by decide) (by decide)) (fun N h1 I => by
      obtain ⟨kx1, D1, u1, X1, R1, ag⟩ := I
      have t1 := TyL_ef u1 sxRs t
      have kL : lsK h1 e.tl := ⟨by rw [t1.1]; decide, by rw [t1.1]; decide, t1.2.1⟩
      have len : (ls h1 e.tl).length = TY.length := t1.2.2.1.len
      have kP : kc h1 e.P ∈ ksParser := by rw [X1.1.2.1.1]; decide
      rw [f_X10_resolve_l2_s]
      unfold b_X10_resolve_l2
      rw [ldMR_e kP, X1.1.2.1.2.2.2.2.1, lsSize_e kL, len, if_pos (sz_le (Nat.le_refl _) (by omega))]
      exact ⟨h1, kx1, D1, rfl, u1, X1, R1, ag⟩) (i := 0) (h := h) (Nat.zero_le _) ⟨kx, D, (Ef.refl x.1.1 _ _).le (by omega), x, fun i hi => by omega, fun _ _ => rfl⟩
  obtain ⟨h', kx', D', e', r⟩ := main
  unfold f_X10_resolve
  exact ⟨h', kx', D', by rw [show (0 : Int32) = nI 0 from rfl, e', bd_ok], r⟩
