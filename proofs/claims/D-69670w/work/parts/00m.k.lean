/-! PHASE B settle 11: the component: all relations; rows of what is above -/
set_option maxRecDepth 100000
variable {F K : List Nat} {c : Nat} {h h' h0 : HP} {e : EE} {kx ax : Nat → Nat} {ds : List DC} {C DL kl : Nat} {as : List Nat} {A : Nat → Nat → Bool}
theorem s2_l (S : SX e h C DL kx ax ds) (T : TbX h C kl kx ds.length as) (R : RX h kx (10 + ds.length) (paF ds 0) (faF ds 0)) (u : Ef FR [104] c h0 h) :
    match frs (bad2 ds) ds.length with
    | none => ∃ h', f_X11_settle_l60 e.P NN (nI 0) h = rok () h' ∧ Ef FR [104] (c + 10 * sm (nfc ds) ds.length) h0 h' ∧ SX e h' C DL kx ax ds ∧ TbX h' C kl kx ds.length as ∧ RX h' kx (10 + ds.length) (paF ds ds.length) (faF ds ds.length)
    | some p => ∃ h', f_X11_settle_l60 e.P NN (nI 0) h = rex h' ∧ Ef FR [104] (c + 10 * sm (nfc ds) ds.length) h0 h' ∧ WrX e h' p := by
  have n60 := S.2.2.2.1.1
  refine loop_NN (n := ds.length) (F := f_X11_settle_l60 e.P) (by omega) (fun i h' => Ef FR [104] (c + 10 * sm (nfc ds) i) h0 h' ∧ SX e h' C DL kx ax ds ∧ TbX h' C kl kx ds.length as ∧ RX h' kx (10 + ds.length) (paF ds i) (faF ds i) ∧ frs (bad2 ds) i = none)
    (fun r => match frs (bad2 ds) ds.length with
    | none => ∃ h', r = rok () h' ∧ Ef FR [104] (c + 10 * sm (nfc ds) ds.length) h0 h' ∧ SX e h' C DL kx ax ds ∧ TbX h' C kl kx ds.length as ∧ RX h' kx (10 + ds.length) (paF ds ds.length) (faF ds ds.length)
    | some p => ∃ h', r = rex h' ∧ Ef FR [104] (c + 10 * sm (nfc ds) ds.length) h0 h' ∧ WrX e h' p) ?_ ?_ (Nat.zero_le _) ⟨u, S, T, R, rfl⟩
  · rintro N i h1 hi ⟨u1, S1, T1, R1, hn⟩ next
    rw [f_X11_settle_l60_s]
    unfold b_X11_settle_l60
    have E := relate_e hi (paF_no (by omega)) (faF_no (by omega)) S1 T1 R1 u1
    have le := sm_le (f := nfc ds) hi
    rw [S1.p162, S1.dsz, if_neg (sz_no hi (by omega)), S1.p162, S1.dg hi, S1.c13 hi, if_pos S1.2.1.1]
    cases g : bad2 ds i with
    | none =>
      rw [g] at E
      obtain ⟨h2, e2, u2, S2, T2, R2⟩ := E
      rw [e2, bd_ok, lt3_n]
      exact next h2 ⟨u2.le (by show c + 10 * sm (nfc ds) i + 10 * nfc ds i ≤ c + 10 * (sm (nfc ds) i + nfc ds i); omega), S2, T2, RX_cg (fun j _ => paF_s i j) (fun j _ => faF_s i j) R2, (frs_s hn).trans g⟩
    | some p =>
      rw [g] at E
      obtain ⟨h2, e2, u2, w2⟩ := E
      rw [e2, bd_ex, frs_at hn g hi]
      exact ⟨h2, rfl, u2.le (by show c + 10 * sm (nfc ds) i + 10 * nfc ds i ≤ _; omega), w2⟩
  · rintro N h1 ⟨u1, S1, T1, R1, hn⟩
    rw [f_X11_settle_l60_s]
    unfold b_X11_settle_l60
    rw [S1.p162, S1.dsz, if_pos (sz_le (Nat.le_refl _) (by omega)), hn]
    exact ⟨h1, rfl, u1, S1, T1, R1⟩
/-- a row of what is above -/
def Rw (h : HP) (k r m : Nat) (B : Nat → Bool) : Prop := kc h r = k ∧ xl h r = m ∧ ∀ j, j < m → xi h r j = zB (B j)
theorem Rw_cg {k r m : Nat} {B B' : Nat → Bool} (x : Rw h k r m B) (e : ∀ j, j < m → B j = B' j) : Rw h k r m B' := ⟨x.1, x.2.1, fun j hj => by rw [x.2.2 j hj, e j hj]⟩
theorem Rw_st {k r m j : Nat} {B : Nat → Bool} {b : Bool} (x : Rw h k r m B) : Rw (sXi h r j (zB b)) k r m (ud B j b) := ⟨x.1, x.2.1, fun i hi => by
  rw [xi_sXi]
  by_cases z : i = j
  · rw [if_pos ⟨rfl, z⟩, z, ud_s]
  · rw [if_neg (fun y => z y.2), ud_o z]; exact x.2.2 i hi⟩
theorem Rw_ot {k r r' m j : Nat} {B : Nat → Bool} {v : Int32} (x : Rw h k r m B) (hr : r ≠ r') : Rw (sXi h r' j v) k r m B := ⟨x.1, x.2.1, fun i hi => by
  rw [xi_sXi, if_neg (fun y => hr y.1)]; exact x.2.2 i hi⟩
theorem Rw_ef {k r m : Nat} {B : Nat → Bool} (u : Ef F K c h h') (x : Rw h k r m B) (h0 : k ≠ 0) (hk : k ∉ K) : Rw h' k r m B := ⟨u.kk x.1 h0, (u.gx x.1 h0).trans x.2.1, fun j hj => by rw [(u.cq x.1 h0 hk).1]; exact x.2.2 j hj⟩
theorem Rw_ld {β : Type} {k r m j : Nat} {B : Nat → Bool} {f : Int32 → Rs β} (x : Rw h k r m B) (ht : tiK k = 2) (hj : j < m) (hm : m < 2 ^ 31) : aldI 2 r (nI j) h f = f (zB (B j)) := by
  rw [aldI_e ⟨by rw [x.1]; exact ht, by rw [x.2.1]; exact inA_nI hj hm⟩, nI_clamp (by omega), x.2.2 j hj]
theorem Rw_sv {β : Type} {k r m j : Nat} {B : Nat → Bool} {v : Int32} {f : HP → Rs β} (x : Rw h k r m B) (ht : tiK k = 2) (hj : j < m) (hm : m < 2 ^ 31) : astI 2 r (nI j) v h f = f (sXi h r j v) := by
  rw [astI_e ⟨by rw [x.1]; exact ht, by rw [x.2.1]; exact inA_nI hj hm⟩, nI_clamp (by omega)]
theorem zB1 : vp_nar .boolean (1 : Int32) = zB true := by decide
theorem zB0 : vp_nar .boolean (0 : Int32) = zB false := by decide
theorem Ef_xi {r j k : Nat} {v : Int32} (w : WG h) (hk : kc h r = k) (ok : okc k = true) (hK : k ∈ K) : Ef F K 0 h (sXi h r j v) := (Ef.refl w F K).sXi hk ok (.inr hK)
/-- the rows of the first i declarations -/
def AX (h : HP) (kx : Nat → Nat) (n i : Nat) (A : Nat → Nat → Bool) : Prop := (∀ k, k < i → Rw h 282 (fr h 42 (kx (10 + k))) (10 + n) (A k)) ∧ ∀ k t, k < i → t < i → fr h 42 (kx (10 + k)) = fr h 42 (kx (10 + t)) → k = t
theorem AX_cg {n i : Nat} {B : Nat → Nat → Bool} (x : AX h kx n i A) (e : ∀ k j, k < i → j < 10 + n → A k j = B k j) : AX h kx n i B := ⟨fun k hk => Rw_cg (x.1 k hk) (fun j hj => e k j hk hj), x.2⟩
theorem AX_ef {n i : Nat} (u : Ef F K c h h') (hx : ∀ k, k < i → kc h (kx (10 + k)) = 4) (hF : 42 ∉ F) (hK : 282 ∉ K) (x : AX h kx n i A) : AX h' kx n i A := by
  have g : ∀ k, k < i → fr h' 42 (kx (10 + k)) = fr h 42 (kx (10 + k)) := fun k hk => u.gr (hx k hk) (by decide) hF
  exact ⟨fun k hk => by rw [g k hk]; exact Rw_ef u (x.1 k hk) (by decide) hK, fun k t hk ht => by rw [g k hk, g t ht]; exact x.2 k t hk ht⟩
theorem AX_st {n i k j : Nat} {b : Bool} (x : AX h kx n i A) (hk : k < i) : AX (sXi h (fr h 42 (kx (10 + k))) j (zB b)) kx n i (ud A k (ud (A k) j b)) := ⟨fun t ht => by
  by_cases z : t = k
  · rw [z, ud_s]; exact Rw_st (x.1 k hk)
  · rw [ud_o z]; exact Rw_ot (x.1 t ht) (fun y => z (x.2 t k ht hk y)), x.2⟩
abbrev FC : List Nat := [42]
abbrev KC : List Nat := [282]
theorem sxC : Sx FC KC := by constructor <;> decide
theorem SX.k4 {C DL k : Nat} (S : SX e h C DL kx ax ds) (hk : k < ds.length) : kc h (kx (10 + k)) = 4 := (S.kk (i := 10 + k) (by omega)).1
theorem cl66 {k i : Nat} {v1 v2 : Int32} {pa : Nat → Option Nat} (hk : k < ds.length) (hki : k < i) (hi : i ≤ ds.length) (S : SX e h C DL kx ax ds) (R : RX h kx (10 + ds.length) pa (faF ds ds.length)) (X : AX h kx ds.length i A) :
    ∃ h', f_X11_close_l66 e.P v1 v2 (kx (10 + k)) NN (nI 0) h = rok () h' ∧ Ef FC KC 0 h h' ∧ SX e h' C DL kx ax ds ∧ RX h' kx (10 + ds.length) pa (faF ds ds.length) ∧ AX h' kx ds.length i (ud A k fun j => A k j || decide (j ∈ fcl ds k)) := by
  have n60 := S.2.2.2.1.1
  have nF : nfc ds k ≤ 401 := (S.2.2.2.1.2 k hk).2.2.1.1
  refine loop_NN (n := nfc ds k) (F := f_X11_close_l66 e.P v1 v2 (kx (10 + k))) (by omega) (fun t h' => Ef FC KC 0 h h' ∧ SX e h' C DL kx ax ds ∧ RX h' kx (10 + ds.length) pa (faF ds ds.length) ∧ AX h' kx ds.length i (ud A k fun j => A k j || decide (j ∈ fcs ds k t)))
    (fun r => ∃ h', r = rok () h' ∧ Ef FC KC 0 h h' ∧ SX e h' C DL kx ax ds ∧ RX h' kx (10 + ds.length) pa (faF ds ds.length) ∧ AX h' kx ds.length i (ud A k fun j => A k j || decide (j ∈ fcl ds k))) ?_ ?_ (Nat.zero_le _) ⟨Ef.refl S.1 _ _, S, R, AX_cg X fun t j _ _ => ?_⟩
  · rintro N t h1 ht ⟨u1, S1, R1, X1⟩ next
    rw [f_X11_close_l66_s]
    unfold b_X11_close_l66
    obtain ⟨r1, r2, r3⟩ := R1 (10 + k) (by omega)
    rw [faF_hi hk] at r2
    have k0 := S1.kk (i := 10 + k) (by omega)
    have kL : lsK h1 (fr h1 41 (kx (10 + k))) := ⟨by rw [k0.l41]; decide, by rw [k0.l41]; decide, r3⟩
    have len : (ls h1 (fr h1 41 (kx (10 + k)))).length = nfc ds k := by rw [r2, List.length_map]; exact fcs_len k _
    have hm : (fcl ds k).getD t 0 = fcn ds k t := by
      show ((List.range (nfc ds k)).map (fcn ds k)).getD t 0 = _
      exact gr_map0 ht
    have hp : fcn ds k t < 10 + ds.length := fcs_lt (k := k) (i := t + 1) _ (by rw [fcs_s]; simp)
    have kp := S1.kk hp
    have x0 := X1.1 k hki
    rw [ldR_e k0.1, lsSize_e kL, len, if_neg (sz_no ht (by omega)), ldR_e k0.1, ldR_e k0.1, lg_e kL (by omega) (by omega), r2, gE_map 0 (by show t < (fcs ds k _).length; rw [fcs_len]; exact ht), hm, cast_e kp.1 (by simp), ldI_e kp.1, kp.2.1, Rw_sv x0 (by decide) hp (by omega), lt3_n, zB1]
    have st := Ef_xi (F := FC) (K := KC) (j := fcn ds k t) (v := zB true) S1.1 x0.1 (by decide) (by simp)
    refine next _ ⟨(u1.trans st).le (by omega), SX_ef st sxC S1, RX_ef S1 st (by decide) (by decide) (by decide) R1, AX_cg (AX_st (j := fcn ds k t) (b := true) X1 hki) fun q j hq hj => ?_⟩
    by_cases z : q = k
    · rw [z, ud_s, ud_s, ud_s, fcs_s]
      by_cases y : j = fcn ds k t
      · rw [y, ud_s]; simp
      · rw [ud_o y]; simp [y]
    · rw [ud_o z, ud_o z, ud_o z]
  · rintro N h1 ⟨u1, S1, R1, X1⟩
    rw [f_X11_close_l66_s]
    unfold b_X11_close_l66
    obtain ⟨r1, r2, r3⟩ := R1 (10 + k) (by omega)
    rw [faF_hi hk] at r2
    have k0 := S1.kk (i := 10 + k) (by omega)
    have kL : lsK h1 (fr h1 41 (kx (10 + k))) := ⟨by rw [k0.l41]; decide, by rw [k0.l41]; decide, r3⟩
    have len : (ls h1 (fr h1 41 (kx (10 + k)))).length = nfc ds k := by rw [r2, List.length_map]; exact fcs_len k _
    rw [ldR_e k0.1, lsSize_e kL, len, if_pos (sz_le (Nat.le_refl _) (by omega))]
    exact ⟨h1, rfl, u1, S1, R1, X1⟩
  · unfold ud
    by_cases z : t = k
    · rw [if_pos z, z]; simp [fcs]
    · rw [if_neg z]
/-- the rows are made -/
theorem cl10 (S : SX e h C DL kx ax ds) (R : RX h kx (10 + ds.length) (paF ds ds.length) (faF ds ds.length)) (u : Ef FC KC c h0 h) :
    ∃ h', f_X11_close_l10 e.P (nI (10 + ds.length)) NN (nI 0) h = rok () h' ∧ Ef FC KC (c + ds.length) h0 h' ∧ SX e h' C DL kx ax ds ∧ RX h' kx (10 + ds.length) (paF ds ds.length) (faF ds ds.length) ∧ AX h' kx ds.length ds.length (Wr ds 0) := by
  have n60 := S.2.2.2.1.1
  refine loop_NN (n := ds.length) (F := f_X11_close_l10 e.P (nI (10 + ds.length))) (by omega) (fun i h' => Ef FC KC (c + i) h0 h' ∧ SX e h' C DL kx ax ds ∧ RX h' kx (10 + ds.length) (paF ds ds.length) (faF ds ds.length) ∧ AX h' kx ds.length i (Wr ds 0))
    (fun r => ∃ h', r = rok () h' ∧ Ef FC KC (c + ds.length) h0 h' ∧ SX e h' C DL kx ax ds ∧ RX h' kx (10 + ds.length) (paF ds ds.length) (faF ds ds.length) ∧ AX h' kx ds.length ds.length (Wr ds 0)) ?_ ?_ (Nat.zero_le _) ⟨u, S, R, fun k hk => absurd hk (by omega), fun k t hk => absurd hk (by omega)⟩
  · rintro N i h1 hi ⟨u1, S1, R1, X1⟩ next
    rw [f_X11_close_l10_s]
    unfold b_X11_close_l10 f_X11_close_l10b63
    have w1 := S1.1
    have k4 := S1.k4 hi
    have z1 := w1.2.1 (nx h1) (Nat.le_refl _)
    -- the row
    have a1 : Ef FC KC 1 h1 (nA h1 282 (10 + ds.length)) := ((Ef.refl w1 FC KC).nA (k := 282) (n := 10 + ds.length) (b := 1) (by omega) (by omega)).le (by omega)
    have kr : kc (nA h1 282 (10 + ds.length)) (nx h1) = 282 := kc_nA_n
    have k4a : kc (nA h1 282 (10 + ds.length)) (kx (10 + i)) = 4 := a1.kk k4 (by decide)
    have a2 : Ef FC KC 1 h1 (sR (nA h1 282 (10 + ds.length)) 42 (kx (10 + i)) (nx h1)) := a1.sR k4a (by decide) (.inr (by simp))
    have S2 := SX_ef a2 sxC S1
    have R2 := RX_ef S1 a2 (by decide) (by decide) (by decide) R1
    have frn : ∀ t, t < ds.length → t ≠ i → fr (sR (nA h1 282 (10 + ds.length)) 42 (kx (10 + i)) (nx h1)) 42 (kx (10 + t)) = fr h1 42 (kx (10 + t)) := fun t ht z => by
      rw [fr_sR, if_neg (fun y => z (by have := S1.inj (i := 10 + t) (j := 10 + i) (by omega) (by omega) y.2; omega))]; rfl
    have fri : fr (sR (nA h1 282 (10 + ds.length)) 42 (kx (10 + i)) (nx h1)) 42 (kx (10 + i)) = nx h1 := by rw [fr_sR, if_pos ⟨rfl, rfl⟩]
    have X2 : AX (sR (nA h1 282 (10 + ds.length)) 42 (kx (10 + i)) (nx h1)) kx ds.length (i + 1) (ud (Wr ds 0) i fun _ => false) := by
      have old : ∀ t, t < i → fr h1 42 (kx (10 + t)) ≠ nx h1 := fun t ht z => by
        have := (X1.1 t ht).1
        rw [z, z1.1] at this; exact absurd this (by decide)
      refine ⟨fun t ht => ?_, fun t q ht hq y => ?_⟩
      · by_cases z : t = i
        · rw [z, ud_s, fri]
          exact ⟨kr, by show xl (nA h1 282 (10 + ds.length)) (nx h1) = _; rw [xl_nA, if_pos rfl], fun j _ => z1.2.2.2.2.1 j⟩
        · rw [ud_o z, frn t (by omega) z]
          have o := X1.1 t (by omega)
          exact ⟨a2.kk o.1 (by decide), (a2.gx o.1 (by decide)).trans o.2.1, o.2.2⟩
      · by_cases z : t = i
        · by_cases x : q = i
          · omega
          · rw [z, fri, frn q (by omega) x] at y
            exact absurd y.symm (old q (by omega))
        · by_cases x : q = i
          · rw [x, fri, frn t (by omega) z] at y
            exact absurd y (old t (by omega))
          · rw [frn t (by omega) z, frn q (by omega) x] at y
            exact X1.2 t q (by omega) (by omega) y
    have kx2 := S2.k4 hi
    have rest : ∀ {h2 : HP} {B : Nat → Bool}, Ef FC KC 1 h1 h2 → SX e h2 C DL kx ax ds → RX h2 kx (10 + ds.length) (paF ds ds.length) (faF ds ds.length) → AX h2 kx ds.length (i + 1) (ud (Wr ds 0) i B) → (∀ j, B j = decide (par ds i = some j)) →
        ∃ h', bd (f_X11_close_l66 e.P (nI (10 + ds.length)) (nI i) (kx (10 + i)) NN 0 h2) (fun _ h2 => lt3 (nI i + 1) fun x3 => f_X11_close_l10 e.P (nI (10 + ds.length)) N x3 h2) = rok () h' ∧ Ef FC KC (c + ds.length) h0 h' ∧ SX e h' C DL kx ax ds ∧ RX h' kx (10 + ds.length) (paF ds ds.length) (faF ds ds.length) ∧ AX h' kx ds.length ds.length (Wr ds 0) := fun {h2 B} v2 S3 R3 X3 hB => by
      obtain ⟨h3, e3, u3, S4, R4, X4⟩ := cl66 (v1 := nI (10 + ds.length)) (v2 := nI i) hi (show i < i + 1 by omega) (by omega) S3 R3 X3
      rw [show (0 : Int32) = nI 0 from rfl, e3, bd_ok, lt3_n]
      refine next h3 ⟨((u1.trans v2).trans u3).le (by omega), S4, R4, AX_cg X4 fun t j ht hj => ?_⟩
      by_cases z : t = i
      · rw [z, ud_s, ud_s, hB]; rfl
      · rw [ud_o z, ud_o z]
    obtain ⟨r1, r2, r3⟩ := R2 (10 + i) (by omega)
    rw [paF_hi hi] at r1
    rw [S1.p162, S1.dsz, if_neg (sz_no hi (by omega)), S1.p162, S1.dg hi, S1.c13 hi, S1.d163 hi, nwA_e (by omega), stR_e k4a, ldR_e kx2, r1]
    cases g : par ds i with
    | none =>
      rw [if_pos (show kxo kx none = 0 from rfl)]
      exact rest a2 S2 R2 X2 (fun j => by rw [g]; simp)
    | some p =>
      have hp : p < 10 + ds.length := by
        unfold par exk at g
        cases hx : (dc ds i).2.2.2.1 with
        | none => rw [hx] at g; cases g
        | some t =>
          rw [hx] at g
          cases hk : kno ds t.1 with
          | none => simp [hk] at g
          | some q =>
            simp only [hk] at g
            have := kno_lt hk
            split at g
            · cases g; exact this
            · cases g
      have kp := S2.kk hp
      have x0 := X2.1 i (by omega)
      have st := Ef_xi (F := FC) (K := KC) (j := p) (v := zB true) S2.1 x0.1 (by decide) (by simp)
      rw [show kxo kx (some p) = kx p from rfl, if_neg (S2.k0 hp).2, ldR_e kx2, ldR_e kx2, r1, g, show kxo kx (some p) = kx p from rfl, ldI_e kp.1, kp.2.1, Rw_sv x0 (by decide) hp (by omega), zB1]
      refine rest (B := ud (fun _ => false) p true) ((a2.trans st).le (by omega)) (SX_ef st sxC S2) (RX_ef S2 st (by decide) (by decide) (by decide) R2) (AX_cg (AX_st (j := p) (b := true) X2 (show i < i + 1 by omega)) fun t j ht hj => ?_) (fun j => ?_)
      · by_cases z : t = i
        · rw [z, ud_s, ud_s, ud_s]
        · rw [ud_o z, ud_o z, ud_o z]
      · rw [g]
        by_cases z : j = p
        · rw [z, ud_s]; simp
        · rw [ud_o z]
          have : ¬ some p = some j := fun y => z (by cases y; rfl)
          rw [decide_eq_false this]
  · rintro N h1 ⟨u1, S1, R1, X1⟩
    rw [f_X11_close_l10_s]
    unfold b_X11_close_l10
    rw [S1.p162, S1.dsz, if_pos (sz_le (Nat.le_refl _) (by omega))]
    exact ⟨h1, rfl, u1, S1, R1, X1⟩
