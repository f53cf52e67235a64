/-! PHASE B settle 12: the component: what is above all kinds -/
set_option maxRecDepth 100000
variable {F K : List Nat} {c : Nat} {h h' h0 : HP} {e : EE} {kx ax : Nat → Nat} {ds : List DC} {C DL kl : Nat} {as : List Nat} {A : Nat → Nat → Bool}
theorem cl174 {k m : Nat} {v2 v4 : Int32} (hk : k < ds.length) (hm : m < ds.length) (S : SX e h C DL kx ax ds) (X : AX h kx ds.length ds.length A) :
    ∃ h', f_X11_close_l174 e.P (nI (10 + ds.length)) v2 (kx (10 + m)) v4 (kx (10 + k)) NN (nI 0) h = rok () h' ∧ Ef FC KC 0 h h' ∧ SX e h' C DL kx ax ds ∧ AX h' kx ds.length ds.length (ud A k fun t => A k t || (A k (10 + m) && A m t)) := by
  have n60 := S.2.2.2.1.1
  refine loop_NN (n := 10 + ds.length) (F := f_X11_close_l174 e.P (nI (10 + ds.length)) v2 (kx (10 + m)) v4 (kx (10 + k))) (by omega)
    (fun j h' => Ef FC KC 0 h h' ∧ SX e h' C DL kx ax ds ∧ AX h' kx ds.length ds.length (ud A k fun t => if t < j then A k t || A m t else A k t) ∧ (0 < j → A k (10 + m) = true))
    (fun r => ∃ h', r = rok () h' ∧ Ef FC KC 0 h h' ∧ SX e h' C DL kx ax ds ∧ AX h' kx ds.length ds.length (ud A k fun t => A k t || (A k (10 + m) && A m t))) ?_ ?_ (Nat.zero_le _) ⟨Ef.refl S.1 _ _, S, AX_cg X fun t j _ _ => ?_, fun z => absurd z (by omega)⟩
  · rintro N j h1 hj ⟨u1, S1, X1, hp⟩ next
    rw [f_X11_close_l174_s]
    unfold b_X11_close_l174 f_X11_close_l174b221 f_X11_close_l174b226
    have kk := S1.kk (i := 10 + k) (by omega)
    have km := S1.kk (i := 10 + m) (by omega)
    have x0 := X1.1 k hk
    rw [ud_s] at x0
    have xm := X1.1 m hm
    rw [if_neg (sz_no hj (by omega)), ldR_e kk.1, ldI_e km.1, km.2.1, Rw_ld x0 (by decide) (by omega) (by omega), zB_if]
    by_cases b : A k (10 + m) = true
    · have v : (if 10 + m < j then A k (10 + m) || A m (10 + m) else A k (10 + m)) = true := by rw [b]; split <;> simp
      rw [if_pos v, ldR_e kk.1, ldR_e kk.1, Rw_ld x0 (by decide) hj (by omega), zB_if, if_neg (show ¬ j < j by omega)]
      have go : ∀ bb : Bool, bb = (A k j || A m j) → ∀ {v : Int32}, vp_nar .boolean v = zB bb →
          ∃ h', (astI 2 (fr h1 42 (kx (10 + k))) (nI j) (vp_nar .boolean v) h1 fun h1 => lt3 (nI j + 1) fun x2 => f_X11_close_l174 e.P (nI (10 + ds.length)) v2 (kx (10 + m)) v4 (kx (10 + k)) N x2 h1) = rok () h' ∧ Ef FC KC 0 h h' ∧ SX e h' C DL kx ax ds ∧ AX h' kx ds.length ds.length (ud A k fun t => A k t || (A k (10 + m) && A m t)) := fun bb hb {v} hv => by
        have st := Ef_xi (F := FC) (K := KC) (j := j) (v := zB bb) S1.1 x0.1 (by decide) (by simp)
        rw [hv, Rw_sv x0 (by decide) hj (by omega), lt3_n]
        refine next _ ⟨(u1.trans st).le (by omega), SX_ef st sxC S1, AX_cg (AX_st (j := j) (b := bb) X1 hk) fun q t hq ht => ?_, fun _ => b⟩
        by_cases z : q = k
        · rw [z, ud_s, ud_s, ud_s]
          by_cases y : t = j
          · rw [y, ud_s, if_pos (by omega), hb]
          · rw [ud_o y]
            by_cases x : t < j
            · rw [if_pos x, if_pos (by omega)]
            · rw [if_neg x, if_neg (by omega)]
        · rw [ud_o z, ud_o z, ud_o z]
      by_cases d : A k j = true
      · rw [if_pos d]
        exact go true (by rw [d]; rfl) zB1
      · have d' : A k j = false := by simpa using d
        rw [if_neg d, ldR_e km.1, Rw_ld xm (by decide) hj (by omega), zB_if]
        have w : (ud A k (fun t => if t < j then A k t || A m t else A k t) m) j = A m j := by
          by_cases z : m = k
          · rw [z, ud_s, if_neg (by omega)]
          · rw [ud_o z]
        rw [w]
        by_cases f : A m j = true
        · rw [if_pos f]; exact go true (by rw [f]; simp) zB1
        · have f' : A m j = false := by simpa using f
          rw [if_neg f]; exact go false (by rw [d', f']; rfl) zB0
    · have j0 : j = 0 := Nat.eq_zero_of_le_zero (Nat.le_of_not_lt fun z => b (hp z))
      have b' : A k (10 + m) = false := by simpa using b
      have v : ¬ (if 10 + m < j then A k (10 + m) || A m (10 + m) else A k (10 + m)) = true := by rw [if_neg (by omega)]; exact b
      rw [if_neg v]
      refine ⟨h1, rfl, u1, S1, AX_cg X1 fun q t hq ht => ?_⟩
      by_cases z : q = k
      · rw [z, ud_s, ud_s, if_neg (by omega), b']; simp
      · rw [ud_o z, ud_o z]
  · rintro N h1 ⟨u1, S1, X1, hp⟩
    rw [f_X11_close_l174_s]
    unfold b_X11_close_l174
    rw [if_pos (sz_le (Nat.le_refl _) (by omega))]
    refine ⟨h1, rfl, u1, S1, AX_cg X1 fun q t hq ht => ?_⟩
    by_cases z : q = k
    · rw [z, ud_s, ud_s, if_pos ht, hp (by omega)]; simp
    · rw [ud_o z, ud_o z]
  · by_cases z : t = k
    · rw [z, ud_s, if_neg (by omega)]
    · rw [ud_o z]
theorem cl142 {m : Nat} {v2 : Int32} (hm : m < ds.length) (S : SX e h C DL kx ax ds) (X : AX h kx ds.length ds.length A) :
    ∃ h', f_X11_close_l142 e.P (nI (10 + ds.length)) v2 (kx (10 + m)) NN (nI 0) h = rok () h' ∧ Ef FC KC 0 h h' ∧ SX e h' C DL kx ax ds ∧ AX h' kx ds.length ds.length (fun k t => A k t || (A k (10 + m) && A m t)) := by
  have n60 := S.2.2.2.1.1
  refine loop_NN (n := ds.length) (F := f_X11_close_l142 e.P (nI (10 + ds.length)) v2 (kx (10 + m))) (by omega)
    (fun i h' => Ef FC KC 0 h h' ∧ SX e h' C DL kx ax ds ∧ AX h' kx ds.length ds.length (fun k t => if k < i then A k t || (A k (10 + m) && A m t) else A k t))
    (fun r => ∃ h', r = rok () h' ∧ Ef FC KC 0 h h' ∧ SX e h' C DL kx ax ds ∧ AX h' kx ds.length ds.length (fun k t => A k t || (A k (10 + m) && A m t))) ?_ ?_ (Nat.zero_le _) ⟨Ef.refl S.1 _ _, S, AX_cg X fun k j _ _ => by rw [if_neg (by omega)]⟩
  · rintro N i h1 hi ⟨u1, S1, X1⟩ next
    rw [f_X11_close_l142_s]
    unfold b_X11_close_l142 f_X11_close_l142b233
    obtain ⟨h2, e2, u2, S2, X2⟩ := cl174 (v2 := v2) (v4 := nI i) hi hm S1 X1
    rw [S1.p162, S1.dsz, if_neg (sz_no hi (by omega)), S1.p162, S1.dg hi, S1.c13 hi, S1.d163 hi, show (0 : Int32) = nI 0 from rfl, e2, bd_ok, lt3_n]
    refine next h2 ⟨(u1.trans u2).le (by omega), S2, AX_cg X2 fun k t hk ht => ?_⟩
    by_cases z : k = i
    · rw [z, ud_s, if_neg (show ¬ i < i by omega), if_neg (show ¬ i < i by omega), if_pos (show i < i + 1 by omega)]
      by_cases y : m < i
      · rw [if_pos y]
        cases A i t <;> cases A i (10 + m) <;> cases A m t <;> cases A m (10 + m) <;> rfl
      · rw [if_neg y]
    · rw [ud_o z]
      by_cases y : k < i
      · rw [if_pos y, if_pos (by omega)]
      · rw [if_neg y, if_neg (by omega)]
  · rintro N h1 ⟨u1, S1, X1⟩
    rw [f_X11_close_l142_s]
    unfold b_X11_close_l142
    rw [S1.p162, S1.dsz, if_pos (sz_le (Nat.le_refl _) (by omega))]
    exact ⟨h1, rfl, u1, S1, AX_cg X1 fun k j hk _ => by rw [if_pos hk]⟩
theorem cl113 (S : SX e h C DL kx ax ds) (X : AX h kx ds.length ds.length (Wr ds 0)) :
    ∃ h', f_X11_close_l113 e.P (nI (10 + ds.length)) NN (nI 0) h = rok () h' ∧ Ef FC KC 0 h h' ∧ SX e h' C DL kx ax ds ∧ AX h' kx ds.length ds.length (Wn ds) := by
  have n60 := S.2.2.2.1.1
  refine loop_NN (n := ds.length) (F := f_X11_close_l113 e.P (nI (10 + ds.length))) (by omega)
    (fun i h' => Ef FC KC 0 h h' ∧ SX e h' C DL kx ax ds ∧ AX h' kx ds.length ds.length (Wr ds i))
    (fun r => ∃ h', r = rok () h' ∧ Ef FC KC 0 h h' ∧ SX e h' C DL kx ax ds ∧ AX h' kx ds.length ds.length (Wn ds)) ?_ ?_ (Nat.zero_le _) ⟨Ef.refl S.1 _ _, S, X⟩
  · rintro N i h1 hi ⟨u1, S1, X1⟩ next
    rw [f_X11_close_l113_s]
    unfold b_X11_close_l113
    obtain ⟨h2, e2, u2, S2, X2⟩ := cl142 (v2 := nI i) hi S1 X1
    rw [S1.p162, S1.dsz, if_neg (sz_no hi (by omega)), S1.p162, S1.dg hi, S1.c13 hi, S1.d163 hi, show (0 : Int32) = nI 0 from rfl, e2, bd_ok, lt3_n]
    exact next h2 ⟨(u1.trans u2).le (by omega), S2, X2⟩
  · rintro N h1 ⟨u1, S1, X1⟩
    rw [f_X11_close_l113_s]
    unfold b_X11_close_l113
    rw [S1.p162, S1.dsz, if_pos (sz_le (Nat.le_refl _) (by omega))]
    exact ⟨h1, rfl, u1, S1, X1⟩
/-- all faces above -/
def FX (h : HP) (kx : Nat → Nat) (m : Nat) (la : Nat → List Nat) : Prop := ∀ j, j < m → ls h (fr h 43 (kx j)) = (la j).map kx ∧ cp h (fr h 43 (kx j)) ≠ RAW
theorem KdK.l43 {a k : Nat} (x : KdK ds h a k) : kc h (fr h 43 a) = 103 := by
  obtain ⟨_, _, _, _, _, _, _, _, _, y, _⟩ := x
  exact y
theorem FX_cg {m : Nat} {la lb : Nat → List Nat} (x : FX h kx m la) (e : ∀ j, j < m → la j = lb j) : FX h kx m lb := fun j hj => by rw [← e j hj]; exact x j hj
theorem FX_ef {la : Nat → List Nat} (S : SX e h C DL kx ax ds) (u : Ef F K c h h') (h2 : 43 ∉ F) (h3 : 103 ∉ K) (R : FX h kx (10 + ds.length) la) : FX h' kx (10 + ds.length) la := fun j hj => by
  obtain ⟨r2, r3⟩ := R j hj
  have k0 := S.kk hj
  have g := u.gr k0.1 (by decide) h2
  refine ⟨?_, ?_⟩
  · rw [g, u.gl k0.l43 (by decide) h3]; exact r2
  · rw [g, u.gc k0.l43 (by decide) h3]; exact r3
theorem get_e {β : Type} {f : Nat → HP → Rs β} {j : Nat} (S : SX e h C DL kx ax ds) (T : TbX h C kl kx ds.length as) (hj : j < 10 + ds.length) : bd (f_X2_get C (nI j) h) f = f (kx j) h := by
  have n60 := S.2.2.2.1.1
  have kL : lsK h kl := ⟨by rw [T.2.2.1]; decide, by rw [T.2.2.1]; decide, T.2.2.2.1⟩
  have len : (ls h kl).length = 10 + ds.length + as.length := by rw [T.2.2.2.2.1, List.length_append, List.length_map, List.length_range]
  have a400 := T.2.2.2.2.2.1
  unfold f_X2_get
  rw [ldR_e T.1, T.2.1, lg_e kL (by omega) (by omega), T.2.2.2.2.1, gr_map hj, cast_e (S.kk hj).1 (by simp), bd_ok]
theorem size_e {β : Type} {f : Int32 → HP → Rs β} (T : TbX h C kl kx ds.length as) : bd (f_X2_size C h) f = f (nI (10 + ds.length + as.length)) h := by
  have kL : lsK h kl := ⟨by rw [T.2.2.1]; decide, by rw [T.2.2.1]; decide, T.2.2.2.1⟩
  have len : (ls h kl).length = 10 + ds.length + as.length := by rw [T.2.2.2.2.1, List.length_append, List.length_map, List.length_range]
  unfold f_X2_size
  rw [ldR_e T.1, T.2.1, lsSize_e kL, len, bd_ok]
abbrev KA : List Nat := [103]
theorem sxA : Sx ([] : List Nat) KA := by constructor <;> decide
/-- the first j of the kinds above that are faces -/
def alp (ds : List DC) (k j : Nat) : List Nat := (List.range j).filter fun j => Wn ds k j && decide (so ds j = 4)
theorem alp_s (k j : Nat) : alp ds k (j + 1) = if Wn ds k j && decide (so ds j = 4) then alp ds k j ++ [j] else alp ds k j := by
  unfold alp
  rw [List.range_succ, List.filter_append]
  by_cases z : (Wn ds k j && decide (so ds j = 4)) = true
  · rw [if_pos z]; simp [z]
  · rw [if_neg z]; simp only [Bool.not_eq_true] at z; simp [z]
theorem alp_len (k j : Nat) : (alp ds k j).length ≤ j := by
  have := List.length_filter_le (fun j => Wn ds k j && decide (so ds j = 4)) (List.range j)
  rwa [List.length_range] at this
theorem cl276 {k : Nat} {v2 : Int32} {la : Nat → List Nat} (hk : k < ds.length) (hla : la (10 + k) = []) (S : SX e h C DL kx ax ds) (T : TbX h C kl kx ds.length as) (X : AX h kx ds.length ds.length (Wn ds)) (R : FX h kx (10 + ds.length) la) :
    ∃ h', f_X11_close_l276 e.P (nI (10 + ds.length)) v2 (kx (10 + k)) NN (nI 0) h = rok () h' ∧ Ef [] KA (2 * (10 + ds.length)) h h' ∧ FX h' kx (10 + ds.length) (ud la (10 + k) (alf ds k)) := by
  have n60 := S.2.2.2.1.1
  refine loop_NN (n := 10 + ds.length) (F := f_X11_close_l276 e.P (nI (10 + ds.length)) v2 (kx (10 + k))) (by omega)
    (fun j h' => Ef [] KA (2 * j) h h' ∧ FX h' kx (10 + ds.length) (ud la (10 + k) (alp ds k j)))
    (fun r => ∃ h', r = rok () h' ∧ Ef [] KA (2 * (10 + ds.length)) h h' ∧ FX h' kx (10 + ds.length) (ud la (10 + k) (alf ds k))) ?_ ?_ (Nat.zero_le _) ⟨Ef.refl S.1 _ _, FX_cg R fun j _ => ?_⟩
  · rintro N j h1 hj ⟨u1, R1⟩ next
    have S1 := SX_ef u1 sxA S
    have T1 := TbX_ef u1 sxA (by decide) T
    have X1 := AX_ef u1 (fun t ht => S.k4 ht) (by simp) (by decide) X
    rw [f_X11_close_l276_s]
    unfold b_X11_close_l276 f_X11_close_l276b327
    have kk := S1.kk (i := 10 + k) (by omega)
    have kj := S1.kk hj
    have sl := so_lt ds j
    rw [if_neg (sz_no hj (by omega)), ldR_e kk.1, Rw_ld (X1.1 k hk) (by decide) hj (by omega), zB_if]
    have skip : (Wn ds k j && decide (so ds j = 4)) = false → ∃ h', (lt3 (nI j + 1) fun x1 => f_X11_close_l276 e.P (nI (10 + ds.length)) v2 (kx (10 + k)) N x1 h1) = rok () h' ∧ Ef [] KA (2 * (10 + ds.length)) h h' ∧ FX h' kx (10 + ds.length) (ud la (10 + k) (alf ds k)) := fun z => by
      rw [lt3_n]
      exact next h1 ⟨u1.le (by omega), FX_cg R1 fun t _ => by rw [alp_s, z]; rfl⟩
    by_cases b : Wn ds k j = true
    · rw [if_pos b, S1.p161, if_pos S1.2.2.2.2.2.2.2, get_e S1 T1 hj, ldR_e kj.1, kj.2.2.1, show (904 : Nat) = 900 + 4 from rfl, eqS_e (by omega) (by omega)]
      by_cases s4 : so ds j = 4
      · obtain ⟨r2, r3⟩ := R1 (10 + k) (by omega)
        rw [ud_s] at r2
        have l43 := kk.l43
        have al := alp_len (ds := ds) k j
        have KL : lsK h1 (fr h1 43 (kx (10 + k))) := ⟨by rw [l43]; decide, by rw [l43]; decide, r3⟩
        have len2 : (ls h1 (fr h1 43 (kx (10 + k)))).length ≤ j := by rw [r2, List.length_map]; exact al
        rw [if_pos s4, ldR_e kk.1, S1.p161, if_pos S1.2.2.2.2.2.2.2, get_e S1 T1 hj, lsAdd_e KL (.inr (.inr (.inr (by rw [kj.1]; decide)))) (by omega), lt3_n]
        have st : Ef [] KA (0 + 2) h1 (lad h1 (fr h1 43 (kx (10 + k))) (kx j)) := Ef_ladb (Ef.refl S1.1 [] KA) l43 (by decide) (.inr (by simp)) (by omega) (by omega)
        refine next _ ⟨(u1.trans st).le (by omega), fun t ht => ?_⟩
        obtain ⟨q2, q3⟩ := R1 t ht
        have al1 : alp ds k (j + 1) = alp ds k j ++ [j] := by rw [alp_s, if_pos (by rw [b, s4]; rfl)]
        refine ⟨?_, ?_⟩
        · show ls (lad h1 (fr h1 43 (kx (10 + k))) (kx j)) (fr h1 43 (kx t)) = _
          by_cases z : t = 10 + k
          · rw [z, lad_ls, r2, ud_s, al1, List.map_append]; rfl
          · unfold lad
            rw [ls_sLc, if_neg (fun y => z (S1.2.2.2.2.2.2.1 43 (by simp) t (10 + k) ht (by omega) y)), q2, ud_o z, ud_o z]
        · show cp (lad h1 (fr h1 43 (kx (10 + k))) (kx j)) (fr h1 43 (kx t)) ≠ RAW
          by_cases z : t = 10 + k
          · rw [z]; exact (lad_K KL (by omega)).2.2
          · unfold lad
            rw [cp_sLc, if_neg (fun y => z (S1.2.2.2.2.2.2.1 43 (by simp) t (10 + k) ht (by omega) y))]; exact q3
      · rw [if_neg s4]
        exact skip (by rw [decide_eq_false s4, Bool.and_false])
    · rw [if_neg b]
      exact skip (by simp only [Bool.not_eq_true] at b; rw [b, Bool.false_and])
  · rintro N h1 ⟨u1, R1⟩
    rw [f_X11_close_l276_s]
    unfold b_X11_close_l276
    rw [if_pos (sz_le (Nat.le_refl _) (by omega))]
    exact ⟨h1, rfl, u1, R1⟩
  · by_cases z : j = 10 + k
    · rw [z, ud_s, hla]; rfl
    · rw [ud_o z]
def laF (ds : List DC) (i j : Nat) : List Nat := if 10 ≤ j ∧ j < 10 + i then alf ds (j - 10) else []
theorem laF_s (i : Nat) : ∀ j, ud (laF ds i) (10 + i) (alf ds i) j = laF ds (i + 1) j := fun j => by
  unfold ud laF
  by_cases z : j = 10 + i
  · rw [if_pos z, if_pos (by omega), z, show 10 + i - 10 = i by omega]
  · rw [if_neg z]
    by_cases y : 10 ≤ j ∧ j < 10 + i
    · rw [if_pos y, if_pos (by omega)]
    · rw [if_neg y, if_neg (by omega)]
theorem laF_hi {i k : Nat} (h : k < i) : laF ds i (10 + k) = alf ds k := by unfold laF; rw [if_pos (by omega), show 10 + k - 10 = k by omega]
theorem cl247 (S : SX e h C DL kx ax ds) (T : TbX h C kl kx ds.length as) (X : AX h kx ds.length ds.length (Wn ds)) (R : FX h kx (10 + ds.length) (laF ds 0)) :
    ∃ h', f_X11_close_l247 e.P (nI (10 + ds.length)) NN (nI 0) h = rok () h' ∧ Ef [] KA (2 * (10 + ds.length) * ds.length) h h' ∧ FX h' kx (10 + ds.length) (laF ds ds.length) := by
  have n60 := S.2.2.2.1.1
  refine loop_NN (n := ds.length) (F := f_X11_close_l247 e.P (nI (10 + ds.length))) (by omega)
    (fun i h' => Ef [] KA (2 * (10 + ds.length) * i) h h' ∧ FX h' kx (10 + ds.length) (laF ds i))
    (fun r => ∃ h', r = rok () h' ∧ Ef [] KA (2 * (10 + ds.length) * ds.length) h h' ∧ FX h' kx (10 + ds.length) (laF ds ds.length)) ?_ ?_ (Nat.zero_le _) ⟨(Ef.refl S.1 _ _).le (by omega), R⟩
  · rintro N i h1 hi ⟨u1, R1⟩ next
    have S1 := SX_ef u1 sxA S
    have T1 := TbX_ef u1 sxA (by decide) T
    have X1 := AX_ef u1 (fun t ht => S.k4 ht) (by simp) (by decide) X
    rw [f_X11_close_l247_s]
    unfold b_X11_close_l247
    obtain ⟨h2, e2, u2, R2⟩ := cl276 (v2 := nI i) hi (show laF ds i (10 + i) = [] from if_neg (by omega)) S1 T1 X1 R1
    rw [S1.p162, S1.dsz, if_neg (sz_no hi (by omega)), S1.p162, S1.dg hi, S1.c13 hi, S1.d163 hi, show (0 : Int32) = nI 0 from rfl, e2, bd_ok, lt3_n]
    exact next h2 ⟨(u1.trans u2).le (by rw [Nat.mul_succ]; exact Nat.le_refl _), FX_cg R2 fun j _ => laF_s i j⟩
  · rintro N h1 ⟨u1, R1⟩
    rw [f_X11_close_l247_s]
    unfold b_X11_close_l247
    have S1 := SX_ef u1 sxA S
    rw [S1.p162, S1.dsz, if_pos (sz_le (Nat.le_refl _) (by omega))]
    exact ⟨h1, rfl, u1, R1⟩
