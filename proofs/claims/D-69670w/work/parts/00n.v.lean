/-! PHASE B settle 41: the component: fields laid out -/
set_option maxRecDepth 100000
variable {F K : List Nat} {c : Nat} {h h' h0 : HP} {e : EE} {kx ax : Nat → Nat} {ds : List DC} {C DL kl q s j k p a b i r l : Nat} {AR : AT} {D : List (List Nat)} {nm : List Nat} {d : DC} {m : Mb} {T : Ty} {ps fs : List Vr} {t : Mt} {v : Vr} {g : Nat → Nat} {lay : Nat → Bool}
/-- after members: few fields -/
theorem fds40 (o : ok3 ds) (hn : ∀ k, k < ds.length → bad4 ds AR k = none) : ∀ j, (fds ds j).length ≤ 40 := by
  have key : ∀ k, k < ds.length → ownL (mem (dc ds k)) ≠ [] → (fds ds (10 + k)).length ≤ 40 := fun k hk ne => by
    have h4 := hn k hk
    unfold bad4 at h4
    have h5 : frs (mbb ds AR k) (mem (dc ds k)).length = none := by
      cases g : frs (mbb ds AR k) (mem (dc ds k)).length with
      | none => rfl
      | some p => rw [g] at h4; cases h4
    have all := frs_no h5
    unfold fds
    rw [List.length_append, ow_hi]
    -- how many there are before each member
    have main : ∀ i, i ≤ (mem (dc ds k)).length → ownL ((mem (dc ds k)).take i) = [] ∨ (fdp ds (10 + k)).length + (ownL ((mem (dc ds k)).take i)).length ≤ 40 := by
      intro i
      induction i with
      | zero => intro _; exact .inl rfl
      | succ i ih =>
        intro hi
        have own := ownL_s (ms := mem (dc ds k)) (i := i) (by omega)
        have b := all i (by omega)
        cases gm : ((mem (dc ds k)).getD i mb0).2 with
        | none =>
          rw [gm, if_neg (by decide)] at own
          right
          unfold mbb at b
          rw [gm] at b
          split at b
          · cases b
          · by_cases z : 40 ≤ (fdp ds (10 + k)).length + (ownL ((mem (dc ds k)).take i)).length
            · rw [if_pos (.inr (.inr (.inr z)))] at b; cases b
            · rw [own, List.length_append, List.length_singleton]; omega
        | some t =>
          rw [gm, if_pos (show (some t).isSome = true from rfl), List.append_nil] at own
          rw [own]; exact ih (by omega)
    rcases main _ (Nat.le_refl _) with z | z
    · rw [List.take_length] at z; exact absurd z ne
    · rw [List.take_length] at z; exact z
  refine up_ind o (fun j e => ?_) (fun j p e ih => ?_)
  · by_cases z : j < 10 ∨ 10 + ds.length ≤ j
    · have : fds ds j = [] := by
        unfold fds
        rw [fdp_none e]
        unfold ow
        split
        · rfl
        · rw [show dc ds (j - 10) = d0 by unfold dc; rw [List.getD_eq_getElem?_getD, List.getElem?_eq_none (by omega)]; rfl]; rfl
      rw [this]; exact Nat.zero_le _
    · obtain ⟨k, rfl⟩ : ∃ k, j = 10 + k := ⟨j - 10, by omega⟩
      by_cases w : ownL (mem (dc ds k)) = []
      · unfold fds
        rw [fdp_none e, ow_hi, w]; exact Nat.zero_le _
      · exact key k (by omega) w
  · have u := pa_un e
    obtain ⟨k, rfl⟩ : ∃ k, j = 10 + k := ⟨j - 10, by omega⟩
    by_cases w : ownL (mem (dc ds k)) = []
    · unfold fds
      rw [fdp_some o e, ow_hi, w, List.append_nil]; exact ih
    · exact key k (by omega) w
theorem sm_one {f g : Nat → Nat} {n k : Nat} (h : ∀ j, j ≠ k → f j = g j) (hk : k < n) : sm f n + g k = sm g n + f k := by
  induction n with
  | zero => omega
  | succ n ih =>
    show sm f n + f n + g k = sm g n + g n + f k
    by_cases z : k = n
    · subst z
      have : sm f k = sm g k := by
        have : ∀ m, m ≤ k → sm f m = sm g m := fun m => by
          induction m with
          | zero => intro _; rfl
          | succ m ih2 =>
            intro hm
            show sm f m + f m = sm g m + g m
            rw [ih2 (by omega), h m (by omega)]
        exact this k (Nat.le_refl _)
      omega
    · have := ih (by omega)
      have := h n (fun y => z y.symm)
      omega
/-- a field of the layout -/
def FdX (h : HP) (kx : Nat → Nat) (ds : List DC) (AR : AT) (a i : Nat) (v : Vr) : Prop := kc h a = 31 ∧ StrX h (fr h 234 a) v.2.1 ∧ fr h 235 a = kxo kx (res ds AR v.1) ∧ fi h 236 a = nI i
def LF (h : HP) (kx : Nat → Nat) (ds : List DC) (AR : AT) (l : Nat) (fs : List Vr) : Prop := (ls h l).length = fs.length ∧ ∀ t, t < fs.length → FdX h kx ds AR ((ls h l).getD t 0) t (fs.getD t vr0)
theorem FdX_ef (u : Ef F K c h h') (s : Sx F K) (hF : 234 ∉ F ∧ 235 ∉ F ∧ 236 ∉ F) (x : FdX h kx ds AR a i v) : FdX h' kx ds AR a i v := by
  obtain ⟨x1, x2, x3, x4⟩ := x
  exact ⟨u.kk x1 (by decide), by rw [u.gr x1 (by decide) hF.1]; exact StrX_ef u s x2, (u.gr x1 (by decide) hF.2.1).trans x3, (u.gi x1 (by decide) hF.2.2).trans x4⟩
theorem LF_push (x : LF h kx ds AR l fs) (hx : ∀ a i v, FdX h kx ds AR a i v → FdX h' kx ds AR a i v) (e : ls h' l = ls h l ++ [a]) (fa : FdX h' kx ds AR a fs.length v) : LF h' kx ds AR l (fs ++ [v]) := by
  obtain ⟨x1, x2⟩ := x
  refine ⟨by rw [e, List.length_append, List.length_append, x1]; rfl, fun t ht => ?_⟩
  rw [List.length_append, List.length_singleton] at ht
  rw [e]
  by_cases z : t < fs.length
  · rw [List.getD_eq_getElem?_getD, List.getElem?_append_left (by omega), ← List.getD_eq_getElem?_getD, List.getD_eq_getElem?_getD (l := fs ++ [v]), List.getElem?_append_left z, ← List.getD_eq_getElem?_getD]
    exact hx _ _ _ (x2 t z)
  · have : t = fs.length := by omega
    subst this
    rw [List.getD_eq_getElem?_getD, ← x1, List.getElem?_append_right (Nat.le_refl _), Nat.sub_self, x1, List.getD_eq_getElem?_getD (l := fs ++ [v]), List.getElem?_append_right (Nat.le_refl _), Nat.sub_self]
    exact fa
theorem LF_cg {l' : Nat} (x : LF h kx ds AR l fs) (hx : ∀ a i v, FdX h kx ds AR a i v → FdX h' kx ds AR a i v) (e : ls h' l' = ls h l) : LF h' kx ds AR l' fs := by
  obtain ⟨x1, x2⟩ := x
  exact ⟨by rw [e]; exact x1, fun t ht => by rw [e]; exact hx _ _ _ (x2 t ht)⟩
abbrev FY : List Nat := [39]
abbrev KY : List Nat := [102]
theorem xxY : Xx FY KY := ⟨by constructor <;> decide, by decide, by decide⟩
theorem XM_ef (u : Ef F K c h h') (s : Xx F K) (h0 : 173 ∉ F ∧ 229 ∉ F) (h1 : 101 ∉ K ∧ 116 ∉ K) (hg : ∀ k, k < ds.length → g k ≤ (mem (dc ds k)).length) (x : XM e h C DL kl kx ax ds AR D g) : XM e h' C DL kl kx ax ds AR D g :=
  ⟨XK_ef u s x.1, TyK_ef u s.1 h0.1 x.2.1, DjM_ef x.1.1 u s.1 x.2.2.1, MmX_ef x.1.1 u s.1 h0.2 h1.1 h1.2 hg x.2.2.2⟩
theorem KdK.k44 (x : KdK ds h a k) : kc h (fr h 44 a) = 102 := by
  obtain ⟨_, _, _, _, _, _, _, _, _, _, y, _⟩ := x
  exact y
theorem hgm (hg : ∀ k, k < ds.length → g k ≤ (mem (dc ds k)).length) : ∀ k, k < ds.length → g k ≤ (mem (dc ds k)).length := hg
abbrev oK (ds : List DC) (g : Nat → Nat) : Prop := ∀ k, k < ds.length → g k ≤ (mem (dc ds k)).length
abbrev xxY0 : Xx [] KY := ⟨by constructor <;> decide, by decide, by decide⟩
/-- the parents' fields are taken over -/
theorem ly67_e {R : TY_S6} (o : ok3 ds) (x : XM e h C DL kl kx ax ds AR D g) (hg : oK ds g) (hk : k < ds.length) (hp : paF ds ds.length (10 + k) = some p) (L : LF h kx ds AR (fr h 44 (kx p)) fs) (cpp : cp h (fr h 44 (kx p)) ≠ RAW) (e0 : ls h (fr h 44 (kx (10 + k))) = []) (cq : cp h (fr h 44 (kx (10 + k))) ≠ RAW) (h40 : fs.length ≤ 40) :
    ∃ h', f_X11_layOut_l67 R (ax k) (fr h 44 (kx (10 + k))) NN (0 : Int32) h = rok () h' ∧ Ef [] KY fs.length h h' ∧ LF h' kx ds AR (fr h 44 (kx (10 + k))) fs ∧ cp h' (fr h 44 (kx (10 + k))) ≠ RAW ∧ ∀ q, kc h q = 102 → q ≠ fr h 44 (kx (10 + k)) → ls h' q = ls h q ∧ cp h' q = cp h q := by
  have up' := pa_un hp
  have hpl := up'.2.1
  have S := x.1.1
  have k0 := S.kk (i := 10 + k) (by omega)
  have kq := S.kk (i := p) hpl
  have ne : fr h 44 (kx p) ≠ fr h 44 (kx (10 + k)) := fun w => by
    have e1 := x.1.2.2.2.2.2.1.2 44 (by simp) p (10 + k) (by omega) (by omega) w
    have := rnk_up o up'.1 hpl
    rw [e1] at this; omega
  have len := L.1
  have main := loop_NN (n := fs.length) (F := f_X11_layOut_l67 R (ax k) (fr h 44 (kx (10 + k)))) (i := 0) (h := h) (by omega)
    (fun i h' => Ef [] KY i h h' ∧ ls h' (fr h 44 (kx (10 + k))) = (ls h (fr h 44 (kx p))).take i ∧ cp h' (fr h 44 (kx (10 + k))) ≠ RAW ∧ ∀ q, kc h q = 102 → q ≠ fr h 44 (kx (10 + k)) → ls h' q = ls h q ∧ cp h' q = cp h q)
    (fun R' => ∃ h', R' = rok () h' ∧ Ef [] KY fs.length h h' ∧ ls h' (fr h 44 (kx (10 + k))) = ls h (fr h 44 (kx p)) ∧ cp h' (fr h 44 (kx (10 + k))) ≠ RAW ∧ ∀ q, kc h q = 102 → q ≠ fr h 44 (kx (10 + k)) → ls h' q = ls h q ∧ cp h' q = cp h q)
    (fun N i h1 hi ⟨u1, c1, c2, c3⟩ next => by
      have x1 := XK_ef u1 xxY0 x.1
      have S1 := x1.1
      have d1 := S1.dd hk
      have k1 := S1.kk (i := 10 + k) (by omega)
      have kq1 := S1.kk (i := p) hpl
      have g44 : fr h1 44 (kx p) = fr h 44 (kx p) := u1.gr kq.1 (by decide) (by simp)
      obtain ⟨l1, l2⟩ := c3 _ kq.k44 ne
      have kL : lsK h1 (fr h1 44 (kx p)) := ⟨by rw [kq1.k44]; decide, by rw [kq1.k44]; decide, by rw [g44, l2]; exact cpp⟩
      have ln : (ls h1 (fr h1 44 (kx p))).length = fs.length := by rw [g44, l1]; exact len
      have fd : FdX h1 kx ds AR ((ls h1 (fr h1 44 (kx p))).getD i 0) i (fs.getD i vr0) := by
        rw [g44, l1]; exact FdX_ef u1 xxY0.1 (by simp) (L.2 i hi)
      have kO : kc h1 (fr h 44 (kx (10 + k))) = 102 := u1.kk k0.k44 (by decide)
      have KL : lsK h1 (fr h 44 (kx (10 + k))) := ⟨by rw [kO]; decide, by rw [kO]; decide, c2⟩
      have lnO : (ls h1 (fr h 44 (kx (10 + k)))).length ≤ 40 := by rw [c1, List.length_take]; omega
      have pe := x1.2.2.2.2.2.2.1 (10 + k) (by omega)
      rw [f_X11_layOut_l67_s]
      unfold b_X11_layOut_l67
      rw [ldR_e d1.1, d1.2.1, ldR_e k1.1, pe, hp, show kxo kx (some p) = kx p from rfl, if_neg (S1.k0 hpl).2, ldR_e d1.1, d1.2.1, ldR_e k1.1, pe, hp, show kxo kx (some p) = kx p from rfl, ldR_e kq1.1, lsSize_e kL, ln, if_neg (sz_no hi (by omega)), ldR_e d1.1, d1.2.1, ldR_e k1.1, pe, hp, show kxo kx (some p) = kx p from rfl, ldR_e kq1.1, lg_e kL (by omega) (by omega), cast_e fd.1 (by simp), lsAdd_e KL (.inr (.inr (.inr (by rw [fd.1]; decide)))) (by omega), lt3_n]
      have u2 := Ef_ladb (v := (ls h1 (fr h1 44 (kx p))).getD i 0) (b := 1) u1 kO (by decide) (.inr (by simp)) (by omega) (by omega)
      refine next _ ⟨u2, ?_, (lad_K KL (by omega)).2.2, fun q h1' h2' => ?_⟩
      · rw [lad_ls, c1, g44, l1, tk_s 0 (by omega)]
      · unfold lad
        rw [ls_sLc, if_neg h2', cp_sLc, if_neg h2']
        exact c3 q h1' h2')
    (fun N h1 ⟨u1, c1, c2, c3⟩ => by
      have x1 := XK_ef u1 xxY0 x.1
      have S1 := x1.1
      have d1 := S1.dd hk
      have k1 := S1.kk (i := 10 + k) (by omega)
      have kq1 := S1.kk (i := p) hpl
      have g44 : fr h1 44 (kx p) = fr h 44 (kx p) := u1.gr kq.1 (by decide) (by simp)
      obtain ⟨l1, l2⟩ := c3 _ kq.k44 ne
      have kL : lsK h1 (fr h1 44 (kx p)) := ⟨by rw [kq1.k44]; decide, by rw [kq1.k44]; decide, by rw [g44, l2]; exact cpp⟩
      have ln : (ls h1 (fr h1 44 (kx p))).length = fs.length := by rw [g44, l1]; exact len
      have pe := x1.2.2.2.2.2.2.1 (10 + k) (by omega)
      rw [f_X11_layOut_l67_s]
      unfold b_X11_layOut_l67
      rw [ldR_e d1.1, d1.2.1, ldR_e k1.1, pe, hp, show kxo kx (some p) = kx p from rfl, if_neg (S1.k0 hpl).2, ldR_e d1.1, d1.2.1, ldR_e k1.1, pe, hp, show kxo kx (some p) = kx p from rfl, ldR_e kq1.1, lsSize_e kL, ln, if_pos (sz_le (Nat.le_refl _) (by omega))]
      rw [← len, List.take_length] at c1
      exact ⟨h1, rfl, u1, c1, c2, c3⟩) (Nat.zero_le _) ⟨Ef.refl S.1 _ _, by simpa using e0, cq, fun q _ _ => ⟨rfl, rfl⟩⟩
  obtain ⟨h', e', u', c1, c2, c3⟩ := main
  exact ⟨h', e', u', LF_cg L (fun a i v z => FdX_ef u' xxY0.1 (by simp) z) c1, c2, c3⟩
/-- own fields are put behind -/
theorem ly124_e {R : TY_S6} (x : XM e h C DL kl kx ax ds AR D g) (hk : k < ds.length) (L : LF h kx ds AR (fr h 44 (kx (10 + k))) fs) (cq : cp h (fr h 44 (kx (10 + k))) ≠ RAW) (h40 : fs.length + (ow ds (10 + k)).length ≤ 40) :
    ∃ h', f_X11_layOut_l124 R (ax k) (fr h 44 (kx (10 + k))) NN (0 : Int32) h = rok () h' ∧ Ef [] KY (2 * (ow ds (10 + k)).length) h h' ∧ LF h' kx ds AR (fr h 44 (kx (10 + k))) (fs ++ ow ds (10 + k)) ∧ cp h' (fr h 44 (kx (10 + k))) ≠ RAW ∧ ∀ q, kc h q = 102 → q ≠ fr h 44 (kx (10 + k)) → ls h' q = ls h q ∧ cp h' q = cp h q := by
  have S := x.1.1
  have k0 := S.kk (i := 10 + k) (by omega)
  have m401 := S.m401 hk
  rw [ow_hi] at h40 ⊢
  exact loop_NN (n := (mem (dc ds k)).length) (F := f_X11_layOut_l124 R (ax k) (fr h 44 (kx (10 + k)))) (i := 0) (h := h) (by omega)
    (fun i h' => Ef [] KY (2 * (ownL ((mem (dc ds k)).take i)).length) h h' ∧ LF h' kx ds AR (fr h 44 (kx (10 + k))) (fs ++ ownL ((mem (dc ds k)).take i)) ∧ cp h' (fr h 44 (kx (10 + k))) ≠ RAW ∧ ∀ q, kc h q = 102 → q ≠ fr h 44 (kx (10 + k)) → ls h' q = ls h q ∧ cp h' q = cp h q)
    (fun R' => ∃ h', R' = rok () h' ∧ Ef [] KY (2 * (ownL (mem (dc ds k))).length) h h' ∧ LF h' kx ds AR (fr h 44 (kx (10 + k))) (fs ++ ownL (mem (dc ds k))) ∧ cp h' (fr h 44 (kx (10 + k))) ≠ RAW ∧ ∀ q, kc h q = 102 → q ≠ fr h 44 (kx (10 + k)) → ls h' q = ls h q ∧ cp h' q = cp h q)
    (fun N i h1 hi ⟨u1, c1, c2, c3⟩ next => by
      have x1 := XK_ef u1 xxY0 x.1
      have y1 := TyK_ef u1 xxY0.1 (by simp) x.2.1
      have S1 := x1.1
      have d1 := S1.dd hk
      have mb := S1.mb hk hi
      have own := ownL_s hi
      have hi2 : i < (ls h1 (fr h1 168 (ax k))).length := by rw [d1.len168]; exact hi
      have hb2 : (ls h1 (fr h1 168 (ax k))).length < 2 ^ 31 := by rw [d1.len168]; omega
      rw [f_X11_layOut_l124_s]
      unfold b_X11_layOut_l124 f_X11_layOut_l124b185
      rw [ldR_e d1.1, lsSize_e d1.k168, d1.len168, if_neg (sz_no hi (by omega)), ldR_e d1.1, lg_e d1.k168 hi2 hb2, show (ls h1 (fr h1 168 (ax k))).getD i 0 = bA h1 ax k i from rfl, cast_e mb.1 (by simp), ldR_e mb.1]
      cases gm : ((mem (dc ds k)).getD i mb0).2 with
      | some t =>
        rw [gm, if_pos (show (some t).isSome = true from rfl), List.append_nil] at own
        rw [if_neg (fun y => by rw [mb.f177.mp y] at gm; cases gm), lt3_n]
        refine next h1 ⟨by rw [own]; exact u1, by rw [own]; exact c1, c2, c3⟩
      | none =>
        rw [gm, if_neg (by decide)] at own
        have ol : (ownL ((mem (dc ds k)).take (i + 1))).length ≤ (ownL (mem (dc ds k))).length := by
          have := congrArg List.length (ownL_pre (ms := mem (dc ds k)) (i := i + 1))
          rw [List.length_take] at this; omega
        rw [own, List.length_append, List.length_singleton] at ol
        have kO : kc h1 (fr h 44 (kx (10 + k))) = 102 := u1.kk k0.k44 (by decide)
        have lnO := c1.1
        rw [List.length_append] at lnO
        have w1 := u1.1
        have hnew := w1.new
        have uA := u1.nO (k := 31) (n := 3) (b := 1) (by omega) (by omega)
        have vA : Ef [] KY (0 + 1) h1 (nO h1 31 3) := (Ef.refl w1 [] KY).nO (k := 31) (n := 3) (b := 1) (by omega) (by omega)
        have mbA := MbS_ef vA xxY0.1 mb
        have yA := TyK_ef vA xxY0.1 (by simp) y1
        have kn : kc (nO h1 31 3) (nx h1) = 31 := kc_nO_n
        have kOA : kc (nO h1 31 3) (fr h 44 (kx (10 + k))) = 102 := kc_nO_o w1 kO (by decide)
        have kLA : lsK (nO h1 31 3) (fr h 44 (kx (10 + k))) := ⟨by rw [kOA]; decide, by rw [kOA]; decide, c2⟩
        have lnA : (ls (nO h1 31 3) (fr h 44 (kx (10 + k)))).length = fs.length + (ownL ((mem (dc ds k)).take i)).length := lnO
        have n0 : nx h1 ≠ 0 := by have := w1.1; omega
        have ev : ∀ {K : HP → Rs Unit}, bd (f_X31_init (nx h1) (fr (nO h1 31 3) 175 (bA h1 ax k i)) (kxo kx (res ds AR ((mem (dc ds k)).getD i mb0).1.1)) (nI (fs.length + (ownL ((mem (dc ds k)).take i)).length)) (nO h1 31 3)) (fun _ h2 => K h2) = K (sI (sR (sR (nO h1 31 3) 234 (nx h1) (fr (nO h1 31 3) 175 (bA h1 ax k i))) 235 (nx h1) (kxo kx (res ds AR ((mem (dc ds k)).getD i mb0).1.1))) 236 (nx h1) (nI (fs.length + (ownL ((mem (dc ds k)).take i)).length))) := fun {K} => by
          unfold f_X31_init
          rw [if_neg n0, stR_e kn, stR_e (show kc (sR (nO h1 31 3) 234 (nx h1) _) (nx h1) = 31 from kn), stI_e (show kc (sR (sR (nO h1 31 3) 234 (nx h1) _) 235 (nx h1) _) (nx h1) = 31 from kn), bd_ok]
        rw [if_pos (mb.f177.mpr gm), nwO_e, ldR_e mbA.1, ldR_e mbA.1, ldR_e mbA.2.1.1.1, yA.get mbA.2.1, lsSize_e kLA, lnA, if_pos kn, ev]
        have uB := ((uA.sR (f := 234) (v := fr (nO h1 31 3) 175 (bA h1 ax k i)) kn (by decide) (.inl (u1.k0 hnew))).sR (f := 235) (v := kxo kx (res ds AR ((mem (dc ds k)).getD i mb0).1.1)) (p := nx h1) (show kc (sR (nO h1 31 3) 234 (nx h1) _) (nx h1) = 31 from kn) (by decide) (.inl (u1.k0 hnew))).sI (f := 236) (v := nI (fs.length + (ownL ((mem (dc ds k)).take i)).length)) (p := nx h1) (show kc (sR (sR (nO h1 31 3) 234 (nx h1) _) 235 (nx h1) _) (nx h1) = 31 from kn) (by decide) (.inl (u1.k0 hnew))
        have vB := ((vA.sR (f := 234) (v := fr (nO h1 31 3) 175 (bA h1 ax k i)) kn (by decide) (.inl hnew)).sR (f := 235) (v := kxo kx (res ds AR ((mem (dc ds k)).getD i mb0).1.1)) (p := nx h1) (show kc (sR (nO h1 31 3) 234 (nx h1) _) (nx h1) = 31 from kn) (by decide) (.inl hnew)).sI (f := 236) (v := nI (fs.length + (ownL ((mem (dc ds k)).take i)).length)) (p := nx h1) (show kc (sR (sR (nO h1 31 3) 234 (nx h1) _) 235 (nx h1) _) (nx h1) = 31 from kn) (by decide) (.inl hnew)
        have f234 : fr (sI (sR (sR (nO h1 31 3) 234 (nx h1) (fr (nO h1 31 3) 175 (bA h1 ax k i))) 235 (nx h1) (kxo kx (res ds AR ((mem (dc ds k)).getD i mb0).1.1))) 236 (nx h1) (nI (fs.length + (ownL ((mem (dc ds k)).take i)).length))) 234 (nx h1) = fr (nO h1 31 3) 175 (bA h1 ax k i) := by
          show fr (sR (sR (nO h1 31 3) 234 (nx h1) _) 235 (nx h1) _) 234 (nx h1) = _
          rw [fr_sR, if_neg (fun z => absurd z.1 (by decide)), fr_sR, if_pos ⟨rfl, rfl⟩]
        have f235 : fr (sI (sR (sR (nO h1 31 3) 234 (nx h1) (fr (nO h1 31 3) 175 (bA h1 ax k i))) 235 (nx h1) (kxo kx (res ds AR ((mem (dc ds k)).getD i mb0).1.1))) 236 (nx h1) (nI (fs.length + (ownL ((mem (dc ds k)).take i)).length))) 235 (nx h1) = kxo kx (res ds AR ((mem (dc ds k)).getD i mb0).1.1) := by
          show fr (sR (sR (nO h1 31 3) 234 (nx h1) _) 235 (nx h1) _) 235 (nx h1) = _
          rw [fr_sR, if_pos ⟨rfl, rfl⟩]
        have f236 : fi (sI (sR (sR (nO h1 31 3) 234 (nx h1) (fr (nO h1 31 3) 175 (bA h1 ax k i))) 235 (nx h1) (kxo kx (res ds AR ((mem (dc ds k)).getD i mb0).1.1))) 236 (nx h1) (nI (fs.length + (ownL ((mem (dc ds k)).take i)).length))) 236 (nx h1) = nI (fs.length + (ownL ((mem (dc ds k)).take i)).length) := by
          rw [fi_sI, if_pos ⟨rfl, rfl⟩]
        have stB : StrX (sI (sR (sR (nO h1 31 3) 234 (nx h1) (fr (nO h1 31 3) 175 (bA h1 ax k i))) 235 (nx h1) (kxo kx (res ds AR ((mem (dc ds k)).getD i mb0).1.1))) 236 (nx h1) (nI (fs.length + (ownL ((mem (dc ds k)).take i)).length))) (fr (nO h1 31 3) 175 (bA h1 ax k i)) ((mem (dc ds k)).getD i mb0).1.2.1 := ⟨mbA.2.2.1.1, mbA.2.2.1.2⟩
        have kOB : kc (sI (sR (sR (nO h1 31 3) 234 (nx h1) (fr (nO h1 31 3) 175 (bA h1 ax k i))) 235 (nx h1) (kxo kx (res ds AR ((mem (dc ds k)).getD i mb0).1.1))) 236 (nx h1) (nI (fs.length + (ownL ((mem (dc ds k)).take i)).length))) (fr h 44 (kx (10 + k))) = 102 := kOA
        have lsB : ls (sI (sR (sR (nO h1 31 3) 234 (nx h1) (fr (nO h1 31 3) 175 (bA h1 ax k i))) 235 (nx h1) (kxo kx (res ds AR ((mem (dc ds k)).getD i mb0).1.1))) 236 (nx h1) (nI (fs.length + (ownL ((mem (dc ds k)).take i)).length))) (fr h 44 (kx (10 + k))) = ls h1 (fr h 44 (kx (10 + k))) := rfl
        have cpB : cp (sI (sR (sR (nO h1 31 3) 234 (nx h1) (fr (nO h1 31 3) 175 (bA h1 ax k i))) 235 (nx h1) (kxo kx (res ds AR ((mem (dc ds k)).getD i mb0).1.1))) 236 (nx h1) (nI (fs.length + (ownL ((mem (dc ds k)).take i)).length))) (fr h 44 (kx (10 + k))) = cp h1 (fr h 44 (kx (10 + k))) := rfl
        have othB : ∀ q, kc h1 q = 102 → ls (sI (sR (sR (nO h1 31 3) 234 (nx h1) (fr (nO h1 31 3) 175 (bA h1 ax k i))) 235 (nx h1) (kxo kx (res ds AR ((mem (dc ds k)).getD i mb0).1.1))) 236 (nx h1) (nI (fs.length + (ownL ((mem (dc ds k)).take i)).length))) q = ls h1 q ∧ cp (sI (sR (sR (nO h1 31 3) 234 (nx h1) (fr (nO h1 31 3) 175 (bA h1 ax k i))) 235 (nx h1) (kxo kx (res ds AR ((mem (dc ds k)).getD i mb0).1.1))) 236 (nx h1) (nI (fs.length + (ownL ((mem (dc ds k)).take i)).length))) q = cp h1 q := fun q _ => ⟨rfl, rfl⟩
        have knB : kc (sI (sR (sR (nO h1 31 3) 234 (nx h1) (fr (nO h1 31 3) 175 (bA h1 ax k i))) 235 (nx h1) (kxo kx (res ds AR ((mem (dc ds k)).getD i mb0).1.1))) 236 (nx h1) (nI (fs.length + (ownL ((mem (dc ds k)).take i)).length))) (nx h1) = 31 := kn
        generalize sI (sR (sR (nO h1 31 3) 234 (nx h1) (fr (nO h1 31 3) 175 (bA h1 ax k i))) 235 (nx h1) (kxo kx (res ds AR ((mem (dc ds k)).getD i mb0).1.1))) 236 (nx h1) (nI (fs.length + (ownL ((mem (dc ds k)).take i)).length)) = h2 at *
        have KL : lsK h2 (fr h 44 (kx (10 + k))) := ⟨by rw [kOB]; decide, by rw [kOB]; decide, by rw [cpB]; exact c2⟩
        have ln2 : (ls h2 (fr h 44 (kx (10 + k)))).length ≤ 40 := by rw [lsB]; omega
        rw [lsAdd_e KL (.inr (.inr (.inr (by rw [knB]; decide)))) (by omega), lt3_n]
        have u2 := Ef_ladb (v := nx h1) (b := 1) uB kOB (by decide) (.inr (by simp)) (by omega) (by omega)
        have v2 := Ef_ladb (v := nx h1) (b := 1) vB kOB (by decide) (.inr (by simp)) (by omega) (by omega)
        refine next _ ⟨u2.le ?_, ?_, (lad_K KL (by omega)).2.2, fun q h1' h2' => ?_⟩
        · rw [own, List.length_append, List.length_singleton]; omega
        · rw [own, ← List.append_assoc]
          refine LF_push c1 (fun a i v z => FdX_ef v2 xxY0.1 (by simp) z) (a := nx h1) ?_ ?_
          · rw [lad_ls, lsB]
          · refine ⟨knB, ⟨?_, ?_⟩, f235, ?_⟩
            · show kc h2 (fr h2 234 (nx h1)) = 71
              rw [f234]; exact stB.1
            · show tx h2 (fr h2 234 (nx h1)) = _
              rw [f234]; exact stB.2
            · show fi h2 236 (nx h1) = _
              rw [f236, List.length_append]
        · have k102 : kc h1 q = 102 := u1.kk h1' (by decide)
          obtain ⟨o1, o2⟩ := othB q k102
          unfold lad
          rw [ls_sLc, if_neg h2', cp_sLc, if_neg h2', o1, o2]
          exact c3 q h1' h2')
    (fun N h1 ⟨u1, c1, c2, c3⟩ => by
      have x1 := XK_ef u1 xxY0 x.1
      have d1 := x1.1.dd hk
      rw [f_X11_layOut_l124_s]
      unfold b_X11_layOut_l124
      rw [ldR_e d1.1, lsSize_e d1.k168, d1.len168, if_pos (sz_le (Nat.le_refl _) (by omega))]
      rw [List.take_length] at c1 u1
      exact ⟨h1, rfl, u1, c1, c2, c3⟩) (Nat.zero_le _) ⟨(Ef.refl S.1 _ _).le (by omega), by simpa [ownL] using L, cq, fun q _ _ => ⟨rfl, rfl⟩⟩
