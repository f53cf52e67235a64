/-! PHASE B settle 34: the component: a method, whole -/
set_option maxRecDepth 100000
variable {F K : List Nat} {c : Nat} {h h' h0 : HP} {e : EE} {kx ax : Nat → Nat} {ds : List DC} {C DL kl q s j k p a b i r : Nat} {AR : AT} {D : List (List Nat)} {nm : List Nat} {d : DC} {m : Mb} {T : Ty} {ps : List Vr} {t : Mt} {g : Nat → Nat}
theorem ivGet_e {β : Type} {p v : Nat} {f : Int32 → Rs β} (x : IvX h p v) : ivGet p h f = f (nI v) := by
  unfold ivGet
  rw [if_pos x.1, x.2]
abbrev FM : List Nat := [28, 29, 229]
abbrev KM : List Nat := [101, 116]
theorem xxM : Xx FM KM := ⟨by constructor <;> decide, by decide, by decide⟩
theorem fnd_mem {l : List (List Nat)} : (fnd l nm = none) ↔ nm ∉ l := by
  constructor
  · intro h hm
    obtain ⟨i, hi, e⟩ := List.getElem_of_mem hm
    refine fnd_none h i hi ?_
    rw [List.getD_eq_getElem?_getD, List.getElem?_eq_getElem hi]; exact e
  · intro h
    cases g : fnd l nm with
    | none => rfl
    | some i =>
      obtain ⟨a, b, _⟩ := fnd_some g
      exact absurd (by rw [← b]; exact gDm [] a) h
/-- what is known of a declaration, further -/
def okF (d : DC) : Prop := (d.1 ≠ 1 → d.2.2.1 = 0) ∧ (d.2.2.2.2.2.2 = [] ∨ mem d = []) ∧ ∀ m ∈ mem d, m.1.1.2.2 ≤ 8 ∧ (∀ v ∈ mps m.2, v.1.2.2 ≤ 8) ∧ ∀ t, m.2 = some t → t.1 ≤ 2 ∧ ∀ b, t.2.2.2 = some b → b.1 ≤ 300
def okFs (ds : List DC) : Prop := ∀ k, k < ds.length → okF (dc ds k)
theorem KdK.k45 (x : KdK ds h a k) : kc h (fr h 45 a) = 101 := by
  obtain ⟨_, _, _, _, _, _, _, _, _, _, _, y, _⟩ := x
  exact y
theorem KdK.n38 (x : KdK ds h a k) : fi h 38 a = nI (kab ds k) := by
  obtain ⟨_, _, _, _, _, _, _, y, _⟩ := x
  exact y
theorem method_e (x : XK e h C DL kl kx ax ds AR D) (y : TyK e h kx ds AR) (of : okFs ds) (dj : DjM h ax ds) (M : MmX h kx ax ds AR g) (hk : k < ds.length) (hi : i < (mem (dc ds k)).length) (hm : ((mem (dc ds k)).getD i mb0).2 = some t) (hg : g k = i) (u0 : Ef FM KM c h0 h) :
    OX e FM KM (c + 18) h0 (mtb ds AR k i ((mem (dc ds k)).getD i mb0).1 t) (fun h' => XK e h' C DL kl kx ax ds AR D ∧ TyK e h' kx ds AR ∧ DjM h' ax ds ∧ MmX h' kx ax ds AR (ud g k (i + 1))) (f_X11_method e.P (ax k) (bA h ax k i) (nI i) h) := by
  have S := x.1
  have mb := S.mb hk hi
  obtain ⟨a0, mt⟩ := S.mt hk hi hm
  have fa : fr h 177 (bA h ax k i) = mA h ax k i := rfl
  have p8 : t.2.2.1.length ≤ 8 := by
    obtain ⟨_, _, _, _, _, _, _, _, _, ok⟩ := mb
    have := ok.2.2
    unfold mps at this
    rw [hm] at this
    exact this
  have U0 := (M k hk).2 i hi t hm
  rw [if_neg (by omega)] at U0
  generalize ha : mA h ax k i = a at *
  generalize hb : bA h ax k i = b at *
  generalize hmm : (mem (dc ds k)).getD i mb0 = m at *
  have fK := y.get mb.2.1
  have u1 : Ef [229] [] 0 h (sR h 229 a (kxo kx (res ds AR m.1.1))) := (Ef.refl S.1 _ _).sR mt.1 (by decide) (.inr (by simp))
  have x229 : Xx [229] [] := ⟨by constructor <;> decide, by decide, by decide⟩
  have X1 := XK_ef u1 x229 x
  have y1 := TyK_ef u1 x229.1 (by decide) y
  have mb1 := MbS_ef u1 x229.1 mb
  have f230 : fr (sR h 229 a (kxo kx (res ds AR m.1.1))) 230 a = fr h 230 a := by rw [fr_sR, if_neg (fun z => absurd z.1 (by decide))]
  have f177 : fr (sR h 229 a (kxo kx (res ds AR m.1.1))) 177 b = a := by rw [fr_sR, if_neg (fun z => absurd z.1 (by decide))]; exact fa
  have f229 : fr (sR h 229 a (kxo kx (res ds AR m.1.1))) 229 a = kxo kx (res ds AR m.1.1) := by rw [fr_sR, if_pos ⟨rfl, rfl⟩]
  have o229 : ∀ q, q ≠ a → fr (sR h 229 a (kxo kx (res ds AR m.1.1))) 229 q = fr h 229 q := fun q hq => by rw [fr_sR, if_neg (fun z => hq z.2)]
  have L := mp21_e (v1 := ax k) X1 y1 mb1 hm f177 (by rw [f230]; exact U0)
  have ev : f_X11_method e.P (ax k) b (nI i) h = bd (f_X11_method_l21 e.P (ax k) b a NN (0 : Int32) (sR h 229 a (kxo kx (res ds AR m.1.1)))) (Sum.elim (fun x5 => fun h6 => ldR 15 178 b h6 fun x7 => lsGet x7 x5 h6 fun x8 => castR [14] x8 h6 (ldI 14 171 x8 h6 fun x9 => if kc h6 e.P = 12 then bd (f_X11_wrong e.P x9 h6) (fun x10 h11 => if kc h11 x10 = 69 then rex h11 else none) else none)) (Sum.elim (fun x12 => fun h13 => ldR 15 179 b h13 fun x14 => lsGet x14 x12 h13 fun x15 => castR [73] x15 h13 (ivGet x15 h13 fun x16 => if kc h13 e.P = 12 then bd (f_X11_wrong e.P x16 h13) (fun x17 h18 => if kc h18 x17 = 69 then rex h18 else none) else none)) (fun x19 => fun h20 => ldR 13 163 (ax k) h20 fun x21 => ldR 30 224 a h20 fun x22 => if kc h20 x21 = 4 then bd (f_X3_own x21 x22 h20) (fun x23 h24 => if x23 = 0 then (ldR 13 163 (ax k) h24 fun x25 => ldR 4 32 x25 h24 fun x26 => eqS x26 904 (f_X11_method_b251 e.P (ax k) b a (1 : Int32) h24) (f_X11_method_b251 e.P (ax k) b a (0 : Int32) h24)) else (ldI 15 176 b h24 fun x27 => if kc h24 e.P = 12 then bd (f_X11_wrong e.P x27 h24) (fun x28 h29 => if kc h29 x28 = 69 then rex h29 else none) else none)) else none))) := by
    unfold f_X11_method
    rw [ldR_e mb.1, fa, ldR_e mb.1, ldR_e mb.2.1.1.1, fK, stR_e mt.1]
  rw [ev]
  clear ev
  generalize hh1 : sR h 229 a (kxo kx (res ds AR m.1.1)) = h1 at *
  have wkA : ∀ {F1 K1 : List Nat} {c1 : Nat} {g1 g2 : HP}, (∀ f ∈ F1, f ∈ FM) → (∀ k ∈ K1, k ∈ KM) → Ef F1 K1 c1 g1 g2 → Ef FM KM c1 g1 g2 := fun a b z => z.wk a b (Nat.le_refl _)
  have u1' : Ef FM KM 0 h h1 := wkA (by simp) (by simp) u1
  unfold mtb
  cases gp : frs (pbd ds AR t.2.2.1) t.2.2.1.length with
  | some pl =>
    rw [gp] at L
    obtain ⟨h2, j, hj, u2, z⟩ := L
    have u2' : Ef FM KM t.2.2.1.length h1 h2 := wkA (by simp) (by simp) u2
    have mb2 := MbS_ef u2 xx116.1 mb1
    have X2 := XK_ef u2 xx116 X1
    have emp : mps m.2 = t.2.2.1 := by rw [hm]; rfl
    have U2 : Ef FM KM (c + 18) h0 h2 := ((u0.trans u1').trans u2').le (by omega)
    show ∃ h', _ = rex h' ∧ Ef FM KM (c + 18) h0 h' ∧ WrX e h' pl
    rcases z with ⟨e2, z2⟩ | ⟨e2, z2⟩
    · have L178 := mb2.2.2.2.2.1
      rw [emp] at L178
      have ln := L178.len
      rw [List.length_map] at ln
      have ty : TyS e h2 ((ls h2 (fr h2 178 b)).getD j 0) (t.2.2.1.getD j vr0).1 := by
        have := L178.2.2.getD (i := j) (d := 0) (e := ([], 0, 0)) (by rw [List.length_map]; exact hj)
        rwa [gE_map vr0 hj] at this
      obtain ⟨h3, e3, u3, w3⟩ := wrX_e (p := pl) X2.1 U2 ⟨by simp, by simp⟩
      rw [e2, bd_ok, Sum.elim_inl, ldR_e mb2.1, lg_e (L178.k (by decide) (by decide)) (by omega) (by omega), cast_e ty.1.1 (by simp), ldI_e ty.1.1, ty.1.2.2.2.1, z2, e3]
      exact ⟨h3, rfl, u3, w3⟩
    · have L179 := mb2.2.2.2.2.2.1
      rw [emp] at L179
      have ln := L179.len
      rw [List.length_map] at ln
      have iv : IvX h2 ((ls h2 (fr h2 179 b)).getD j 0) (t.2.2.1.getD j vr0).2.2 := by
        have := L179.2.2.getD (i := j) (d := 0) (e := 0) (by rw [List.length_map]; exact hj)
        rwa [gE_map vr0 hj] at this
      obtain ⟨h3, e3, u3, w3⟩ := wrX_e (p := pl) X2.1 U2 ⟨by simp, by simp⟩
      rw [e2, bd_ok, Sum.elim_inr, Sum.elim_inl, ldR_e mb2.1, lg_e (L179.k (by decide) (by decide)) (by omega) (by omega), cast_e iv.1 (by simp), ivGet_e iv, z2, e3]
      exact ⟨h3, rfl, u3, w3⟩
  | none =>
    rw [gp] at L
    obtain ⟨h2, e2, u2, ⟨c1, c2⟩, oth⟩ := L
    have u2' : Ef FM KM t.2.2.1.length h1 h2 := wkA (by simp) (by simp) u2
    have X2 := XK_ef u2 xx116 X1
    have y2 := TyK_ef u2 xx116.1 (by simp) y1
    have mb2 := MbS_ef u2 xx116.1 mb1
    have U2 : Ef FM KM (c + 8) h0 h2 := ((u0.trans u1').trans u2').le (by omega)
    have u12 : Ef [229] K116 t.2.2.1.length h h2 := (((u1.wk (fun _ z => z) (fun _ z => by simp at z) (Nat.le_refl _) : Ef [229] K116 0 h h1)).trans (u2.wk (fun _ z => by simp at z) (fun _ z => z) (Nat.le_refl _))).le (by omega)
    have s12 : Sx [229] K116 := by constructor <;> decide
    have S2 := X2.1
    have ma2 : mA h2 ax k i = a := (mA_ef S u12 s12 hk hi).trans ha
    have mt2 : MtS h2 a (kx (10 + k)) m.1.2 t := MtS_ef u12 s12 mt
    have k2 := S2.kk (i := 10 + k) (by omega)
    have k0 := S.kk (i := 10 + k) (by omega)
    have g45 : fr h2 45 (kx (10 + k)) = fr h 45 (kx (10 + k)) := u12.gr k0.1 (by decide) (by decide)
    have l45 : ls h2 (fr h2 45 (kx (10 + k))) = mAs h2 ax ds k i := by
      rw [g45, u12.gl k0.k45 (by decide) (by decide), (M k hk).1.1, hg, mAs_ef S u12 s12 hk (by omega)]
    have c45 : cp h2 (fr h2 45 (kx (10 + k))) ≠ RAW := by
      rw [g45, u12.gc k0.k45 (by decide) (by decide)]; exact (M k hk).1.2
    have A := mAs_A S2 hk i (by omega)
    rw [← l45] at A
    have m401 := S.m401 hk
    have hl : ((metL ((mem (dc ds k)).take i)).map fun x => x.1.2.1).length ≤ 400 := by
      rw [List.length_map]
      refine Nat.le_trans metL_le ?_
      rw [List.length_take]; omega
    have alen := A.len
    have ow := own_e (a := kx (10 + k)) (s := fr h2 224 a) (nm := m.1.2.1) k2.1 k2.k45 c45 A mt2.2.1 (by omega)
    have d2 := S2.dd hk
    rw [e2, bd_ok, Sum.elim_inr, Sum.elim_inr, ldR_e d2.1, d2.2.1, ldR_e mt2.1, if_pos k2.1, ow, bd_ok]
    by_cases zn : m.1.2.1 ∈ (metL ((mem (dc ds k)).take i)).map (fun x => x.1.2.1)
    · rw [if_pos zn]
      show ∃ h', _ = rex h' ∧ Ef FM KM (c + 18) h0 h' ∧ WrX e h' m.1.2.2
      cases gf : fnd ((metL ((mem (dc ds k)).take i)).map (fun x => x.1.2.1)) m.1.2.1 with
      | none => exact absurd zn (fnd_mem.mp gf)
      | some jj =>
        obtain ⟨hjj, _, _⟩ := fnd_some gf
        have k30 := (A.getD (d := 0) (e := []) hjj).1
        have nz : ¬ (ls h2 (fr h2 45 (kx (10 + k)))).getD jj 0 = 0 := fun w => by
          have := S2.1.ge k30 (by decide)
          omega
        obtain ⟨h3, e3, u3, w3⟩ := wrX_e (p := m.1.2.2) S2 (U2.le (show c + 8 ≤ c + 18 by omega)) ⟨by simp, by simp⟩
        rw [if_neg nz, ldI_e mb2.1, mb2.2.2.2.1, e3]
        exact ⟨h3, rfl, u3, w3⟩
    · rw [if_neg zn, fnd_mem.mpr zn, if_pos rfl]
      obtain ⟨of1, of2, of3⟩ := of k hk
      have mm : m ∈ mem (dc ds k) := by rw [← hmm]; exact gDm mb0 hi
      obtain ⟨_, _, of4⟩ := of3 m mm
      obtain ⟨of5, of6⟩ := of4 t hm
      have okd := (S.2.2.2.1.2 k hk).2.2.2.1
      have f38 : fi h2 38 (kx (10 + k)) = nI (if (dc ds k).1 = 2 then 1 else (dc ds k).2.2.1) := by
        rw [k2.n38]; unfold kab; rw [if_neg (by omega), show 10 + k - 10 = k by omega]
      have f180 : fi h2 180 b = if t.1 = 1 then 1 else 0 := by
        have := mb2.2.2.2.2.2.2.1
        rw [hm] at this; exact this
      have f181 : fi h2 181 b = if t.1 = 2 then 1 else 0 := by
        have := mb2.2.2.2.2.2.2.2.1
        rw [hm] at this; exact this
      have bk := mt2.2.2.2.2.2.2.2
      have hbd := hasBody_e bk (fun b hb => by
        unfold bdS at hb
        cases gb : t.2.2.2 with
        | none => rw [gb] at hb; cases hb
        | some bb => rw [gb] at hb; cases hb; exact of6 bb gb)
      rw [show (bdS t).isSome = t.2.2.2.isSome from Option.isSome_map] at hbd
      rw [shape_e (p := ax k) (q := kx (10 + k)) (f := (dc ds k).1) (ab := (dc ds k).2.2.1) d2.1 d2.2.1 k2.1 (by rw [k2.2.2.1, so_hi]) f38 ⟨okd.1, okd.2.1⟩ okd.2.2.1 mb2.1 f180 f181 of5 mt2.1 hbd]
      by_cases sh : shp (dc ds k).1 (dc ds k).2.2.1 t.1 t.2.2.2.isSome = true
      · rw [if_pos sh, if_pos sh]
        unfold f_X11_method_b334
        have kL : lsK h2 (fr h2 45 (kx (10 + k))) := ⟨by rw [k2.k45]; decide, by rw [k2.k45]; decide, c45⟩
        rw [if_neg z10, ldR_e d2.1, d2.2.1, ldR_e k2.1, lsAdd_e kL (.inr (.inr (.inr (by rw [mt2.1]; decide)))) (by omega)]
        have U3 : Ef FM KM (c + 8 + 10) h0 (lad h2 (fr h2 45 (kx (10 + k))) a) := U2.lad k2.k45 (by decide) (by decide) (.inr (by simp)) (by omega)
        have u3 : Ef [] [101] (0 + 10) h2 (lad h2 (fr h2 45 (kx (10 + k))) a) := (Ef.refl S2.1 _ _).lad k2.k45 (by decide) (by decide) (.inr (by simp)) (by omega)
        have s3 : Xx [] [101] := ⟨by constructor <;> decide, by decide, by decide⟩
        have X3 := XK_ef u3 s3 X2
        refine ⟨_, rfl, U3.le (by omega), X3, TyK_ef u3 s3.1 (by simp) y2, DjM_ef S2 u3 s3.1 (DjM_ef S u12 s12 dj), fun k' hk' => ?_⟩
        have kk' := S2.kk (i := 10 + k') (by omega)
        have kk0 := S.kk (i := 10 + k') (by omega)
        have fr3 : ∀ f q, fr (lad h2 (fr h2 45 (kx (10 + k))) a) f q = fr h2 f q := fun f q => rfl
        have ls3 : ∀ q, q ≠ fr h2 45 (kx (10 + k)) → ls (lad h2 (fr h2 45 (kx (10 + k))) a) q = ls h2 q ∧ cp (lad h2 (fr h2 45 (kx (10 + k))) a) q = cp h2 q := fun q hq => by
          unfold lad
          rw [ls_sLc, if_neg hq, cp_sLc, if_neg hq]
          exact ⟨rfl, rfl⟩
        refine ⟨?_, fun t' ht' tt hm' => ?_⟩
        · by_cases z : k' = k
          · subst z
            rw [ud_s, fr3, lad_ls, l45, mAs_ef S2 u3 s3.1 hk' (by omega), mAs_s, isM_s (by rw [hmm]; exact hm), ma2]
            exact ⟨rfl, (lad_K kL (by omega)).2.2⟩
          · have ne : fr h2 45 (kx (10 + k')) ≠ fr h2 45 (kx (10 + k)) := fun w => z (by have := X2.2.2.2.2.2.1.2 45 (by simp) (10 + k') (10 + k) (by omega) (by omega) w; omega)
            obtain ⟨l1, l2⟩ := ls3 _ ne
            have gk : g k' ≤ (mem (dc ds k')).length ∨ (mem (dc ds k')).length < g k' := by omega
            rw [ud_o z, fr3, l1, l2, u12.gr kk0.1 (by decide) (by decide), u12.gl kk0.k45 (by decide) (by decide), u12.gc kk0.k45 (by decide) (by decide)]
            refine ⟨(M k' hk').1.1.trans ?_, (M k' hk').1.2⟩
            unfold mAs
            refine fm_congr fun tt htt => ?_
            by_cases w : tt < (mem (dc ds k')).length
            · rw [mA_ef S2 u3 s3.1 hk' w, mA_ef S u12 s12 hk' w]
            · have : isM ds k' tt = false := by
                unfold isM
                rw [List.getD_eq_getElem?_getD, List.getElem?_eq_none (by omega)]; rfl
              rw [this]; rfl
        · obtain ⟨_, mtO⟩ := S.mt hk' ht' hm'
          have old := (M k' hk').2 t' ht' tt hm'
          have maE : mA (lad h2 (fr h2 45 (kx (10 + k))) a) ax k' t' = mA h ax k' t' := (mA_ef S2 u3 s3.1 hk' ht').trans (mA_ef S u12 s12 hk' ht')
          have k116 : kc h (fr h 230 (mA h ax k' t')) = 116 := mtO.2.2.2.2.2.1
          have k116' : kc h2 (fr h 230 (mA h ax k' t')) = 116 := u12.kk k116 (by decide)
          have n45 : fr h 230 (mA h ax k' t') ≠ fr h2 45 (kx (10 + k)) := fun w => by
            rw [w, k2.k45] at k116'; exact absurd k116' (by decide)
          have f3 : fr (lad h2 (fr h2 45 (kx (10 + k))) a) 230 (mA h ax k' t') = fr h 230 (mA h ax k' t') := u12.gr mtO.1 (by decide) (by decide)
          obtain ⟨l1, l2⟩ := ls3 _ n45
          rw [maE]
          by_cases z : k' = k ∧ t' = i
          · obtain ⟨z1, z2⟩ := z
            subst z1 z2
            rw [hmm] at hm' ⊢
            rw [hm] at hm'
            cases hm'
            rw [ud_s, if_pos (by omega), ha]
            rw [ha] at f3 l1 l2
            refine ⟨?_, by rw [f3, l1, ← f230]; exact c1, by rw [f3, l2, ← f230]; exact c2⟩
            show fr h2 229 a = _
            rw [u2.gr (show kc h1 a = 30 from u1.kk mt.1 (by decide)) (by decide) (by simp)]
            exact f229
          · have ne : fr h 230 (mA h ax k' t') ≠ fr h 230 a := fun w => z (dj k' t' k i hk' hk ht' hi (isM_s hm') (isM_s (by rw [hmm]; exact hm)) (by rw [ha]; exact w))
            have na : mA h ax k' t' ≠ a := fun w => ne (by rw [w])
            have k116h1 : kc h1 (fr h 230 (mA h ax k' t')) = 116 := u1.kk k116 (by decide)
            obtain ⟨o1, o2⟩ := oth _ k116h1 (by rw [f230]; exact ne)
            have r229 : fr (lad h2 (fr h2 45 (kx (10 + k))) a) 229 (mA h ax k' t') = fr h 229 (mA h ax k' t') := by
              show fr h2 229 _ = _
              rw [u2.gr (show kc h1 (mA h ax k' t') = 30 from u1.kk mtO.1 (by decide)) (by decide) (by simp)]
              exact o229 _ na
            have lh : ls h1 (fr h 230 (mA h ax k' t')) = ls h (fr h 230 (mA h ax k' t')) := u1.gl k116 (by decide) (by simp)
            have ch : cp h1 (fr h 230 (mA h ax k' t')) = cp h (fr h 230 (mA h ax k' t')) := u1.gc k116 (by decide) (by simp)
            have eqv : t' < ud g k (i + 1) k' ↔ t' < g k' := by
              by_cases w : k' = k
              · subst w
                rw [ud_s]
                constructor
                · intro v
                  have : t' ≠ i := fun v2 => z ⟨rfl, v2⟩
                  omega
                · intro v; omega
              · rw [ud_o w]
            by_cases v : t' < g k'
            · rw [if_pos v] at old
              rw [if_pos (eqv.mpr v)]
              exact ⟨r229.trans old.1, by rw [f3, l1, o1, lh]; exact old.2.1, by rw [f3, l2, o2, ch]; exact old.2.2⟩
            · rw [if_neg v] at old
              rw [if_neg (fun w => v (eqv.mp w))]
              exact ⟨by rw [f3, l1, o1, lh]; exact old.1, by rw [f3, l2, o2, ch]; exact old.2⟩
      · rw [if_neg sh, if_neg sh]
        show ∃ h', _ = rex h' ∧ Ef FM KM (c + 18) h0 h' ∧ WrX e h' t.2.1
        unfold f_X11_method_b334
        obtain ⟨h3, e3, u3, w3⟩ := wrX_e (p := t.2.1) S2 (U2.le (show c + 8 ≤ c + 18 by omega)) ⟨by simp, by simp⟩
        rw [if_pos y00, ldI_e mt2.1, mt2.2.2.2.1, e3]
        exact ⟨h3, rfl, u3, w3⟩
