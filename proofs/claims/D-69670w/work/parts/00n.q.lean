/-! PHASE B settle 36: the component: all members -/
set_option maxRecDepth 100000
variable {F K : List Nat} {c : Nat} {h h' h0 : HP} {e : EE} {kx ax : Nat → Nat} {ds : List DC} {C DL kl q s j k p a b i r : Nat} {AR : AT} {D : List (List Nat)} {nm : List Nat} {d : DC} {m : Mb} {T : Ty} {ps : List Vr} {t : Mt} {g : Nat → Nat}
theorem cns_hi : cns ds (10 + k) = (con (dc ds k)).map Prod.fst := by unfold cns; rw [if_neg (by omega), show 10 + k - 10 = k by omega]
theorem KdK.k46 (x : KdK ds h a k) : LsS h (fr h 46 a) 100 StrX (cns ds k) := by
  obtain ⟨_, _, _, _, _, _, _, _, _, _, _, _, y, _⟩ := x
  exact y
theorem fst_s {l : List Td} (hi : i < l.length) : (l.take (i + 1)).map Prod.fst = (l.take i).map Prod.fst ++ [(l.getD i ([], 0)).1] := by
  rw [tk_s ([], 0) hi, List.map_append]; rfl
theorem l240_e {l : List Td} {v0 v1 : Nat} (L : LsS h q 100 StrX (l.map Prod.fst)) (hi : i < l.length) (hl : l.length ≤ 1000) :
    f_X11_members_l240 v0 v1 q (nI i) NN (nI 0) h = rok (if (l.getD i ([], 0)).1 ∈ (l.take i).map Prod.fst then Sum.inl () else Sum.inr ()) h := by
  have kL := L.k (by decide) (by decide)
  have len := L.len
  rw [List.length_map] at len
  have st : ∀ j, j < l.length → StrX h ((ls h q).getD j 0) (l.getD j ([], 0)).1 := fun j hj => by
    have := L.2.2.getD (i := j) (d := 0) (e := []) (by rw [List.length_map]; exact hj)
    rwa [gE_map ([], 0) hj] at this
  refine loop_NN (n := i) (F := f_X11_members_l240 v0 v1 q (nI i)) (by omega) (fun j h' => h' = h ∧ (l.getD i ([], 0)).1 ∉ (l.take j).map Prod.fst) (fun R => R = rok (if (l.getD i ([], 0)).1 ∈ (l.take i).map Prod.fst then Sum.inl () else Sum.inr ()) h) ?_ ?_ (Nat.zero_le _) ⟨rfl, by simp⟩
  · rintro N j h' hj ⟨rfl, hn⟩ next
    rw [f_X11_members_l240_s]
    unfold b_X11_members_l240
    have s1 := st j (by omega)
    have s2 := st i hi
    have fs := fst_s (l := l) (i := j) (by omega)
    rw [if_neg (sz_no hj (by omega)), lg_e kL (by omega) (by omega), cast_e s1.1 (by simp), lg_e kL (by omega) (by omega), txEq_e ⟨s1.1, s2.1⟩, s1.2, s2.2]
    by_cases z : (l.getD j ([], 0)).1 = (l.getD i ([], 0)).1
    · rw [if_pos z, if_neg z10, if_pos]
      have : (l.getD j ([], 0)).1 ∈ (l.take i).map Prod.fst := by
        refine List.mem_map.mpr ⟨l.getD j ([], 0), ?_, rfl⟩
        have : (l.take i).getD j ([], 0) = l.getD j ([], 0) := by
          rw [List.getD_eq_getElem?_getD, List.getElem?_take_of_lt hj, ← List.getD_eq_getElem?_getD]
        rw [← this]
        exact gDm _ (by rw [List.length_take]; omega)
      rw [← z]; exact this
    · rw [if_neg z, if_pos y00, lt3_n]
      refine next h' ⟨rfl, fun w => ?_⟩
      rw [fs] at w
      rcases List.mem_append.mp w with w1 | w1
      · exact hn w1
      · exact z (List.mem_singleton.mp w1).symm
  · rintro N h' ⟨rfl, hn⟩
    rw [f_X11_members_l240_s]
    unfold b_X11_members_l240
    rw [if_pos (sz_le (Nat.le_refl _) (by omega)), if_neg hn]
theorem l228_e {v0 v1 : Nat} (L : LsS h q 100 StrX ((con (dc ds k)).map Prod.fst)) (hl : (con (dc ds k)).length ≤ 1000) :
    match frs (cob ds k) (con (dc ds k)).length with
    | none => f_X11_members_l228 v0 v1 q NN (nI 0) h = rok (Sum.inr ()) h
    | some p => ∃ i, i < (con (dc ds k)).length ∧ f_X11_members_l228 v0 v1 q NN (nI 0) h = rok (Sum.inl (nI i)) h ∧ ((con (dc ds k)).getD i ([], 0)).2 = p := by
  have kL := L.k (by decide) (by decide)
  have len := L.len
  rw [List.length_map] at len
  refine loop_NN (n := (con (dc ds k)).length) (F := f_X11_members_l228 v0 v1 q) (by omega) (fun j h' => h' = h ∧ frs (cob ds k) j = none) (fun R => match frs (cob ds k) (con (dc ds k)).length with | none => R = rok (Sum.inr ()) h | some p => ∃ i, i < (con (dc ds k)).length ∧ R = rok (Sum.inl (nI i)) h ∧ ((con (dc ds k)).getD i ([], 0)).2 = p) ?_ ?_ (Nat.zero_le _) ⟨rfl, rfl⟩
  · rintro N j h' hj ⟨rfl, hn⟩ next
    rw [f_X11_members_l228_s]
    unfold b_X11_members_l228
    rw [lsSize_e kL, len, if_neg (sz_no hj (by omega)), show (0 : Int32) = nI 0 from rfl, l240_e L hj hl, bd_ok]
    by_cases z : ((con (dc ds k)).getD j ([], 0)).1 ∈ ((con (dc ds k)).take j).map Prod.fst
    · have : cob ds k j = some ((con (dc ds k)).getD j ([], 0)).2 := if_pos z
      rw [if_pos z, frs_at hn this hj]
      exact ⟨j, hj, rfl, rfl⟩
    · have : cob ds k j = none := if_neg z
      rw [if_neg z, Sum.elim_inr, lt3_n]
      exact next h' ⟨rfl, (frs_s hn).trans this⟩
  · rintro N h' ⟨rfl, hn⟩
    rw [f_X11_members_l228_s]
    unfold b_X11_members_l228
    rw [lsSize_e kL, len, if_pos (sz_le (Nat.le_refl _) (by omega)), hn]
theorem members_e (o : ok3 ds) (of : okFs ds) (x : XM e h C DL kl kx ax ds AR D g) (hk : k < ds.length) (hg : g k = 0) (u0 : Ef FM KM c h0 h) :
    OX e FM KM (c + 18 * (mem (dc ds k)).length) h0 (bad4 ds AR k) (fun h' => XM e h' C DL kl kx ax ds AR D (ud g k (mem (dc ds k)).length)) (f_X11_members e.P (ax k) h) := by
  have E := l4_e o of x hk hg u0
  have c401 : (con (dc ds k)).length ≤ 401 := (x.1.1.2.2.2.1.2 k hk).2.2.1.2.2
  unfold O4 at E
  unfold f_X11_members bad4
  cases gf : frs (mbb ds AR k) (mem (dc ds k)).length with
  | some p =>
    rw [gf] at E
    obtain ⟨h1, u1, E⟩ := E
    show ∃ h', _ = rex h' ∧ Ef FM KM _ h0 h' ∧ WrX e h' p
    rcases E with ⟨e1, w1⟩ | ⟨S1, i, hi, ⟨e1, z⟩ | ⟨e1, z⟩⟩
    · rw [e1, bd_ex]
      exact ⟨h1, rfl, u1, w1⟩
    · have mb := S1.mb hk hi
      obtain ⟨h2, e2, u2, w2⟩ := wrX_e (p := p) S1 u1 ⟨by simp, by simp⟩
      rw [e1, bd_ok, Sum.elim_inl, ldR_e mb.1, ldI_e mb.2.1.1.1, mb.2.1.1.2.2.2.1, z, e2]
      exact ⟨h2, rfl, u2, w2⟩
    · have mb := S1.mb hk hi
      obtain ⟨h2, e2, u2, w2⟩ := wrX_e (p := p) S1 u1 ⟨by simp, by simp⟩
      rw [e1, bd_ok, Sum.elim_inr, Sum.elim_inl, ldI_e mb.1, mb.2.2.2.1, z, e2]
      exact ⟨h2, rfl, u2, w2⟩
  | none =>
    rw [gf] at E
    obtain ⟨h1, e1, u1, X1⟩ := E
    have S := X1.1.1
    have d := S.dd hk
    have k0 := S.kk (i := 10 + k) (by omega)
    have L := k0.k46
    rw [cns_hi] at L
    have E2 := l228_e (v0 := e.P) (v1 := ax k) L (by omega)
    rw [e1, bd_ok, Sum.elim_inr, Sum.elim_inr, ldR_e d.1, d.2.1, ldR_e k0.1, thn_n, show (0 : Int32) = nI 0 from rfl]
    cases gc : frs (cob ds k) (con (dc ds k)).length with
    | none =>
      rw [gc] at E2
      rw [E2, bd_ok]
      exact ⟨h1, rfl, u1, X1⟩
    | some p =>
      rw [gc] at E2
      obtain ⟨i, hi, e2, z⟩ := E2
      obtain ⟨h2, e3, u2, w2⟩ := wrX_e (p := p) S u1 ⟨by simp, by simp⟩
      have L169 := d.2.2.2.2.2.2.2
      have ln : (ls h1 (fr h1 169 (ax k))).length = (con (dc ds k)).length := by
        have := L169.len
        rwa [List.length_map] at this
      have iv : IvX h1 ((ls h1 (fr h1 169 (ax k))).getD i 0) ((con (dc ds k)).getD i ([], 0)).2 := by
        have := L169.2.2.getD (i := i) (d := 0) (e := 0) (by rw [List.length_map]; exact hi)
        rwa [gE_map ([], 0) hi] at this
      rw [e2, bd_ok, Sum.elim_inl, ldR_e d.1, lg_e (L169.k (by decide) (by decide)) (by omega) (by omega), cast_e iv.1 (by simp), ivGet_e iv, z, e3]
      exact ⟨h2, rfl, u2, w2⟩
/-- the first r kinds' members are told -/
def gX (ds : List DC) (r : Nat) : Nat → Nat := fun k => if k < r then (mem (dc ds k)).length else 0
theorem gX_s (hr : r < ds.length) : ud (gX ds r) r (mem (dc ds r)).length = gX ds (r + 1) := funext fun j => by
  unfold ud gX
  by_cases z : j = r
  · rw [if_pos z, if_pos (by omega), z]
  · rw [if_neg z]
    by_cases w : j < r
    · rw [if_pos w, if_pos (by omega)]
    · rw [if_neg w, if_neg (by omega)]
abbrev nmb (ds : List DC) (k : Nat) : Nat := (mem (dc ds k)).length
theorem l186_e (o : ok3 ds) (of : okFs ds) (x : XM e h C DL kl kx ax ds AR D (gX ds 0)) (u0 : Ef FM KM c h0 h) :
    OX e FM KM (c + 18 * sm (nmb ds) ds.length) h0 (frs (bad4 ds AR) ds.length) (fun h' => XM e h' C DL kl kx ax ds AR D (gX ds ds.length)) (f_X11_settle_l186 e.P NN (nI 0) h) := by
  have n60 := o.1.1.1
  refine loop_NN (n := ds.length) (F := f_X11_settle_l186 e.P) (by omega) (fun r h' => Ef FM KM (c + 18 * sm (nmb ds) r) h0 h' ∧ XM e h' C DL kl kx ax ds AR D (gX ds r) ∧ frs (bad4 ds AR) r = none)
    (OX e FM KM (c + 18 * sm (nmb ds) ds.length) h0 (frs (bad4 ds AR) ds.length) (fun h' => XM e h' C DL kl kx ax ds AR D (gX ds ds.length))) ?_ ?_ (Nat.zero_le _) ⟨u0.le (by omega), x, rfl⟩
  · rintro N r h1 hr ⟨u1, X1, hn⟩ next
    have S := X1.1.1
    have E := members_e o of X1 hr (show gX ds r r = 0 from if_neg (by omega)) u1
    have le := sm_le (f := nmb ds) hr
    rw [f_X11_settle_l186_s]
    unfold b_X11_settle_l186
    rw [S.p162, S.dsz, if_neg (sz_no hr (by omega)), S.p162, S.dg hr, S.c13 hr, if_pos S.2.1.1]
    unfold OX at E
    cases g : bad4 ds AR r with
    | none =>
      rw [g] at E
      obtain ⟨h2, e2, u2, X2⟩ := E
      rw [e2, bd_ok, lt3_n]
      exact next h2 ⟨u2.le (by show c + 18 * sm (nmb ds) r + 18 * nmb ds r ≤ c + 18 * (sm (nmb ds) r + nmb ds r); omega), by rw [gX_s hr] at X2; exact X2, (frs_s hn).trans g⟩
    | some p =>
      rw [g] at E
      obtain ⟨h2, e2, u2, w2⟩ := E
      rw [e2, bd_ex, frs_at hn g hr]
      exact ⟨h2, rfl, u2.le (by show c + 18 * sm (nmb ds) r + 18 * nmb ds r ≤ _; omega), w2⟩
  · rintro N h1 ⟨u1, X1, hn⟩
    have S := X1.1.1
    rw [f_X11_settle_l186_s]
    unfold b_X11_settle_l186
    rw [S.p162, S.dsz, if_pos (sz_le (Nat.le_refl _) (by omega)), hn]
    exact ⟨h1, rfl, u1, X1⟩
