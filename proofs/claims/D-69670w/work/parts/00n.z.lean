/-! PHASE B settle 45: the component: methods alike above -/
set_option maxRecDepth 100000
variable {F K : List Nat} {c : Nat} {h h' h0 : HP} {e : EE} {kx ax : Nat → Nat} {ds : List DC} {C DL kl q s j k p a b i r l : Nat} {AR : AT} {D : List (List Nat)} {nm : List Nat} {v w : Vr × Mt} {g : Nat → Nat}
theorem ab_ge (o : ok3 ds) (hk : k < ds.length) (h : Wn ds k j = true) : 10 ≤ j ∧ j < 10 + ds.length := by
  have un : ∀ {a b}, Un ds a b → 10 ≤ b ∧ b < 10 + ds.length := fun {a b} hu => by
    obtain ⟨t, ht, rfl, hu⟩ := hu
    unfold upk at hu
    simp only [Bool.or_eq_true, decide_eq_true_eq] at hu
    rcases hu with z | z
    · exact ⟨so_ge (.inl (par_so z)), par_lt z⟩
    · exact ⟨so_ge (.inr (fcl_so (o.1.2 t ht) _ z)), fcs_lt _ z⟩
  have h := (Wn_ab hk).mp h
  cases h with
  | single h => exact un h
  | tail _ h => exact un h
theorem alen_n {β : Type} {p : Nat} {f : Int32 → Rs β} (hk : tiK (kc h p) < 17) : alen p h f = f (nI (xl h p)) := alen_e hk
theorem y00' : (0 : Nat) = 0 := rfl
theorem zb1 : ¬ (zB true = (0 : Int32)) := by decide
theorem zb0 : zB false = (0 : Int32) := by decide
theorem getX_e (x : XK e h C DL kl kx ax ds AR D) (hj : j < 10 + ds.length + AR.length) : f_X2_get C (nI j) h = rok (kx j) h := by
  have T := x.2.1
  have N4 := x.2.2.1.1
  have kL : lsK h kl := ⟨by rw [T.2.2.1]; decide, by rw [T.2.2.1]; decide, T.2.2.2.1⟩
  have len : (ls h kl).length = 10 + ds.length + AR.length := by rw [T.2.2.2.2.1, List.append_nil, List.length_map, List.length_range]; omega
  have k0 := (x.2.2.2.2.2.1.1 j hj).1
  unfold f_X2_get
  rw [ldR_e T.1, T.2.1, lg_e kL (by omega) (by omega), T.2.2.2.2.1, gr_map (by omega), cast_e k0 (by simp)]
theorem any_s {f : Nat → Bool} {j : Nat} : (List.range (j + 1)).any f = ((List.range j).any f || f j) := by
  rw [List.range_succ, List.any_append]; simp
theorem any_up {f : Nat → Bool} {j n : Nat} (h : f j = true) (hj : j < n) : (List.range n).any f = true := List.any_eq_true.mpr ⟨j, List.mem_range.mpr hj, h⟩
/-- params of told methods are few -/
def fewP (ds : List DC) : Prop := ∀ k, k < ds.length → ∀ v ∈ mts ds (10 + k), v.2.2.2.1.length ≤ 8
theorem fewP_of (o : okDs ds) : fewP ds := fun k hk v hv => by
  rw [mts_hi] at hv
  obtain ⟨m, hm, e⟩ := List.mem_filterMap.mp hv
  have ok := (o.2 k hk).2.2.2.2 m hm
  cases gm : m.2 with
  | none => rw [gm] at e; cases e
  | some t =>
    rw [gm] at e
    have e : (m.1, t) = v := Option.some.inj e
    rw [← e]
    exact (okMb_p ok gm).2
/-- the rows of what is above -/
theorem XK.row (x : XK e h C DL kl kx ax ds AR D) (hk : k < ds.length) : Rw h 282 (fr h 42 (kx (10 + k))) (10 + ds.length) (Wn ds k) := x.2.2.2.2.2.2.2.2.2.2.1 k hk
/-- one kind above: a clash or not -/
theorem one_e {β : Type} (o : ok3 ds) (x : XM e h C DL kl kx ax ds AR D (gX ds ds.length)) (R : okR ds AR) (hk : k < ds.length) (A : MtF h kx ds AR q p v) (r1 : res ds AR v.1.1 ≠ none ∧ ∀ x ∈ v.2.2.2.1, res ds AR x.1 ≠ none) (hv : v.2.2.2.1.length ≤ 8) {go bad : HP → Rs β} (hj : Wn ds k j = true) :
    bd (f_X2_get C (nI j) h) (fun x4 h5 => ldR 30 224 p h5 fun x6 => if kc h5 x4 = 4 then bd (f_X3_own x4 x6 h5) (fun x7 h8 => if x7 = 0 then go h8 else (if kc h8 p = 30 then bd (f_X30_isLike p x7 h8) (fun x1 h2 => if x1 = 0 then bad h2 else go h2) else none)) else none) = (if clash ds AR j v = true then bad h else go h) := by
  obtain ⟨j1, j2⟩ := ab_ge o hk hj
  obtain ⟨t, rfl⟩ : ∃ t, j = 10 + t := ⟨j - 10, by omega⟩
  have ht : t < ds.length := by omega
  have S := x.1.1
  have k0 := S.kk (i := 10 + t) (by omega)
  obtain ⟨pp, e1, f1⟩ := ownX_e x ht A.1.2.1
  rw [getX_e x.1 (by omega), bd_ok, ldR_e A.1.1, if_pos k0.1, e1, bd_ok]
  unfold clash
  cases g : fdm (mts ds (10 + t)) (nmV v) with
  | none =>
    rw [g] at f1
    have f1 : pp = 0 := f1
    rw [if_pos f1, if_neg (by simp)]
  | some w =>
    rw [g] at f1
    obtain ⟨f1, f2, f3⟩ := f1
    have r2 := R t ht w f3
    have hw := fewP_of S.2.2.2.1 t ht w f3
    rw [if_neg f1, if_pos A.1.1, isLike_e x r1 r2 A f2 hv hw, bd_ok]
    cases gs : sameT ds AR v w with
    | true => rw [if_pos rfl, if_neg z10, if_neg (by simp [gs])]
    | false => rw [if_pos (by decide), if_pos (by simp [gs])]
theorem ov28_e {v2 : Int32} (o : ok3 ds) (x : XM e h C DL kl kx ax ds AR D (gX ds ds.length)) (R : okR ds AR) (hk : k < ds.length) (A : MtF h kx ds AR q p v) (r1 : res ds AR v.1.1 ≠ none ∧ ∀ x ∈ v.2.2.2.1, res ds AR x.1 ≠ none) (hv : v.2.2.2.1.length ≤ 8) :
    f_X11_overrides_l28 e.P (kx (10 + k)) v2 p NN (0 : Int32) h = rok (if cl1b ds AR k v = true then Sum.inl () else Sum.inr ()) h := by
  have n60 := o.1.1.1
  have S := x.1.1
  have k0 := S.kk (i := 10 + k) (by omega)
  have rw' := x.1.row hk
  refine loop_NN (n := 10 + ds.length) (F := f_X11_overrides_l28 e.P (kx (10 + k)) v2 p) (i := 0) (h := h) (by omega) (fun j h' => h' = h ∧ (List.range j).any (fun j => Wn ds k j && clash ds AR j v) = false) (fun R => R = rok (if cl1b ds AR k v = true then Sum.inl () else Sum.inr ()) h) ?_ ?_ (Nat.zero_le _) ⟨rfl, rfl⟩
  · rintro N j h' hj ⟨rfl, hn⟩ next
    rw [f_X11_overrides_l28_s]
    unfold b_X11_overrides_l28 f_X11_overrides_l28b68 f_X11_overrides_l28b93
    rw [ldR_e k0.1, alen_n (by rw [rw'.1]; decide), rw'.2.1, if_neg (sz_no hj (by omega)), ldR_e k0.1, Rw_ld rw' rfl hj (by omega)]
    cases g : Wn ds k j with
    | false =>
      rw [if_pos zb0, if_pos y00', lt3_n]
      exact next h' ⟨rfl, by rw [any_s, hn, g]; rfl⟩
    | true =>
      rw [if_neg zb1, S.p161, if_pos x.1.2.1.1, one_e o x R hk A r1 hv g]
      cases gc : clash ds AR j v with
      | true =>
        have : cl1b ds AR k v = true := any_up (j := j) (by rw [g, gc]; rfl) hj
        rw [if_pos rfl, if_pos this]
      | false =>
        rw [if_neg (by decide), lt3_n]
        exact next h' ⟨rfl, by rw [any_s, hn, g, gc]; rfl⟩
  · rintro N h' ⟨rfl, hn⟩
    rw [f_X11_overrides_l28_s]
    unfold b_X11_overrides_l28
    have : cl1b ds AR k v = false := hn
    rw [ldR_e k0.1, alen_n (by rw [rw'.1]; decide), rw'.2.1, if_pos (sz_le (Nat.le_refl _) (by omega)), this]; rfl
theorem ov2_e (o : ok3 ds) (x : XM e h C DL kl kx ax ds AR D (gX ds ds.length)) (R : okR ds AR) (hk : k < ds.length) :
    match frs (bo ds AR k) (mts ds (10 + k)).length with
    | none => f_X11_overrides_l2 e.P (kx (10 + k)) NN (0 : Int32) h = rok (Sum.inr ()) h
    | some pl => ∃ p, f_X11_overrides_l2 e.P (kx (10 + k)) NN (0 : Int32) h = rok (Sum.inl p) h ∧ kc h p = 30 ∧ fi h 227 p = nI pl := by
  have S := x.1.1
  have k0 := S.kk (i := 10 + k) (by omega)
  have A := x.ml hk
  have kL := x.k45 hk
  have len := A.len
  have ml := mts_le (j := 10 + k) S.2.2.2.1
  refine loop_NN (n := (mts ds (10 + k)).length) (F := f_X11_overrides_l2 e.P (kx (10 + k))) (i := 0) (h := h) (by omega) (fun i h' => h' = h ∧ frs (bo ds AR k) i = none) (fun R => match frs (bo ds AR k) (mts ds (10 + k)).length with
    | none => R = rok (Sum.inr ()) h
    | some pl => ∃ p, R = rok (Sum.inl p) h ∧ kc h p = 30 ∧ fi h 227 p = nI pl) ?_ ?_ (Nat.zero_le _) ⟨rfl, rfl⟩
  · rintro N i h' hi ⟨rfl, hn⟩ next
    have F := A.getD (d := 0) (e := (vr0, mt0)) hi
    have mm := gDm (vr0, mt0) hi
    rw [f_X11_overrides_l2_s]
    unfold b_X11_overrides_l2
    rw [ldR_e k0.1, lsSize_e kL, len, if_neg (sz_no hi (by omega)), ldR_e k0.1, lg_e kL (by omega) (by omega), cast_e F.1.1 (by simp), ov28_e o x R hk F (R k hk _ mm) (fewP_of S.2.2.2.1 k hk _ mm), bd_ok]
    cases g : cl1b ds AR k ((mts ds (10 + k)).getD i (vr0, mt0)) with
    | true =>
      have : bo ds AR k i = some ((mts ds (10 + k)).getD i (vr0, mt0)).1.2.2 := if_pos g
      rw [if_pos rfl, frs_at hn this hi]
      exact ⟨_, rfl, F.1.1, F.1.2.2.2.2.1⟩
    | false =>
      have : bo ds AR k i = none := if_neg (by rw [g]; decide)
      rw [if_neg (by decide), Sum.elim_inr, lt3_n]
      exact next h' ⟨rfl, (frs_s hn).trans this⟩
  · rintro N h' ⟨rfl, hn⟩
    rw [f_X11_overrides_l2_s]
    unfold b_X11_overrides_l2
    rw [ldR_e k0.1, lsSize_e kL, len, if_pos (sz_le (Nat.le_refl _) (by omega)), hn]
theorem ov168_e {v3 : Int32} (o : ok3 ds) (x : XM e h C DL kl kx ax ds AR D (gX ds ds.length)) (R : okR ds AR) (hk : k < ds.length) (hj : j ≤ 10 + ds.length) (A : MtF h kx ds AR q p v) (r1 : res ds AR v.1.1 ≠ none ∧ ∀ x ∈ v.2.2.2.1, res ds AR x.1 ≠ none) (hv : v.2.2.2.1.length ≤ 8) :
    f_X11_overrides_l168 e.P (kx (10 + k)) (nI j) v3 p NN (0 : Int32) h = rok (if (List.range j).any (fun i => Wn ds k i && clash ds AR i v) = true then Sum.inl () else Sum.inr ()) h := by
  have n60 := o.1.1.1
  have S := x.1.1
  have k0 := S.kk (i := 10 + k) (by omega)
  have rw' := x.1.row hk
  refine loop_NN (n := j) (F := f_X11_overrides_l168 e.P (kx (10 + k)) (nI j) v3 p) (i := 0) (h := h) (by omega) (fun t h' => h' = h ∧ (List.range t).any (fun i => Wn ds k i && clash ds AR i v) = false) (fun R => R = rok (if (List.range j).any (fun i => Wn ds k i && clash ds AR i v) = true then Sum.inl () else Sum.inr ()) h) ?_ ?_ (Nat.zero_le _) ⟨rfl, rfl⟩
  · rintro N t h' ht ⟨rfl, hn⟩ next
    rw [f_X11_overrides_l168_s]
    unfold b_X11_overrides_l168 f_X11_overrides_l168b205 f_X11_overrides_l168b231
    rw [if_neg (sz_no ht (by omega)), ldR_e k0.1, Rw_ld rw' rfl (by omega) (by omega)]
    cases g : Wn ds k t with
    | false =>
      rw [if_pos zb0, if_pos y00', lt3_n]
      exact next h' ⟨rfl, by rw [any_s, hn, g]; rfl⟩
    | true =>
      rw [if_neg zb1, S.p161, if_pos x.1.2.1.1, one_e o x R hk A r1 hv g]
      cases gc : clash ds AR t v with
      | true =>
        have : (List.range j).any (fun i => Wn ds k i && clash ds AR i v) = true := any_up (j := t) (by rw [g, gc]; rfl) ht
        rw [if_pos rfl, if_pos this]
      | false =>
        rw [if_neg (by decide), lt3_n]
        exact next h' ⟨rfl, by rw [any_s, hn, g, gc]; rfl⟩
  · rintro N h' ⟨rfl, hn⟩
    rw [f_X11_overrides_l168_s]
    unfold b_X11_overrides_l168
    rw [if_pos (sz_le (Nat.le_refl _) (by omega)), hn]; rfl
/-- the methods of a kind above against those before it -/
def clj (ds : List DC) (AR : AT) (k j : Nat) (v : Vr × Mt) : Bool := (List.range j).any fun i => Wn ds k i && clash ds AR i v
theorem anyL {f : Vr × Mt → Bool} {l : List (Vr × Mt)} {i : Nat} (h : i < l.length) : (l.take (i + 1)).any f = ((l.take i).any f || f (l.getD i (vr0, mt0))) := by
  rw [tk_s (vr0, mt0) h, List.any_append]; simp
theorem ov118_e (o : ok3 ds) (x : XM e h C DL kl kx ax ds AR D (gX ds ds.length)) (R : okR ds AR) (hk : k < ds.length) (hj : j < 10 + ds.length) :
    f_X11_overrides_l118 e.P (kx (10 + k)) (nI j) NN (0 : Int32) h = rok (if (Wn ds k j && (mts ds j).any (clj ds AR k j)) = true then Sum.inl () else Sum.inr ()) h := by
  have n60 := o.1.1.1
  have S := x.1.1
  have k0 := S.kk (i := 10 + k) (by omega)
  have rw' := x.1.row hk
  have ml := mts_le (j := j) S.2.2.2.1
  refine loop_NN (n := (mts ds j).length) (F := f_X11_overrides_l118 e.P (kx (10 + k)) (nI j)) (i := 0) (h := h) (by omega) (fun t h' => h' = h ∧ (Wn ds k j = true → ((mts ds j).take t).any (clj ds AR k j) = false)) (fun R => R = rok (if (Wn ds k j && (mts ds j).any (clj ds AR k j)) = true then Sum.inl () else Sum.inr ()) h) ?_ ?_ (Nat.zero_le _) ⟨rfl, fun _ => rfl⟩
  · rintro N t h' ht ⟨rfl, hn⟩ next
    rw [f_X11_overrides_l118_s]
    unfold b_X11_overrides_l118
    rw [ldR_e k0.1, Rw_ld rw' rfl hj (by omega)]
    cases g : Wn ds k j with
    | false => rw [if_pos zb0]; rfl
    | true =>
      have hn := hn g
      obtain ⟨j1, j2⟩ := ab_ge o hk g
      obtain ⟨jj, rfl⟩ : ∃ t, j = 10 + t := ⟨j - 10, by omega⟩
      have hjj : jj < ds.length := by omega
      have A := x.ml hjj
      have kL := x.k45 hjj
      have len := A.len
      have kj := S.kk (i := 10 + jj) (by omega)
      have F := A.getD (d := 0) (e := (vr0, mt0)) ht
      have mm := gDm (vr0, mt0) ht
      rw [if_neg zb1, S.p161, if_pos x.1.2.1.1, getX_e x.1 (by omega), bd_ok, ldR_e kj.1, lsSize_e kL, len, if_neg (sz_no ht (by omega)), S.p161, if_pos x.1.2.1.1, getX_e x.1 (by omega), bd_ok, ldR_e kj.1, lg_e kL (by omega) (by omega), cast_e F.1.1 (by simp), ov168_e o x R hk (by omega) F (R jj hjj _ mm) (fewP_of S.2.2.2.1 jj hjj _ mm), bd_ok]
      cases gc : (List.range (10 + jj)).any (fun i => Wn ds k i && clash ds AR i ((mts ds (10 + jj)).getD t (vr0, mt0))) with
      | true =>
        have : (mts ds (10 + jj)).any (clj ds AR k (10 + jj)) = true := List.any_eq_true.mpr ⟨_, mm, gc⟩
        rw [if_pos rfl, this]; rfl
      | false =>
        rw [if_neg (by decide), Sum.elim_inr, lt3_n]
        have r := next h' ⟨rfl, fun _ => by rw [anyL ht, hn]; exact gc⟩
        rw [g] at r
        exact r
  · rintro N h' ⟨rfl, hn⟩
    rw [f_X11_overrides_l118_s]
    unfold b_X11_overrides_l118
    rw [ldR_e k0.1, Rw_ld rw' rfl hj (by omega)]
    cases g : Wn ds k j with
    | false => rw [if_pos zb0]; rfl
    | true =>
      have hn := hn g
      rw [List.take_length] at hn
      obtain ⟨j1, j2⟩ := ab_ge o hk g
      obtain ⟨jj, rfl⟩ : ∃ t, j = 10 + t := ⟨j - 10, by omega⟩
      have hjj : jj < ds.length := by omega
      have kL := x.k45 hjj
      have len := (x.ml hjj).len
      have kj := S.kk (i := 10 + jj) (by omega)
      rw [if_neg zb1, S.p161, if_pos x.1.2.1.1, getX_e x.1 (by omega), bd_ok, ldR_e kj.1, lsSize_e kL, len, if_pos (sz_le (Nat.le_refl _) (by omega)), hn]; rfl
theorem ov107_e (o : ok3 ds) (x : XM e h C DL kl kx ax ds AR D (gX ds ds.length)) (R : okR ds AR) (hk : k < ds.length) :
    f_X11_overrides_l107 e.P (kx (10 + k)) NN (0 : Int32) h = rok (if cl2b ds AR k = true then Sum.inl () else Sum.inr ()) h := by
  have n60 := o.1.1.1
  have S := x.1.1
  have k0 := S.kk (i := 10 + k) (by omega)
  have rw' := x.1.row hk
  refine loop_NN (n := 10 + ds.length) (F := f_X11_overrides_l107 e.P (kx (10 + k))) (i := 0) (h := h) (by omega) (fun j h' => h' = h ∧ (List.range j).any (fun j => Wn ds k j && (mts ds j).any (clj ds AR k j)) = false) (fun R => R = rok (if cl2b ds AR k = true then Sum.inl () else Sum.inr ()) h) ?_ ?_ (Nat.zero_le _) ⟨rfl, rfl⟩
  · rintro N j h' hj ⟨rfl, hn⟩ next
    rw [f_X11_overrides_l107_s]
    unfold b_X11_overrides_l107 f_X11_overrides_l107b243
    rw [ldR_e k0.1, alen_n (by rw [rw'.1]; decide), rw'.2.1, if_neg (sz_no hj (by omega)), ov118_e o x R hk hj, bd_ok]
    cases g : (Wn ds k j && (mts ds j).any (clj ds AR k j)) with
    | true =>
      have : cl2b ds AR k = true := any_up (f := fun j => Wn ds k j && (mts ds j).any (clj ds AR k j)) (j := j) g hj
      rw [if_pos rfl, if_pos this]; rfl
    | false =>
      rw [if_neg (by decide), Sum.elim_inr, lt3_n]
      exact next h' ⟨rfl, by rw [any_s, hn, g]; rfl⟩
  · rintro N h' ⟨rfl, hn⟩
    rw [f_X11_overrides_l107_s]
    unfold b_X11_overrides_l107
    have : cl2b ds AR k = false := hn
    rw [ldR_e k0.1, alen_n (by rw [rw'.1]; decide), rw'.2.1, if_pos (sz_le (Nat.le_refl _) (by omega)), this]; rfl
abbrev FW : List Nat := [28, 29]
theorem overrides_e (o : ok3 ds) (x : XM e h C DL kl kx ax ds AR D (gX ds ds.length)) (R : okR ds AR) (hk : k < ds.length) :
    OX e FW [] 0 h (bad5 ds AR k) (fun h' => h' = h) (f_X11_overrides e.P (kx (10 + k)) h) := by
  have S := x.1.1
  have k0 := S.kk (i := 10 + k) (by omega)
  have E := ov2_e o x R hk
  unfold f_X11_overrides bad5
  cases g : frs (bo ds AR k) (mts ds (10 + k)).length with
  | some pl =>
    rw [g] at E
    obtain ⟨p, e1, p1, p2⟩ := E
    obtain ⟨h2, e2, u2, w2⟩ := wrX_e (p := pl) S (Ef.refl S.1 FW []) ⟨by simp, by simp⟩
    rw [e1, bd_ok, Sum.elim_inl, ldI_e p1, p2, e2]
    exact ⟨h2, rfl, u2, w2⟩
  | none =>
    rw [g] at E
    rw [E, bd_ok, Sum.elim_inr, thn_n, ov107_e o x R hk, bd_ok]
    cases gc : cl2b ds AR k with
    | true =>
      obtain ⟨h2, e2, u2, w2⟩ := wrX_e (p := (dc ds k).2.1.2) S (Ef.refl S.1 FW []) ⟨by simp, by simp⟩
      rw [show (if true = true then Sum.inl () else Sum.inr ()) = (Sum.inl () : Unit ⊕ Unit) from rfl, Sum.elim_inl, ldI_e k0.1, k0.n48, kat_hi, e2]
      exact ⟨h2, rfl, u2, w2⟩
    | false =>
      rw [show (if false = true then Sum.inl () else Sum.inr ()) = (Sum.inr () : Unit ⊕ Unit) from rfl, Sum.elim_inr]
      exact ⟨h, rfl, Ef.refl S.1 _ _, rfl⟩
theorem ov254_e (o : ok3 ds) (x : XM e h C DL kl kx ax ds AR D (gX ds ds.length)) (R : okR ds AR) :
    OX e FW [] 0 h (frs (bad5 ds AR) ds.length) (fun h' => h' = h) (f_X11_settle_l254 e.P NN (0 : Int32) h) := by
  have n60 := o.1.1.1
  have S := x.1.1
  refine loop_NN (n := ds.length) (F := f_X11_settle_l254 e.P) (i := 0) (h := h) (by omega) (fun r h' => h' = h ∧ frs (bad5 ds AR) r = none) (OX e FW [] 0 h (frs (bad5 ds AR) ds.length) (fun h' => h' = h)) ?_ ?_ (Nat.zero_le _) ⟨rfl, rfl⟩
  · rintro N r h1 hr ⟨rfl, hn⟩ next
    have E := overrides_e o x R hr
    rw [f_X11_settle_l254_s]
    unfold b_X11_settle_l254
    rw [S.p162, S.dsz, if_neg (sz_no hr (by omega)), S.p162, S.dg hr, S.c13 hr, S.d163 hr, if_pos S.2.1.1]
    unfold OX at E
    cases g : bad5 ds AR r with
    | none =>
      rw [g] at E
      obtain ⟨h2, e2, u2, q2⟩ := E
      subst q2
      rw [e2, bd_ok, lt3_n]
      exact next h2 ⟨rfl, (frs_s hn).trans g⟩
    | some p =>
      rw [g] at E
      obtain ⟨h2, e2, u2, w2⟩ := E
      rw [e2, bd_ex, frs_at hn g hr]
      exact ⟨h2, rfl, u2, w2⟩
  · rintro N h1 ⟨rfl, hn⟩
    rw [f_X11_settle_l254_s]
    unfold b_X11_settle_l254
    rw [S.p162, S.dsz, if_pos (sz_le (Nat.le_refl _) (by omega)), hn]
    exact ⟨h1, rfl, Ef.refl S.1 _ _, rfl⟩
