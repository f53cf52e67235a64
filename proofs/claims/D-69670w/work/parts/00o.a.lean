/-! PHASE B settle 46: the component: the body that is taken -/
set_option maxRecDepth 100000
variable {F K : List Nat} {c : Nat} {h h' h0 : HP} {e : EE} {kx ax : Nat → Nat} {ds : List DC} {C DL kl q s j k p a b i r l : Nat} {AR : AT} {D : List (List Nat)} {nm : List Nat} {v w : Vr × Mt} {g : Nat → Nat}
/-- whether a kind has a method of that name with a body -/
def bdd (ds : List DC) (j : Nat) (nm : List Nat) : Bool := match fdm (mts ds j) nm with
  | none => false
  | some v => v.2.2.2.2.isSome
def cov (ds : List DC) (k : Nat) (nm : List Nat) (j : Nat) : Bool := (alf ds k).any fun i => bdd ds i nm && (decide (i ≠ j) && Wn ds (i - 10) j)
def unc (ds : List DC) (k : Nat) (nm : List Nat) (j : Nat) : Bool := bdd ds j nm && !cov ds k nm j
def inC (ds : List DC) (j : Nat) (nm : List Nat) : Option Nat := (j :: up ds j).find? fun i => (fdm (mts ds i) nm).isSome
/-- the kind whose body is taken -/
def tkn (ds : List DC) (k : Nat) (nm : List Nat) : Option Nat := match inC ds (10 + k) nm with
  | some j => if bdd ds j nm = true then some j else none
  | none => match (alf ds k).filter (unc ds k nm) with
    | [j] => some j
    | _ => none
/-- a method of a kind at an address -/
def AtM (h : HP) (kx : Nat → Nat) (ds : List DC) (AR : AT) (nm : List Nat) (o : Option Nat) (p : Nat) : Prop := match o with
  | none => p = 0
  | some j => p ≠ 0 ∧ 10 ≤ j ∧ j < 10 + ds.length ∧ ∃ v, fdm (mts ds j) nm = some v ∧ v ∈ mts ds j ∧ MtF h kx ds AR (kx j) p v
theorem ownA_e (x : XM e h C DL kl kx ax ds AR D (gX ds ds.length)) (hj : 10 ≤ j ∧ j < 10 + ds.length) (hs : StrX h s nm) :
    ∃ p, f_X3_own (kx j) s h = rok p h ∧ AtM h kx ds AR nm (if (fdm (mts ds j) nm).isSome = true then some j else none) p := by
  obtain ⟨t, rfl⟩ : ∃ t, j = 10 + t := ⟨j - 10, by omega⟩
  obtain ⟨p, e1, f1⟩ := ownX_e x (show t < ds.length by omega) hs
  refine ⟨p, e1, ?_⟩
  cases g : fdm (mts ds (10 + t)) nm with
  | none =>
    rw [g] at f1
    rw [if_neg (by decide)]
    exact f1
  | some v =>
    rw [g] at f1
    rw [if_pos (show (some v).isSome = true from rfl)]
    exact ⟨f1.1, hj.1, hj.2, v, g, f1.2.2, f1.2.1⟩
theorem inC_none (hp : paF ds ds.length j = none) : inC ds j nm = if (fdm (mts ds j) nm).isSome = true then some j else none := by
  unfold inC
  rw [up_none hp, List.find?_cons]
  cases g : (fdm (mts ds j) nm).isSome with
  | true => rfl
  | false => rfl
theorem inC_some (o : ok3 ds) (hp : paF ds ds.length j = some p) : inC ds j nm = if (fdm (mts ds j) nm).isSome = true then some j else inC ds p nm := by
  unfold inC
  rw [up_some o hp, List.find?_cons]
  cases g : (fdm (mts ds j) nm).isSome with
  | true => rfl
  | false => rfl
theorem inClasses_e (o : ok3 ds) (x : XM e h C DL kl kx ax ds AR D (gX ds ds.length)) (hs : StrX h s nm) : ∀ j, 10 ≤ j ∧ j < 10 + ds.length → ∀ f, (up ds j).length < f →
    ∃ p, r_S1 f (kx j) s h = rok p h ∧ AtM h kx ds AR nm (inC ds j nm) p := by
  have S := x.1.1
  refine up_ind o (fun j g hj f hf => ?_) (fun j p g ih hj f hf => ?_)
  · obtain ⟨f, rfl⟩ : ∃ f', f = f' + 1 := ⟨f - 1, by omega⟩
    have k0 := S.kk (i := j) hj.2
    have pe := x.1.2.2.2.2.2.2.1 j (by omega)
    obtain ⟨p, e1, f1⟩ := ownA_e x hj hs
    rw [r_S1_s]
    unfold f_X3_inClasses_o
    rw [if_pos k0.1, e1, bd_ok, inC_none g]
    by_cases z : p = 0
    · rw [if_pos z, ldR_e k0.1, pe, g, if_pos (show kxo kx none = 0 from rfl)]
      exact ⟨p, rfl, f1⟩
    · rw [if_neg z]
      exact ⟨p, rfl, f1⟩
  · obtain ⟨f, rfl⟩ : ∃ f', f = f' + 1 := ⟨f - 1, by omega⟩
    have k0 := S.kk (i := j) hj.2
    have pe := x.1.2.2.2.2.2.2.1 j (by omega)
    obtain ⟨_, hp, hp10, _⟩ := pa_un g
    obtain ⟨p1, e1, f1⟩ := ownA_e x hj hs
    rw [up_some o g, List.length_cons] at hf
    rw [r_S1_s]
    unfold f_X3_inClasses_o
    rw [if_pos k0.1, e1, bd_ok, inC_some o g]
    cases gs : (fdm (mts ds j) nm).isSome with
    | false =>
      rw [gs, if_neg (by decide)] at f1
      have f1 : p1 = 0 := f1
      have kp := S.kk (i := p) hp
      obtain ⟨p2, e2, f2⟩ := ih ⟨hp10, hp⟩ f (by omega)
      rw [if_pos f1, ldR_e k0.1, pe, g, show kxo kx (some p) = kx p from rfl, if_neg (S.k0 hp).2, ldR_e k0.1, pe, g, show kxo kx (some p) = kx p from rfl, if_pos kp.1, e2, bd_ok, if_neg (by decide)]
      exact ⟨p2, rfl, f2⟩
    | true =>
      rw [gs, if_pos rfl] at f1
      rw [if_neg f1.1, if_pos rfl]
      exact ⟨p1, rfl, f1⟩
/-- the bodies' places are small -/
def okB3 (ds : List DC) : Prop := ∀ k, k < ds.length → ∀ v ∈ mts ds (10 + k), ∀ b, v.2.2.2.2 = some b → b.1 ≤ 300
theorem okB3_of (of : okFs ds) : okB3 ds := fun k hk v hv b hb => by
  rw [mts_hi] at hv
  obtain ⟨m, hm, e⟩ := List.mem_filterMap.mp hv
  obtain ⟨_, _, of3⟩ := of k hk
  obtain ⟨_, _, of4⟩ := of3 m hm
  cases gm : m.2 with
  | none => rw [gm] at e; cases e
  | some t =>
    rw [gm] at e
    have e : (m.1, t) = v := Option.some.inj e
    rw [← e] at hb
    exact (of4 t gm).2 b hb
theorem body_e (of : okFs ds) (hk : k < ds.length) (hv : v ∈ mts ds (10 + k)) (A : MtF h kx ds AR q p v) : f_X30_hasBody p h = rok (if v.2.2.2.2.isSome = true then 1 else 0) h := by
  have bk := A.1.2.2.2.2.2.2.2
  have := hasBody_e bk (fun b hb => by
    unfold bdS at hb
    cases gb : v.2.2.2.2 with
    | none =>
      have gb : v.2.2.2.2 = none := gb
      rw [gb] at hb; cases hb
    | some bb => rw [gb] at hb; cases hb; exact okB3_of of k hk v hv bb gb)
  rw [show (bdS v.2).isSome = v.2.2.2.2.isSome from Option.isSome_map] at this
  exact this
theorem alf_c (o : ok3 ds) (hk : k < ds.length) (h : j ∈ alf ds k) : 10 ≤ j ∧ j < 10 + ds.length ∧ Wn ds k j = true ∧ so ds j = 4 := by
  unfold alf at h
  obtain ⟨h1, h2⟩ := List.mem_filter.mp h
  rw [Bool.and_eq_true, decide_eq_true_eq] at h2
  obtain ⟨a, b⟩ := ab_ge o hk h2.1
  exact ⟨a, b, h2.1, h2.2⟩
theorem alf_le (o : ok3 ds) : (alf ds k).length ≤ 70 := by
  have := List.length_filter_le (fun j => Wn ds k j && decide (so ds j = 4)) (List.range (10 + ds.length))
  rw [List.length_range] at this
  have n60 := o.1.1.1
  unfold alf
  omega
theorem XK.l43 (x : XK e h C DL kl kx ax ds AR D) (hk : k < ds.length) : ls h (fr h 43 (kx (10 + k))) = (alf ds k).map kx ∧ lsK h (fr h 43 (kx (10 + k))) := by
  have L := x.2.2.2.2.2.2.2.2.1 (10 + k) (by omega)
  have kk := x.2.2.2.2.2.1.1 (10 + k) (by omega)
  exact ⟨by rw [L.1]; show (laF ds ds.length (10 + k)).map kx = _; rw [laF_hi hk], by rw [kk.2.2.1]; decide, by rw [kk.2.2.1]; decide, L.2⟩
/-- a kind's own method with a body -/
theorem ownB_e {β : Type} (of : okFs ds) (x : XM e h C DL kl kx ax ds AR D (gX ds ds.length)) (hj : 10 ≤ j ∧ j < 10 + ds.length) (hs : StrX h s nm) :
    ∃ p, (bdd ds j nm = true → AtM h kx ds AR nm (some j) p) ∧ ∀ {no : HP → Rs β} {yes : Nat → HP → Rs β}, bd (f_X3_own (kx j) s h) (fun x5 h6 => if x5 = 0 then no h6 else (if kc h6 x5 = 30 then bd (f_X30_hasBody x5 h6) (fun x7 h8 => if x7 = 0 then no h8 else yes x5 h8) else none)) = if bdd ds j nm = true then yes p h else no h := by
  obtain ⟨t, rfl⟩ : ∃ t, j = 10 + t := ⟨j - 10, by omega⟩
  have ht : t < ds.length := by omega
  obtain ⟨p, e1, f1⟩ := ownX_e x ht hs
  refine ⟨p, fun hb => ?_, fun {no yes} => ?_⟩
  · unfold bdd at hb
    cases g : fdm (mts ds (10 + t)) nm with
    | none => rw [g] at hb; cases hb
    | some v =>
      rw [g] at f1
      exact ⟨f1.1, hj.1, hj.2, v, g, f1.2.2, f1.2.1⟩
  · rw [e1, bd_ok]
    unfold bdd
    cases g : fdm (mts ds (10 + t)) nm with
    | none =>
      rw [g] at f1
      have f1 : p = 0 := f1
      rw [if_pos f1, if_neg (by decide)]
    | some v =>
      rw [g] at f1
      obtain ⟨f1, f2, f3⟩ := f1
      rw [if_neg f1, if_pos f2.1.1, body_e of ht f3 f2, bd_ok]
      cases gb : v.2.2.2.2.isSome with
      | true => rw [if_pos rfl, if_neg z10, if_pos gb]
      | false => rw [if_pos (by decide), if_neg (fun (z : v.2.2.2.2.isSome = true) => by rw [gb] at z; cases z)]
theorem belowF_e (o : ok3 ds) (x : XK e h C DL kl kx ax ds AR D) (hi : 10 ≤ i ∧ i < 10 + ds.length) (hj : 10 ≤ j ∧ j < 10 + ds.length) (ne : i ≠ j) : f_X3_isBelow 100 (kx i) (kx j) h = rok (if Wn ds (i - 10) j = true then 1 else 0) h := by
  have S := x.1
  have n60 := o.1.1.1
  have ki := S.kk (i := i) hi.2
  have kj := S.kk (i := j) hj.2
  obtain ⟨t, rfl⟩ : ∃ t, i = 10 + t := ⟨i - 10, by omega⟩
  have rw' := x.row (k := t) (by omega)
  show r_S0 (99 + 1) (kx (10 + t)) (kx j) h = _
  rw [r_S0_s]
  unfold f_X3_isBelow_o
  have so7 := so_lt ds (10 + t)
  rw [eqR_e ki.1 (by decide), if_neg (fun z => ne (S.inj hi.2 hj.2 z)), ldI_e kj.1, kj.2.1, if_neg (fun z => by have := (nk j (c := 8) (C := (8 : Int32)) rfl (by omega) (by omega)).mp z; omega), ldR_e ki.1, ki.2.2.1, show (907 : Nat) = 900 + 7 from rfl, eqS_e (by omega) (by omega), if_neg (by omega), ldI_e kj.1, kj.2.1, ldR_e ki.1, alen_n (by rw [rw'.1]; decide), rw'.2.1, if_neg (sz_no hj.2 (by omega)), ldR_e ki.1, ldI_e kj.1, kj.2.1, Rw_ld rw' rfl hj.2 (by omega), show 10 + t - 10 = t by omega]
  cases g : Wn ds t j with
  | true => rw [if_neg zb1, if_pos rfl]
  | false => rw [if_pos zb0, if_neg (by decide)]
theorem anyN {f : Nat → Bool} {l : List Nat} {i : Nat} (h : i < l.length) : (l.take (i + 1)).any f = ((l.take i).any f || f (l.getD i 0)) := by
  rw [tk_s 0 h, List.any_append]; simp
theorem isCov_e (o : ok3 ds) (of : okFs ds) (x : XM e h C DL kl kx ax ds AR D (gX ds ds.length)) (hk : k < ds.length) (hj : j ∈ alf ds k) (hs : StrX h s nm) :
    f_X3_isCovered (kx (10 + k)) s (kx j) h = rok (if cov ds k nm j = true then 1 else 0) h := by
  have S := x.1.1
  have k0 := S.kk (i := 10 + k) (by omega)
  obtain ⟨L1, kL⟩ := x.1.l43 hk
  have al := alf_le (k := k) o
  have len : (ls h (fr h 43 (kx (10 + k)))).length = (alf ds k).length := by rw [L1, List.length_map]
  obtain ⟨j1, j2, _, _⟩ := alf_c o hk hj
  have main : f_X3_isCovered_l2 (kx (10 + k)) s (kx j) NN (nI 0) h = rok (if cov ds k nm j = true then Sum.inl () else Sum.inr ()) h := by
    refine loop_NN (n := (alf ds k).length) (F := f_X3_isCovered_l2 (kx (10 + k)) s (kx j)) (by omega) (fun t h' => h' = h ∧ ((alf ds k).take t).any (fun i => bdd ds i nm && (decide (i ≠ j) && Wn ds (i - 10) j)) = false) (fun R => R = rok (if cov ds k nm j = true then Sum.inl () else Sum.inr ()) h) ?_ ?_ (Nat.zero_le _) ⟨rfl, rfl⟩
    · rintro N t h' ht ⟨rfl, hn⟩ next
      have mi := gDm 0 ht
      obtain ⟨i1, i2, _, _⟩ := alf_c o hk mi
      have gi : (ls h' (fr h' 43 (kx (10 + k)))).getD t 0 = kx ((alf ds k).getD t 0) := by rw [L1]; exact gE_map 0 ht
      have an := anyN (f := fun i => bdd ds i nm && (decide (i ≠ j) && Wn ds (i - 10) j)) ht
      have all : ∀ {b : Bool}, (bdd ds ((alf ds k).getD t 0) nm && (decide ((alf ds k).getD t 0 ≠ j) && Wn ds ((alf ds k).getD t 0 - 10) j)) = true → cov ds k nm j = true := fun {b} w => List.any_eq_true.mpr ⟨_, mi, w⟩
      generalize hi0 : (alf ds k).getD t 0 = i at *
      have ki := S.kk (i := i) i2
      obtain ⟨p, f1, e1⟩ := ownB_e (β := Unit ⊕ Unit) of x ⟨i1, i2⟩ hs
      rw [f_X3_isCovered_l2_s]
      unfold b_X3_isCovered_l2 f_X3_isCovered_l2b64
      rw [ldR_e k0.1, lsSize_e kL, len, if_neg (sz_no ht (by omega)), ldR_e k0.1, lg_e kL (by omega) (by omega), gi, cast_e ki.1 (by simp), if_pos ki.1, e1]
      cases gb : bdd ds i nm with
      | false =>
        rw [if_neg (by decide), lt3_n]
        exact next h' ⟨rfl, by rw [an, hn, gb]; rfl⟩
      | true =>
        rw [if_pos rfl, eqR_e ki.1 (by decide)]
        by_cases z : i = j
        · rw [if_pos (by rw [z]), lt3_n]
          exact next h' ⟨rfl, by rw [an, hn, gb]; simp [z]⟩
        · rw [if_neg (fun y => z (S.inj i2 j2 y)), if_pos ki.1, belowF_e o x.1 ⟨i1, i2⟩ ⟨j1, j2⟩ z, bd_ok]
          cases gw : Wn ds (i - 10) j with
          | true =>
            have := all (b := true) (by rw [gb, gw]; simp [z])
            rw [if_pos rfl, if_neg z10, if_pos this]
          | false =>
            rw [if_pos (by decide), lt3_n]
            exact next h' ⟨rfl, by rw [an, hn, gw]; simp⟩
    · rintro N h' ⟨rfl, hn⟩
      rw [List.take_length] at hn
      have : cov ds k nm j = false := hn
      rw [f_X3_isCovered_l2_s]
      unfold b_X3_isCovered_l2
      rw [ldR_e k0.1, lsSize_e kL, len, if_pos (sz_le (Nat.le_refl _) (by omega)), this]; rfl
  unfold f_X3_isCovered
  rw [show (0 : Int32) = nI 0 from rfl, main, bd_ok]
  cases g : cov ds k nm j <;> rfl
