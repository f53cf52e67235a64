/-! PHASE B settle 32: the component: a method's heading -/
set_option maxRecDepth 100000
variable {F K : List Nat} {c : Nat} {h h' h0 : HP} {e : EE} {kx ax : Nat → Nat} {ds : List DC} {C DL kl q s j k p a b i r : Nat} {AR : AT} {D : List (List Nat)} {nm : List Nat} {d : DC} {m : Mb} {T : Ty} {ps : List Vr} {t : Mt}
/-- types know their kinds -/
def TyK (e : EE) (h : HP) (kx : Nat → Nat) (ds : List DC) (AR : AT) : Prop := kc h e.tl = 106 ∧ ∀ a ∈ ls h e.tl, ∃ T, TyX h a T ∧ fr h 173 a = kxo kx (res ds AR T)
theorem TyK_ef (u : Ef F K c h h') (s : Sx F K) (hF : 173 ∉ F) (x : TyK e h kx ds AR) : TyK e h' kx ds AR := by
  have g := u.gl x.1 (by decide) (s.2 106 (by decide))
  refine ⟨u.kk x.1 (by decide), fun a ha => ?_⟩
  rw [g] at ha
  obtain ⟨T, t, z⟩ := x.2 a ha
  exact ⟨T, TyX_ef u s t, (u.gr t.1 (by decide) hF).trans z⟩
theorem TyK.get (x : TyK e h kx ds AR) (t : TyS e h a T) : fr h 173 a = kxo kx (res ds AR T) := by
  obtain ⟨T', t', z⟩ := x.2 a t.2.1
  obtain ⟨_, _, a3, _, a5, a6⟩ := t.1
  obtain ⟨_, _, b3, _, b5, b6⟩ := t'
  have e1 : T'.1 = T.1 := b3.symm.trans a3
  have e2 : T'.2.2 = T.2.2 := (nI_eq (by omega) (by omega)).mp (b5.symm.trans a5)
  rw [z]
  show kxo kx (lkD _ _ T'.2.2 (kno ds T'.1)) = kxo kx (lkD _ _ T.2.2 (kno ds T.1))
  rw [e1, e2]
theorem XK.xo {o : Option Nat} (x : XK e h C DL kl kx ax ds AR D) (ho : ∀ k, o = some k → k < 10 + ds.length + AR.length) : (kxo kx o = 0) ↔ o = none := by
  cases o with
  | none => exact ⟨fun _ => rfl, fun _ => rfl⟩
  | some k => exact ⟨fun z => absurd z (x.nz (ho k rfl)), fun z => (by cases z)⟩
/-- a method of a kind by its name -/
theorem own_e {NM : List (List Nat)} (ka : kc h a = 4) (kl : kc h (fr h 45 a) = 101) (cl : cp h (fr h 45 a) ≠ RAW) (A : A2 (fun p x => kc h p = 30 ∧ StrX h (fr h 224 p) x) (ls h (fr h 45 a)) NM) (hs : StrX h s nm) (hl : NM.length ≤ 10000) :
    f_X3_own a s h = rok (match fnd NM nm with | none => 0 | some i => (ls h (fr h 45 a)).getD i 0) h := by
  have kL : lsK h (fr h 45 a) := ⟨by rw [kl]; decide, by rw [kl]; decide, cl⟩
  have len := A.len
  have main : f_X3_own_l2 a s NN (nI 0) h = rok (match fnd NM nm with | none => Sum.inr () | some i => Sum.inl (nI i)) h := by
    refine loop_NN (n := NM.length) (F := f_X3_own_l2 a s) (by omega) (fun i h' => h' = h ∧ ∀ j, j < i → NM.getD j [] ≠ nm) (fun r => r = rok (match fnd NM nm with | none => Sum.inr () | some i => Sum.inl (nI i)) h) ?_ ?_ (Nat.zero_le _) ⟨rfl, fun j hj => by omega⟩
    · rintro N i h' hi ⟨rfl, hj⟩ next
      rw [f_X3_own_l2_s]
      unfold b_X3_own_l2
      obtain ⟨k1, s1⟩ := A.getD (d := 0) (e := []) hi
      rw [ldR_e ka, lsSize_e kL, len, if_neg (sz_no hi (by omega)), ldR_e ka, lg_e kL (by omega) (by omega), cast_e k1 (by simp), ldR_e k1, txEq_e ⟨s1.1, hs.1⟩, s1.2, hs.2]
      by_cases z : NM.getD i [] = nm
      · rw [if_pos z, if_neg z10]
        have : fnd NM nm = some i := fnd_eq hi z hj
        rw [this]
      · rw [if_neg z, if_pos y00, lt3_n]
        exact next h' ⟨rfl, fun j h1 => by
          by_cases w : j = i
          · rw [w]; exact z
          · exact hj j (by omega)⟩
    · rintro N h' ⟨rfl, hj⟩
      rw [f_X3_own_l2_s]
      unfold b_X3_own_l2
      rw [ldR_e ka, lsSize_e kL, len, if_pos (sz_le (Nat.le_refl _) (by omega)), fnd_nn hj]
  unfold f_X3_own
  rw [show (0 : Int32) = nI 0 from rfl, main, bd_ok]
  cases g : fnd NM nm with
  | none => rfl
  | some i =>
    obtain ⟨hi, _, _⟩ := fnd_some g
    obtain ⟨k1, s1⟩ := A.getD (d := 0) (e := []) hi
    show ldR 4 45 a h (fun x3 => lsGet x3 (nI i) h fun x4 => castR [30] x4 h (rok x4 h)) = _
    rw [ldR_e ka, lg_e kL (by omega) (by omega), cast_e k1 (by simp)]
/-- a parameter: its type is there; its name is new and no kind's -/
def pbd (ds : List DC) (AR : AT) (ps : List Vr) (i : Nat) : Option Nat :=
  if res ds AR (ps.getD i vr0).1 = none then some (ps.getD i vr0).1.2.1
  else if kno ds (ps.getD i vr0).2.1 ≠ none ∨ (ps.getD i vr0).2.1 ∈ nms (ps.take i) then some (ps.getD i vr0).2.2 else none
/-- a method's shape, by its kind's form, whether that is abstract, its word and whether it has a body -/
def shp (f ab w : Nat) (b : Bool) : Bool := if f = 2 then (w == 0 && !b) || (w == 2 && b) else (w == 0 && b) || (w == 1 && !b && ab != 0)
theorem nms_s {ps : List Vr} (hi : i < ps.length) : nms (ps.take (i + 1)) = nms (ps.take i) ++ [(ps.getD i vr0).2.1] := by
  rw [tk_s vr0 hi]
  unfold nms
  rw [List.map_append]; rfl
theorem l108_e {v0 v1 v2 : Nat} {b0 : Bool} (ka : kc h a = 30) (L : LsS h (fr h 231 a) 115 StrX (nms ps)) (hr : r ≤ ps.length) (hp : ps.length ≤ 8) (hs : StrX h s nm) :
    f_X11_method_l108 v0 v1 v2 a (nI r) s NN (if b0 = true then 1 else 0) (0 : Int32) h = rok (if b0 = true ∧ nm ∉ nms (ps.take r) then 1 else 0) h := by
  have kL := L.k (by decide) (by decide)
  have len := L.len
  rw [List.length_map] at len
  exact loop_SN (σ := Int32 × Int32 × HP) (n := r) (G := fun N s' => f_X11_method_l108 v0 v1 v2 a (nI r) s N s'.1 s'.2.1 s'.2.2) (by omega)
    (fun i s' => s'.2.1 = nI i ∧ s'.1 = (if b0 = true ∧ nm ∉ nms (ps.take i) then 1 else 0) ∧ s'.2.2 = h)
    (fun R => R = rok (if b0 = true ∧ nm ∉ nms (ps.take r) then 1 else 0) h)
    (fun N i s' hi I next => by
      obtain ⟨s1, s2, s3⟩ := s'
      obtain ⟨e1, e2, e3⟩ := I
      have e1 : s2 = nI i := e1
      have e2 : s1 = (if b0 = true ∧ nm ∉ nms (ps.take i) then 1 else 0) := e2
      subst e1 e2
      have e3 : s3 = h := e3
      dsimp only
      rw [e3, f_X11_method_l108_s]
      unfold b_X11_method_l108 f_X11_method_l108b145 f_X11_method_l108b146
      rw [if_neg (sz_no hi (by omega))]
      have ns := nms_s (ps := ps) (i := i) (by omega)
      by_cases z : b0 = true ∧ nm ∉ nms (ps.take i)
      · have st : StrX h ((ls h (fr h 231 a)).getD i 0) ((nms ps).getD i []) := L.2.2.getD (by rw [List.length_map]; omega)
        have en : (nms ps).getD i [] = (ps.getD i vr0).2.1 := gE_map vr0 (by omega)
        rw [if_pos z, if_neg z10, ldR_e ka, lg_e kL (by omega) (by omega), cast_e st.1 (by simp), txEq_e ⟨st.1, hs.1⟩, st.2, hs.2, en]
        by_cases y : (ps.getD i vr0).2.1 = nm
        · rw [if_pos y, if_neg z10, lt3_n]
          refine next (0, nI (i + 1), h) ⟨rfl, ?_, rfl⟩
          show (0 : Int32) = _
          rw [if_neg (fun w => w.2 (by rw [ns]; exact List.mem_append.mpr (.inr (by rw [y]; simp))))]
        · rw [if_neg y, if_pos y00, lt3_n]
          refine next (1, nI (i + 1), h) ⟨rfl, ?_, rfl⟩
          show (1 : Int32) = _
          have zz : nm ∉ nms (ps.take (i + 1)) := fun w => by
            rw [ns] at w
            rcases List.mem_append.mp w with w1 | w1
            · exact z.2 w1
            · exact y (List.mem_singleton.mp w1).symm
          rw [if_pos ⟨z.1, zz⟩]
      · rw [if_neg z, if_pos y00, lt3_n]
        refine next (0, nI (i + 1), h) ⟨rfl, ?_, rfl⟩
        show (0 : Int32) = _
        rw [if_neg (fun w => z ⟨w.1, fun y => w.2 (by rw [ns]; exact List.mem_append.mpr (.inl y))⟩)])
    (fun N s' I => by
      obtain ⟨s1, s2, s3⟩ := s'
      obtain ⟨e1, e2, e3⟩ := I
      have e1 : s2 = nI r := e1
      have e2 : s1 = (if b0 = true ∧ nm ∉ nms (ps.take r) then 1 else 0) := e2
      subst e1 e2
      have e3 : s3 = h := e3
      dsimp only
      rw [e3, f_X11_method_l108_s]
      unfold b_X11_method_l108
      rw [if_pos (sz_le (Nat.le_refl _) (by omega))]) (i := 0) (s := ((if b0 = true then 1 else 0), (0 : Int32), h)) (Nat.zero_le _) ⟨rfl, by simp, rfl⟩
abbrev K116 : List Nat := [116]
theorem xx116 : Xx [] K116 := ⟨by constructor <;> decide, by decide, by decide⟩
/-- the parameters: m the member, a its method -/
theorem mp21_e {v1 : Nat} (x : XK e h C DL kl kx ax ds AR D) (y : TyK e h kx ds AR) (mb : MbS e h b q m) (hm : m.2 = some t) (ha : fr h 177 b = a) (hU : ls h (fr h 230 a) = [] ∧ cp h (fr h 230 a) ≠ RAW) :
    (match frs (pbd ds AR t.2.2.1) t.2.2.1.length with
    | none => ∃ h', f_X11_method_l21 e.P v1 b a NN (0 : Int32) h = rok (Sum.inr (Sum.inr ())) h' ∧ Ef [] K116 t.2.2.1.length h h' ∧ (ls h' (fr h 230 a) = t.2.2.1.map (fun v => kxo kx (res ds AR v.1)) ∧ cp h' (fr h 230 a) ≠ RAW) ∧ ∀ q, kc h q = 116 → q ≠ fr h 230 a → ls h' q = ls h q ∧ cp h' q = cp h q
    | some p => ∃ h' i, i < t.2.2.1.length ∧ Ef [] K116 t.2.2.1.length h h' ∧ ((f_X11_method_l21 e.P v1 b a NN (0 : Int32) h = rok (Sum.inl (nI i)) h' ∧ (t.2.2.1.getD i vr0).1.2.1 = p) ∨ (f_X11_method_l21 e.P v1 b a NN (0 : Int32) h = rok (Sum.inr (Sum.inl (nI i))) h' ∧ (t.2.2.1.getD i vr0).2.2 = p))) := by
  have p8 : t.2.2.1.length ≤ 8 := by
    obtain ⟨_, _, _, _, _, _, _, _, _, ok⟩ := mb
    have := ok.2.2
    unfold mps at this
    rw [hm] at this
    exact this
  have MT : ∀ {h1}, MbS e h1 b q m → fr h1 177 b = a → a ≠ 0 ∧ MtS h1 a q m.1.2 t := fun {h1} z za => by
    obtain ⟨_, _, _, _, _, _, _, _, w, _⟩ := z
    unfold MoS at w
    rw [hm, za] at w
    exact w
  refine loop_NN (n := t.2.2.1.length) (F := f_X11_method_l21 e.P v1 b a) (i := 0) (h := h) (by omega)
    (fun r h' => Ef [] K116 r h h' ∧ (ls h' (fr h 230 a) = (t.2.2.1.take r).map (fun v => kxo kx (res ds AR v.1)) ∧ cp h' (fr h 230 a) ≠ RAW) ∧ (∀ q, kc h q = 116 → q ≠ fr h 230 a → ls h' q = ls h q ∧ cp h' q = cp h q) ∧ frs (pbd ds AR t.2.2.1) r = none)
    (fun R => match frs (pbd ds AR t.2.2.1) t.2.2.1.length with
    | none => ∃ h', R = rok (Sum.inr (Sum.inr ())) h' ∧ Ef [] K116 t.2.2.1.length h h' ∧ (ls h' (fr h 230 a) = t.2.2.1.map (fun v => kxo kx (res ds AR v.1)) ∧ cp h' (fr h 230 a) ≠ RAW) ∧ ∀ q, kc h q = 116 → q ≠ fr h 230 a → ls h' q = ls h q ∧ cp h' q = cp h q
    | some p => ∃ h' i, i < t.2.2.1.length ∧ Ef [] K116 t.2.2.1.length h h' ∧ ((R = rok (Sum.inl (nI i)) h' ∧ (t.2.2.1.getD i vr0).1.2.1 = p) ∨ (R = rok (Sum.inr (Sum.inl (nI i))) h' ∧ (t.2.2.1.getD i vr0).2.2 = p))) ?_ ?_ (Nat.zero_le _) ⟨(Ef.refl x.1.1 _ _).le (by omega), ⟨hU.1.trans (by simp), hU.2⟩, fun _ _ _ => ⟨rfl, rfl⟩, rfl⟩
  · rintro N r h1 hr ⟨u1, ⟨c1, c2⟩, oth, hn⟩ next
    have sx := xx116.1
    have X1 := XK_ef u1 xx116 x
    have y1 := TyK_ef u1 sx (by simp) y
    have mb1 := MbS_ef u1 sx mb
    have k15 := mb.1
    have ha1 : fr h1 177 b = a := (u1.gr k15 (by decide) (by simp)).trans ha
    obtain ⟨a0, mt⟩ := MT mb1 ha1
    obtain ⟨k30, _, _, _, _, k116, L115, _⟩ := mt
    have k30' : kc h a = 30 := (MT mb ha).2.1
    have g230 : fr h1 230 a = fr h 230 a := u1.gr k30' (by decide) (by simp)
    have L178 := mb1.2.2.2.2.1
    have emp : mps m.2 = t.2.2.1 := by rw [hm]; rfl
    rw [emp] at L178
    have len8 := L178.len
    rw [List.length_map] at len8
    have kL8 := L178.k (by decide) (by decide)
    have ty : TyS e h1 ((ls h1 (fr h1 178 b)).getD r 0) (t.2.2.1.getD r vr0).1 := by
      have := L178.2.2.getD (i := r) (d := 0) (e := ([], 0, 0)) (by rw [List.length_map]; exact hr)
      rwa [gE_map vr0 hr] at this
    have len5 := L115.len
    rw [List.length_map] at len5
    have kL5 := L115.k (by decide) (by decide)
    have st : StrX h1 ((ls h1 (fr h1 231 a)).getD r 0) (t.2.2.1.getD r vr0).2.1 := by
      have := L115.2.2.getD (i := r) (d := 0) (e := []) (by rw [List.length_map]; exact hr)
      rwa [gE_map vr0 hr] at this
    have fK := y1.get ty
    rw [f_X11_method_l21_s]
    unfold b_X11_method_l21
    rw [ldR_e mb1.1, lsSize_e kL8, len8, if_neg (sz_no hr (by omega)), ldR_e mb1.1, lg_e kL8 (by omega) (by omega), cast_e ty.1.1 (by simp), ldR_e ty.1.1, fK]
    by_cases z1 : res ds AR (t.2.2.1.getD r vr0).1 = none
    · rw [if_pos ((X1.xo (fun k hk => res_lt hk)).mpr z1)]
      have : pbd ds AR t.2.2.1 r = some (t.2.2.1.getD r vr0).1.2.1 := if_pos z1
      rw [frs_at hn this hr]
      exact ⟨h1, r, hr, u1.le (by omega), .inl ⟨rfl, rfl⟩⟩
    rw [if_neg (fun z => z1 ((X1.xo (fun k hk => res_lt hk)).mp z)), ldR_e k30, lg_e kL5 (by omega) (by omega), cast_e st.1 (by simp), X1.1.p161, if_pos X1.2.1.1, X1.named st, bd_ok]
    have e108 : ∀ {b0 : Bool}, f_X11_method_l21b103 e.P v1 b a (f_X11_method_l21 e.P v1 b a N) (nI r) ((ls h1 (fr h1 231 a)).getD r 0) (if b0 = true then 1 else 0) h1 = (if b0 = true ∧ (t.2.2.1.getD r vr0).2.1 ∉ nms (t.2.2.1.take r) then (ldR 30 230 a h1 fun x3 => ldR 15 178 b h1 fun x4 => lsGet x4 (nI r) h1 fun x5 => castR [14] x5 h1 (ldR 14 173 x5 h1 fun x6 => lsAdd x3 x6 h1 fun h7 => lt3 (nI r + 1) fun x8 => f_X11_method_l21 e.P v1 b a N x8 h7)) else (rok (Sum.inr (Sum.inl (nI r))) h1)) := fun {b0} => by
      unfold f_X11_method_l21b103
      rw [l108_e (b0 := b0) k30 L115 (Nat.le_of_lt hr) p8 st, bd_ok]
      by_cases w : b0 = true ∧ (t.2.2.1.getD r vr0).2.1 ∉ nms (t.2.2.1.take r)
      · rw [if_pos w, if_pos w, if_neg z10]
      · rw [if_neg w, if_neg w, if_pos y00]
    have eY := e108 (b0 := true)
    rw [if_pos rfl] at eY
    have eN := e108 (b0 := false)
    rw [if_neg (by decide), if_neg (fun w => by cases w.1)] at eN
    by_cases z2 : kno ds (t.2.2.1.getD r vr0).2.1 ≠ none ∨ (t.2.2.1.getD r vr0).2.1 ∈ nms (t.2.2.1.take r)
    · have : pbd ds AR t.2.2.1 r = some (t.2.2.1.getD r vr0).2.2 := by unfold pbd; rw [if_neg z1, if_pos z2]
      rw [frs_at hn this hr]
      refine ⟨h1, r, hr, u1.le (by omega), .inr ⟨?_, rfl⟩⟩
      by_cases z3 : kno ds (t.2.2.1.getD r vr0).2.1 = none
      · rw [if_pos ((X1.xo (fun k hk => kno_N k hk)).mpr z3)]
        rw [eY, if_neg (fun w => w.2 (z2.resolve_left (fun v => v z3)))]
      · rw [if_neg (fun w => z3 ((X1.xo (fun k hk => kno_N k hk)).mp w))]
        rw [eN]
    · have z3 : kno ds (t.2.2.1.getD r vr0).2.1 = none := Decidable.byContradiction fun w => z2 (.inl w)
      have z4 : (t.2.2.1.getD r vr0).2.1 ∉ nms (t.2.2.1.take r) := fun w => z2 (.inr w)
      have pn : pbd ds AR t.2.2.1 r = none := by unfold pbd; rw [if_neg z1, if_neg z2]
      rw [if_pos ((X1.xo (fun k hk => kno_N k hk)).mpr z3)]
      rw [eY, if_pos ⟨rfl, z4⟩]
      have kA : lsK h1 (fr h1 230 a) := ⟨by rw [k116]; decide, by rw [k116]; decide, by rw [g230]; exact c2⟩
      obtain ⟨qk, hqk⟩ : ∃ qk, res ds AR (t.2.2.1.getD r vr0).1 = some qk := Option.ne_none_iff_exists'.mp z1
      have k4 : kc h1 (kxo kx (res ds AR (t.2.2.1.getD r vr0).1)) = 4 := by rw [hqk]; exact (X1.2.2.2.2.2.1.1 qk (res_lt hqk)).1
      have lenA : (ls h1 (fr h1 230 a)).length ≤ 8 := by rw [g230, c1, List.length_map, List.length_take]; omega
      rw [ldR_e k30, ldR_e mb1.1, lg_e kL8 (by omega) (by omega), cast_e ty.1.1 (by simp), ldR_e ty.1.1, fK, lsAdd_e kA (.inr (.inr (.inr (by rw [k4]; decide)))) (by omega), lt3_n]
      have u2 : Ef [] K116 (r + 1) h (lad h1 (fr h1 230 a) (kxo kx (res ds AR (t.2.2.1.getD r vr0).1))) := Ef_ladb (b := 1) u1 k116 (by decide) (.inr (by simp)) (by omega) (by omega)
      refine next _ ⟨u2.le (by omega), ⟨?_, ?_⟩, fun q h1' h2' => ?_, (frs_s hn).trans pn⟩
      · rw [← g230, lad_ls, g230, c1, tk_s vr0 hr, List.map_append]; rfl
      · rw [← g230]; exact (lad_K kA (by omega)).2.2
      · unfold lad
        rw [ls_sLc, if_neg (by rw [g230]; exact h2'), cp_sLc, if_neg (by rw [g230]; exact h2')]
        exact oth q h1' h2'
  · rintro N h1 ⟨u1, ⟨c1, c2⟩, oth, hn⟩
    have mb1 := MbS_ef u1 xx116.1 mb
    have L178 := mb1.2.2.2.2.1
    have emp : mps m.2 = t.2.2.1 := by rw [hm]; rfl
    rw [emp] at L178
    have len8 := L178.len
    rw [List.length_map] at len8
    rw [f_X11_method_l21_s]
    unfold b_X11_method_l21
    rw [ldR_e mb1.1, lsSize_e (L178.k (by decide) (by decide)), len8, if_pos (sz_le (Nat.le_refl _) (by omega)), hn]
    rw [List.take_length] at c1
    exact ⟨h1, rfl, u1, ⟨c1, c2⟩, oth⟩
