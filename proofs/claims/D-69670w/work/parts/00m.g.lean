/-! PHASE B settle 7: the twin's table of kinds and names; a fault's place -/
set_option maxRecDepth 100000
variable {F K : List Nat} {c : Nat} {h h' h0 : HP} {mx : Nat → Nat} {ds : List DC} {W : Nat → Prop} {H tr L : Nat} {as : List Nat} {n : Nat}
/-- what the twin knows of a kind by its number -/
def dM (ds : List DC) (k : Nat) : DC := if k < 10 then (0, (NB.getD k [], 0), 0, none, [], [], []) else dc ds (k - 10)
theorem dM_hi (k : Nat) : dM ds (10 + k) = dc ds k := by unfold dM; rw [if_neg (by omega), show 10 + k - 10 = k by omega]
theorem dM_nm {k : Nat} (hk : k < 10 + ds.length) : (dM ds k).2.1.1 = (NT ds).getD k [] := by
  by_cases z : k < 10
  · unfold dM; rw [if_pos z, NT_lo z]
  · obtain ⟨j, rfl⟩ : ∃ j, k = 10 + j := ⟨k - 10, by omega⟩
    rw [dM_hi, NT_hi (by omega)]
/-- what stays in the twin: H the house, mx the kinds' addresses -/
def SM (W : Nat → Prop) (h : HP) (H tr : Nat) (mx : Nat → Nat) (ds : List DC) : Prop :=
  WG h ∧ (kc h H = 5 ∧ fr h 52 H = tr ∧ kc h tr = 6 ∧ fi h 54 H = nI ds.length) ∧ okDs ds ∧ (∀ k, k < 10 + ds.length → KdN W h (mx k) k (dM ds k)) ∧
  (∀ i j, i < 10 + ds.length → j < 10 + ds.length → fr h 376 (mx i) = fr h 376 (mx j) → i = j)
theorem SM_ef (u : Ef F K c h h') (s : Sx F K) (x : SM W h H tr mx ds) : SM W h' H tr mx ds := by
  obtain ⟨w, ⟨a1, a2, a3, a4⟩, n60, k1, k2⟩ := x
  refine ⟨u.1, ⟨u.kk a1 (by decide), (u.gr a1 (by decide) (s.1 52 (by decide))).trans a2, u.kk a3 (by decide), (u.gi a1 (by decide) (s.1 54 (by decide))).trans a4⟩, n60, fun k hk => KdN_ef u s (k1 k hk), fun i j hi hj => ?_⟩
  rw [u.gr (k1 i hi).1 (by decide) (s.1 376 (by decide)), u.gr (k1 j hj).1 (by decide) (s.1 376 (by decide))]
  exact k2 i j hi hj
/-- the table: the kinds by number, then arrays -/
def TbM (h : HP) (H L : Nat) (mx : Nat → Nat) (n : Nat) (as : List Nat) : Prop := kc h H = 5 ∧ fr h 53 H = L ∧ kc h L = 156 ∧ cp h L ≠ RAW ∧ ls h L = (List.range (10 + n)).map mx ++ as ∧ as.length ≤ 400 ∧ ∀ a ∈ as, kc h a = 47 ∧ ∃ k, k < 2 ^ 31 ∧ fi h 367 a = nI k
theorem TbM_ef {n : Nat} (u : Ef F K c h h') (s : Sx F K) (hk : 156 ∉ K) (x : TbM h H L mx n as) : TbM h' H L mx n as := by
  obtain ⟨a1, a2, a3, a4, a5, a6, a7⟩ := x
  exact ⟨u.kk a1 (by decide), (u.gr a1 (by decide) (s.1 53 (by decide))).trans a2, u.kk a3 (by decide), by rw [u.gc a3 (by decide) hk]; exact a4, by rw [u.gl a3 (by decide) hk]; exact a5, a6, fun a ha => ⟨u.kk (a7 a ha).1 (by decide), by
    obtain ⟨k, hk, e⟩ := (a7 a ha).2
    exact ⟨k, hk, (u.gi (a7 a ha).1 (by decide) (s.1 367 (by decide))).trans e⟩⟩⟩
theorem SM.kk {k : Nat} (S : SM W h H tr mx ds) (hk : k < 10 + ds.length) : KdN W h (mx k) k (dM ds k) := S.2.2.2.1 k hk
theorem SM.k0 {k : Nat} (S : SM W h H tr mx ds) (hk : k < 10 + ds.length) : mx k ≠ 0 := fun z => by
  have := S.1.ge (S.kk hk).1 (by decide)
  omega
theorem SM.inj {i j : Nat} (S : SM W h H tr mx ds) (hi : i < 10 + ds.length) (hj : j < 10 + ds.length) (z : mx i = mx j) : i = j := S.2.2.2.2 i j hi hj (by rw [z])
theorem TbM.k (T : TbM h H L mx n as) : lsK h L := ⟨by rw [T.2.2.1]; decide, by rw [T.2.2.1]; decide, T.2.2.2.1⟩
theorem TbM.len (T : TbM h H L mx n as) : (ls h L).length = 10 + n + as.length := by rw [T.2.2.2.2.1, List.length_append, List.length_map, List.length_range]
theorem TbM.l53 {β : Type} {f : Nat → Rs β} (T : TbM h H L mx n as) : ldR 5 53 H h f = f L := by rw [ldR_e T.1, T.2.1]
theorem TbM.at {i : Nat} (T : TbM h H L mx n as) (hi : i < 10 + n) : (ls h L).getD i 0 = mx i := by rw [T.2.2.2.2.1, gr_map hi]
theorem TbM.get {β : Type} {f : Nat → Rs β} {i : Nat} (T : TbM h H L mx n as) (hn : n ≤ 60) (hi : i < 10 + n) : lsGet L (nI i) h f = f (mx i) := by
  rw [lg_e T.k (by rw [T.len]; omega) (by rw [T.len]; have := T.2.2.2.2.2.1; omega), T.at hi]
theorem told_e {β : Type} {f : Nat → HP → Rs β} {k : Nat} (S : SM W h H tr mx ds) (T : TbM h H L mx ds.length as) (hk : k < ds.length) : bd (f_X4_toldKind H (nI k) h) f = f (mx (10 + k)) h := by
  unfold f_X4_toldKind
  rw [T.l53, show (10 : Int32) + nI k = nI (10 + k) from nI_add 10 k, T.get S.2.2.1.1 (by omega), cast_e (S.kk (k := 10 + k) (by omega)).1 (by simp), bd_ok]
/-- plain words and numbers -/
theorem NB_inj : ∀ k, k < 10 → ∀ j, j < k → NB.getD j [] ≠ NB.getD k [] := by decide +kernel
theorem kno_lo {k : Nat} (hk : k < 10) : kno ds (NB.getD k []) = some k := by
  refine fnd_eq (by rw [NT_len]; omega) (NT_lo hk) (fun j hj => ?_)
  rw [NT_lo (by omega)]
  exact NB_inj k hk j hj
theorem pkI_NB : ∀ k, k < 8 → pkI (NB.getD k []) = nI k := by decide +kernel
theorem PW_NB : ∀ w ∈ PW, ∃ k, k < 8 ∧ w = NB.getD k [] := by decide +kernel
theorem pkI_no {w : List Nat} (hw : w ∉ PW) : pkI w = -1 := by
  unfold pkI
  repeat' (rw [if_neg (fun z => hw (by rw [z]; decide))])
theorem NB_PW : ∀ k, k < 8 → NB.getD k [] ∈ PW := by decide +kernel
theorem kindNamed_l {s : Nat} {nm : List Nat} (S : SM W h H tr mx ds) (T : TbM h H L mx ds.length as) (hs : StrX h s nm) (hw : nm ∉ PW) :
    f_X4_kindNamed_l14 L s NN (nI 8) h = rok (match kno ds nm with | none => Sum.inr () | some k => Sum.inl (nI k)) h := by
  have n60 := S.2.2.1.1
  have t6 := T.2.2.2.2.2.1
  have len := T.len
  refine loop_NN (n := 10 + ds.length + as.length) (F := f_X4_kindNamed_l14 L s) (by omega) (fun i h' => h' = h ∧ ∀ j, j < i → j < 10 + ds.length → (NT ds).getD j [] ≠ nm) (fun r => r = rok (match kno ds nm with | none => Sum.inr () | some k => Sum.inl (nI k)) h) ?_ ?_ (by omega) ⟨rfl, fun j hj _ z => ?_⟩
  · rintro N i h' hi ⟨rfl, hj⟩ next
    rw [f_X4_kindNamed_l14_s]
    unfold b_X4_kindNamed_l14 f_X4_kindNamed_l14b56 f_X49_array
    rw [lsSize_e T.k, len, if_neg (sz_no (by omega) (by omega)), lg_e T.k (by omega) (by omega)]
    by_cases g : i < 10 + ds.length
    · have k0 := S.kk g
      rw [T.at g, cast_e k0.1 (by simp), if_pos k0.1, ldI_e k0.1, k0.2.2.2.2.2.2.1, if_pos (by decide), bd_ok, if_pos y00, lg_e T.k (by omega) (by omega), T.at g, cast_e k0.1 (by simp), ldR_e k0.1, txEq_e ⟨k0.2.2.2.2.1.1, hs.1⟩, k0.2.2.2.2.1.2, hs.2, dM_nm g]
      by_cases d : (NT ds).getD i [] = nm
      · rw [if_pos d, if_neg z10]
        have : kno ds nm = some i := fnd_eq (by rw [NT_len]; omega) d (fun j hj' => hj j hj' (by omega))
        rw [this]
      · rw [if_neg d, if_pos y00, lt3_n]
        exact next h' ⟨rfl, fun j h1 h2 => by
          by_cases z : j = i
          · rw [z]; exact d
          · exact hj j (by omega) h2⟩
    · have m := T.2.2.2.2.2.2 _ (gr_as (kx := mx) (m := 10 + ds.length) (j := i) (as := as) (by omega) hi)
      obtain ⟨q, hq, m2⟩ := m.2
      rw [T.2.2.2.2.1, cast_e m.1 (by simp), if_pos m.1, ldI_e m.1, m2, if_neg (nI_pos hq), bd_ok, if_neg z10, lt3_n]
      exact next h' ⟨rfl, fun j h1 h2 => hj j (by omega) h2⟩
  · rintro N h' ⟨rfl, hj⟩
    rw [f_X4_kindNamed_l14_s]
    unfold b_X4_kindNamed_l14
    rw [lsSize_e T.k, len, if_pos (sz_le (Nat.le_refl _) (by omega))]
    have : kno ds nm = none := fnd_nn (fun j h1 => by
      rw [NT_len] at h1
      exact hj j (by omega) h1)
    rw [this]
  · rw [NT_lo (by omega)] at z
    exact hw (by rw [← z]; exact NB_PW j hj)
def kni (o : Option Nat) : Int32 := match o with
  | none => -1
  | some k => nI k
theorem kindNamed_e {β : Type} {f : Int32 → HP → Rs β} {s : Nat} {nm : List Nat} (S : SM W h H tr mx ds) (T : TbM h H L mx ds.length as) (hs : StrX h s nm) :
    bd (f_X4_kindNamed L s h) f = f (kni (kno ds nm)) h := by
  unfold f_X4_kindNamed
  rw [mplain_e S.1 hs]
  by_cases hw : nm ∈ PW
  · obtain ⟨k, hk, rfl⟩ := PW_NB nm hw
    rw [pkI_NB k hk, if_neg (nI_pos (by omega)), bd_ok, kno_lo (by omega)]; rfl
  · rw [pkI_no hw, if_pos (by decide), show (8 : Int32) = nI 8 from rfl, kindNamed_l S T hs hw, bd_ok]
    cases kno ds nm with
    | none => rw [Sum.elim_inr, bd_ok]; rfl
    | some k => rw [Sum.elim_inl, bd_ok]; rfl
/-- a fault and its place -/
def WrM (h : HP) (tr p : Nat) : Prop := fi h 131 tr = 2 ∧ fi h 132 tr = nI p
theorem must_e {β : Type} {f : HP → Rs β} {v p : Int32} (S : SM W h H tr mx ds) (hv : v ≠ 0) : bd (f_X4_must H v p h) (fun _ h2 => f h2) = f h := by
  unfold f_X4_must f_X5_must
  rw [ldR_e S.2.1.1, S.2.1.2.1, if_pos S.2.1.2.2.1, if_neg hv, bd_ok, bd_ok]
theorem must_no {p : Nat} (S : SM W h H tr mx ds) (u : Ef F K c h0 h) (hF : 131 ∈ F ∧ 132 ∈ F) :
    ∃ h', (∀ (β : Type) (f : HP → Rs β), bd (f_X4_must H 0 (nI p) h) (fun _ h2 => f h2) = rex h') ∧ Ef F K (c + 1) h0 h' ∧ WrM h' tr p := by
  obtain ⟨w, ⟨a1, a2, a3, a4⟩, _⟩ := S
  have u1 := u.sI (f := 131) (v := (2 : Int32)) a3 (by decide) (.inr hF.1)
  have u2 := u1.sI (f := 132) (v := nI p) (p := tr) (show kc (sI h 131 tr 2) tr = 6 from a3) (by decide) (.inr hF.2)
  have u3 : Ef F K (c + 1) h0 (nO (sI (sI h 131 tr 2) 132 tr (nI p)) 69 6) := u2.nO (by omega) (by omega)
  have kn : kc (nO (sI (sI h 131 tr 2) 132 tr (nI p)) 69 6) (nx (sI (sI h 131 tr 2) 132 tr (nI p))) = 69 := kc_nO_n
  refine ⟨_, fun β f => ?_, u3, ?_, ?_⟩
  · unfold f_X4_must f_X5_must
    rw [ldR_e a1, a2, if_pos a3, if_pos y00, if_pos a3]
    unfold f_X5_at
    rw [stI_e a3, stI_e (show kc (sI h 131 tr 2) tr = 6 from a3), nwE_e, isInit_e kn, bd_ok, if_pos kn, bd_ex, bd_ex]
  · show fi (sI (sI h 131 tr 2) 132 tr (nI p)) 131 tr = 2
    rw [fi_sI, if_neg (fun z => absurd z.1 (by decide)), fi_sI, if_pos ⟨rfl, rfl⟩]
  · show fi (sI (sI h 131 tr 2) 132 tr (nI p)) 132 tr = _
    rw [fi_sI, if_pos ⟨rfl, rfl⟩]
