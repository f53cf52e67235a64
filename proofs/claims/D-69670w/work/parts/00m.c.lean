/-! PHASE B settle 3: the component's table of kinds and names; a fault's place -/
set_option maxRecDepth 100000
variable {F K : List Nat} {c : Nat} {h h' h0 : HP} {e : EE} {kx ax : Nat → Nat} {ds : List DC}
theorem lt3_n {β : Type} {i : Nat} {f : Int32 → β} : lt3 (nI i + 1) f = f (nI (i + 1)) := congrArg f (nI_add i 1)
theorem lg_e {β : Type} {p j : Nat} {f : Nat → Rs β} (hk : lsK h p) (hj : j < (ls h p).length) (hl : (ls h p).length < 2 ^ 31) : lsGet p (nI j) h f = f ((ls h p).getD j 0) := by
  rw [lsGet_e ⟨hk, inA_nI hj hl⟩, nI_clamp (by omega)]
theorem sz_no {n i : Nat} (hi : i < n) (hn : n < 2 ^ 31) : ¬ nI n ≤ nI i := fun z => by
  have := (nI_leI (a := n) (b := i) hn (by omega)).mp z
  omega
theorem sz_le {n i : Nat} (hi : n ≤ i) (hn : i < 2 ^ 31) : nI n ≤ nI i := (nI_leI (a := n) (b := i) (by omega) hn).mpr hi
theorem cast_e {β : Type} {cs : List Nat} {p k : Nat} {t : Rs β} (hk : kc h p = k) (hm : k ∈ cs) : castR cs p h t = t := castR_e (.inr (by rw [hk]; exact hm))
theorem eqR_e {β : Type} {p r k : Nat} {a b : Rs β} (hk : kc h p = k) (ho : obK k = true) : eqR h p r a b = if p = r then a else b := if_pos (.inr (.inr (.inl (by rw [hk]; exact ho))))
theorem eqR_r {β : Type} {p r k : Nat} {a b : Rs β} (hk : kc h r = k) (ho : obK k = true) : eqR h p r a b = if p = r then a else b := if_pos (.inr (.inr (.inr (.inl (by rw [hk]; exact ho)))))
theorem eqS_e {β : Type} {p r : Nat} {a b : Rs β} (h1 : p < 8) (h2 : r < 8) : eqS (900 + p) (900 + r) a b = if p = r then a else b := by
  unfold eqS
  rw [if_pos ⟨⟨by omega, by omega⟩, by omega, by omega⟩]
  by_cases c : p = r
  · rw [if_pos (by omega), if_pos c]
  · rw [if_neg (by omega), if_neg c]
theorem so_lt (ds : List DC) (k : Nat) : so ds k < 7 := by
  unfold so srt
  repeat' split
  all_goals omega
/-- a kind's parts by its number -/
def kab (ds : List DC) (k : Nat) : Nat := if k < 10 then 0 else if (dc ds (k - 10)).1 = 2 then 1 else (dc ds (k - 10)).2.2.1
def kat (ds : List DC) (k : Nat) : Nat := if k < 10 then 0 else (dc ds (k - 10)).2.1.2
def LT : List Nat := codes "ZBSCIJFD"
def dsc (ds : List DC) (k : Nat) : List Nat := if k < 8 then [LT.getD k 0] else 76 :: (NT ds).getD k [] ++ [59]
def cns (ds : List DC) (k : Nat) : List (List Nat) := if k < 10 then [] else (dc ds (k - 10)).2.2.2.2.2.2.map Prod.fst
def KdK (ds : List DC) (h : HP) (a k : Nat) : Prop := KsX h a k (so ds k) (kab ds k) (kat ds k) ((NT ds).getD k []) (dsc ds k) (cns ds k)
/-- what is known of a declaration -/
def okD (d : DC) : Prop := (d.2.1.1 ∉ PW ∧ d.2.1.1.length ≤ 100) ∧ (∀ t, d.2.2.2.1 = some t → t.2 ≤ 300) ∧ (d.2.2.2.2.1.length ≤ 401 ∧ d.2.2.2.2.2.1.length ≤ 401 ∧ d.2.2.2.2.2.2.length ≤ 401) ∧ (1 ≤ d.1 ∧ d.1 ≤ 4 ∧ d.2.2.1 ≤ 1 ∧ (d.1 ≠ 1 → d.2.2.2.1 = none)) ∧ ∀ m ∈ d.2.2.2.2.2.1, okMb m
def okDs (ds : List DC) : Prop := ds.length ≤ 60 ∧ ∀ k, k < ds.length → okD (dc ds k)
/-- what stays in the component: kx: the kinds' addresses, ax: the declarations' -/
def SX (e : EE) (h : HP) (C DL : Nat) (kx ax : Nat → Nat) (ds : List DC) : Prop :=
  WG h ∧ (kc h e.P = 12 ∧ fr h 161 e.P = C ∧ fr h 162 e.P = DL ∧ fr h 157 e.P = e.st ∧ fr h 158 e.P = e.tl ∧ kc h e.st = 2 ∧ kc h (fr h 27 e.st) = 69) ∧
  (kc h DL = 108 ∧ cp h DL ≠ RAW ∧ ls h DL = (List.range ds.length).map ax) ∧ okDs ds ∧
  (∀ k, k < 10 + ds.length → KdK ds h (kx k) k) ∧ (∀ k, k < ds.length → DdX e h (ax k) (kx (10 + k)) (dc ds k)) ∧
  (∀ f ∈ [41, 43, 44, 45], ∀ i j, i < 10 + ds.length → j < 10 + ds.length → fr h f (kx i) = fr h f (kx j) → i = j) ∧ kc h C = 3
theorem SX_ef {C DL : Nat} (u : Ef F K c h h') (s : Sx F K) (x : SX e h C DL kx ax ds) : SX e h' C DL kx ax ds := by
  obtain ⟨w, ⟨a1, a2, a3, a4, a5, a6, a7⟩, ⟨d1, d2, d3⟩, n60, k1, k2, k3, kC⟩ := x
  refine ⟨u.1, ⟨u.kk a1 (by decide), (u.gr a1 (by decide) (s.1 161 (by decide))).trans a2, (u.gr a1 (by decide) (s.1 162 (by decide))).trans a3, (u.gr a1 (by decide) (s.1 157 (by decide))).trans a4, (u.gr a1 (by decide) (s.1 158 (by decide))).trans a5, u.kk a6 (by decide), by rw [u.gr a6 (by decide) (s.1 27 (by decide))]; exact u.kk a7 (by decide)⟩, ⟨u.kk d1 (by decide), by rw [u.gc d1 (by decide) (s.2 _ (by decide))]; exact d2, by rw [u.gl d1 (by decide) (s.2 _ (by decide))]; exact d3⟩, n60, fun k hk => KsX_ef u s (k1 k hk), fun k hk => DdX_ef u s (k2 k hk), fun f hf i j hi hj => ?_, u.kk kC (by decide)⟩
  have hs : f ∉ F := s.1 f (by simp only [List.mem_cons, List.not_mem_nil, or_false] at hf; rcases hf with z | z | z | z <;> rw [z] <;> decide)
  rw [u.gr (k1 i hi).1 (by decide) hs, u.gr (k1 j hj).1 (by decide) hs]
  exact k3 f hf i j hi hj
/-- the table: the kinds by number, then arrays -/
def TbX (h : HP) (C kl : Nat) (kx : Nat → Nat) (n : Nat) (as : List Nat) : Prop := kc h C = 3 ∧ fr h 30 C = kl ∧ kc h kl = 120 ∧ cp h kl ≠ RAW ∧ ls h kl = (List.range (10 + n)).map kx ++ as ∧ as.length ≤ 400 ∧ ∀ a ∈ as, kc h a = 4 ∧ fr h 32 a = 907
theorem TbX_ef {C kl n : Nat} {as : List Nat} (u : Ef F K c h h') (s : Sx F K) (hk : 120 ∉ K) (x : TbX h C kl kx n as) : TbX h' C kl kx n as := by
  obtain ⟨a1, a2, a3, a4, a5, a6, a7⟩ := x
  exact ⟨u.kk a1 (by decide), (u.gr a1 (by decide) (s.1 30 (by decide))).trans a2, u.kk a3 (by decide), by rw [u.gc a3 (by decide) hk]; exact a4, by rw [u.gl a3 (by decide) hk]; exact a5, a6, fun a ha => ⟨u.kk (a7 a ha).1 (by decide), (u.gr (a7 a ha).1 (by decide) (s.1 32 (by decide))).trans (a7 a ha).2⟩⟩
theorem gr_map {kx : Nat → Nat} {m j : Nat} {as : List Nat} (hj : j < m) : ((List.range m).map kx ++ as).getD j 0 = kx j := by
  rw [List.getD_eq_getElem?_getD, List.getElem?_append_left (by simpa using hj), List.getElem?_map, List.getElem?_range hj]; rfl
theorem gr_as {kx : Nat → Nat} {m j : Nat} {as : List Nat} (hj : m ≤ j) (h2 : j < m + as.length) : ((List.range m).map kx ++ as).getD j 0 ∈ as := by
  rw [List.getD_eq_getElem?_getD, List.getElem?_append_right (by simpa using hj), List.length_map, List.length_range, List.getElem?_eq_getElem (by omega)]
  exact List.getElem_mem _
theorem gr_map0 {kx : Nat → Nat} {m j : Nat} (hj : j < m) : ((List.range m).map kx).getD j 0 = kx j := by
  have := gr_map (kx := kx) (as := []) hj
  rwa [List.append_nil] at this
/-- the kind of a name -/
theorem named_l {C kl DL s : Nat} {as : List Nat} {nm : List Nat} (S : SX e h C DL kx ax ds) (T : TbX h C kl kx ds.length as) (hs : StrX h s nm) :
    f_X2_named_l2 C s NN (nI 0) h = rok (match kno ds nm with | none => Sum.inr () | some k => Sum.inl (nI k)) h := by
  obtain ⟨t1, t2, t3, t4, t5, t6, t7⟩ := T
  have n60 := S.2.2.2.1.1
  have len : (ls h kl).length = 10 + ds.length + as.length := by rw [t5, List.length_append, List.length_map, List.length_range]
  have kL : lsK h kl := ⟨by rw [t3]; decide, by rw [t3]; decide, t4⟩
  refine loop_NN (n := 10 + ds.length + as.length) (F := f_X2_named_l2 C s) (by omega) (fun i h' => h' = h ∧ ∀ j, j < i → j < 10 + ds.length → (NT ds).getD j [] ≠ nm) (fun r => r = rok (match kno ds nm with | none => Sum.inr () | some k => Sum.inl (nI k)) h) ?_ ?_ (Nat.zero_le _) ⟨rfl, fun j hj => by omega⟩
  · rintro N i h' hi ⟨rfl, hj⟩ next
    rw [f_X2_named_l2_s]
    unfold b_X2_named_l2 f_X2_named_l2b66
    have hi' : i < (ls h' kl).length := by omega
    rw [ldR_e t1, t2, lsSize_e kL, len, if_neg (sz_no (by omega) (by omega)), ldR_e t1, t2, lg_e kL hi' (by omega)]
    by_cases c : i < 10 + ds.length
    · have k0 := S.2.2.2.2.1 i c
      rw [t5, gr_map c, cast_e k0.1 (by simp), ldR_e k0.1, k0.2.2.1, show (907 : Nat) = 900 + 7 from rfl, eqS_e (by have := so_lt ds i; omega) (by omega), if_neg (by have := so_lt ds i; omega), ldR_e t1, t2, lg_e kL hi' (by omega), t5, gr_map c, cast_e k0.1 (by simp), ldR_e k0.1, txEq_e ⟨k0.2.2.2.1.1, hs.1⟩, k0.2.2.2.1.2, hs.2]
      by_cases d : (NT ds).getD i [] = nm
      · rw [if_pos d, if_neg z10]
        have : kno ds nm = some i := fnd_eq (by rw [NT_len]; omega) d (fun j hj' => hj j hj' (by omega))
        rw [this]
      · rw [if_neg d, if_pos y00, lt3_n]
        exact next h' ⟨rfl, fun j h1 h2 => by
          by_cases z : j = i
          · rw [z]; exact d
          · exact hj j (by omega) h2⟩
    · have m := t7 _ (gr_as (kx := kx) (m := 10 + ds.length) (j := i) (as := as) (by omega) hi)
      rw [t5, cast_e m.1 (by simp), ldR_e m.1, m.2, show (907 : Nat) = 900 + 7 from rfl, eqS_e (by omega) (by omega), if_pos rfl, lt3_n]
      exact next h' ⟨rfl, fun j h1 h2 => hj j (by omega) h2⟩
  · rintro N h' ⟨rfl, hj⟩
    rw [f_X2_named_l2_s]
    unfold b_X2_named_l2
    rw [ldR_e t1, t2, lsSize_e kL, len, if_pos (sz_le (Nat.le_refl _) (by omega))]
    have : kno ds nm = none := fnd_nn (fun j h1 => by
      rw [NT_len] at h1
      exact hj j (by omega) h1)
    rw [this]
/-- a kind's address by a number; none is null -/
def kxo (kx : Nat → Nat) (o : Option Nat) : Nat := match o with
  | none => 0
  | some k => kx k
theorem named_e {C kl DL s : Nat} {as : List Nat} {nm : List Nat} (S : SX e h C DL kx ax ds) (T : TbX h C kl kx ds.length as) (hs : StrX h s nm) :
    f_X2_named C s h = rok (kxo kx (kno ds nm)) h := by
  have n60 := S.2.2.2.1.1
  unfold f_X2_named
  rw [show (0 : Int32) = nI 0 from rfl, named_l S T hs, bd_ok]
  obtain ⟨t1, t2, t3, t4, t5, t6, t7⟩ := T
  have kL : lsK h kl := ⟨by rw [t3]; decide, by rw [t3]; decide, t4⟩
  have len : (ls h kl).length = 10 + ds.length + as.length := by rw [t5, List.length_append, List.length_map, List.length_range]
  cases g : kno ds nm with
  | none => rfl
  | some k =>
    have hk := kno_lt g
    show ldR 3 30 C h (fun x3 => lsGet x3 (nI k) h fun x4 => castR [4] x4 h (rok x4 h)) = rok (kx k) h
    rw [ldR_e t1, t2, lg_e kL (by omega) (by omega), t5, gr_map hk, cast_e (S.2.2.2.2.1 k hk).1 (by simp)]
theorem SX.k0 {C DL k : Nat} (S : SX e h C DL kx ax ds) (hk : k < 10 + ds.length) : kc h (kx k) = 4 ∧ kx k ≠ 0 := by
  have k0 := (S.2.2.2.2.1 k hk).1
  refine ⟨k0, fun z => ?_⟩
  have := S.1.ge k0 (by decide)
  omega
theorem SX.inj {C DL i j : Nat} (S : SX e h C DL kx ax ds) (hi : i < 10 + ds.length) (hj : j < 10 + ds.length) (z : kx i = kx j) : i = j := S.2.2.2.2.2.2.1 41 (by simp) i j hi hj (by rw [z])
theorem SX.xo {C DL : Nat} {o : Option Nat} (S : SX e h C DL kx ax ds) (ho : ∀ k, o = some k → k < 10 + ds.length) : (kxo kx o = 0) ↔ o = none := by
  cases o with
  | none => exact ⟨fun _ => rfl, fun _ => rfl⟩
  | some k => exact ⟨fun z => absurd z (S.k0 (ho k rfl)).2, fun z => by cases z⟩
/-- a fault and its place -/
def WrX (e : EE) (h : HP) (p : Nat) : Prop := fi h 28 e.st = 2 ∧ fi h 29 e.st = nI p
theorem wrX_e {C DL p : Nat} (S : SX e h C DL kx ax ds) (u : Ef F K c h0 h) (hF : 28 ∈ F ∧ 29 ∈ F) :
    ∃ h', (∀ β, (if kc h e.P = 12 then bd (f_X11_wrong e.P (nI p) h) (fun x4 h5 => if kc h5 x4 = 69 then (rex h5 : Rs β) else none) else none) = rex h') ∧ Ef F K c h0 h' ∧ WrX e h' p := by
  obtain ⟨w, ⟨a1, a2, a3, a4, a5, a6, a7⟩, _⟩ := S
  have u1 := u.sI (f := 28) (v := (2 : Int32)) a6 (by decide) (.inr hF.1)
  have u2 := u1.sI (f := 29) (v := nI p) (p := e.st) (show kc (sI h 28 e.st 2) e.st = 2 from a6) (by decide) (.inr hF.2)
  refine ⟨_, fun β => ?_, u2, ?_, ?_⟩
  · rw [if_pos a1]
    unfold f_X11_wrong
    rw [ldR_e a1, a4, if_pos a6]
    unfold f_X1_at
    rw [stI_e a6, stI_e (show kc (sI h 28 e.st 2) e.st = 2 from a6), ldR_e (show kc (sI (sI h 28 e.st 2) 29 e.st (nI p)) e.st = 2 from a6), bd_ok, bd_ok]
    exact if_pos a7
  · rw [fi_sI, if_neg (fun z => absurd z.1 (by decide)), fi_sI, if_pos ⟨rfl, rfl⟩]
  · rw [fi_sI, if_pos ⟨rfl, rfl⟩]
/-- how a part of settling ends -/
def OX (e : EE) (F K : List Nat) (c : Nat) (h0 : HP) (o : Option Nat) (P : HP → Prop) (r : Rs Unit) : Prop := match o with
  | none => ∃ h', r = rok () h' ∧ Ef F K c h0 h' ∧ P h'
  | some p => ∃ h', r = rex h' ∧ Ef F K c h0 h' ∧ WrX e h' p
