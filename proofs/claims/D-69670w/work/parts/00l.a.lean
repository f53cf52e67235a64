/-! PHASE B frames by fields (printed by b10_ef.py) -/
set_option maxRecDepth 100000
/-- the same at an address but for fields of F -/
def Fq (F : List Nat) (h h' : HP) (p : Nat) : Prop := ∀ f, f ∉ F → fi h' f p = fi h f p ∧ fj h' f p = fj h f p ∧ fr h' f p = fr h f p
def Cq (h h' : HP) (p : Nat) : Prop := (∀ j, xi h' p j = xi h p j) ∧ (∀ j, xj h' p j = xj h p j) ∧ (∀ j, xr h' p j = xr h p j) ∧ ls h' p = ls h p ∧ tx h' p = tx h p ∧ cp h' p = cp h p
def Ef (F K : List Nat) (a : Nat) (h h' : HP) : Prop := WG h' ∧ nx h ≤ nx h' ∧ cc h' ≤ cc h + a ∧ cs h' ≤ cs h + 97 * a ∧
  ∀ p, kc h p ≠ 0 → kc h' p = kc h p ∧ xl h' p = xl h p ∧ Fq F h h' p ∧ (kc h p ∉ K → Cq h h' p)
theorem Fq.refl (F : List Nat) (h : HP) (p : Nat) : Fq F h h p := fun _ _ => ⟨rfl, rfl, rfl⟩
theorem Cq.refl (h : HP) (p : Nat) : Cq h h p := ⟨fun _ => rfl, fun _ => rfl, fun _ => rfl, rfl, rfl, rfl⟩
theorem Cq.trans {h h1 h2 : HP} {p : Nat} (a : Cq h h1 p) (b : Cq h1 h2 p) : Cq h h2 p := ⟨fun f => (b.1 f).trans (a.1 f), fun f => (b.2.1 f).trans (a.2.1 f), fun f => (b.2.2.1 f).trans (a.2.2.1 f), b.2.2.2.1.trans a.2.2.2.1, b.2.2.2.2.1.trans a.2.2.2.2.1, b.2.2.2.2.2.trans a.2.2.2.2.2⟩
theorem Ef.refl {h : HP} (w : WG h) (F K : List Nat) : Ef F K 0 h h := ⟨w, Nat.le_refl _, Nat.le_refl _, Nat.le_refl _, fun p _ => ⟨rfl, rfl, Fq.refl F h p, fun _ => Cq.refl h p⟩⟩
variable {F K F2 K2 : List Nat} {a b : Nat} {h h1 h2 h' : HP}
theorem Ef.cat (u : Ef F K a h h1) (v : Ef F2 K2 b h1 h2) (hF : ∀ f ∈ F2, f ∈ F) (hK : ∀ k ∈ K2, k ∈ K) : Ef F K (a + b) h h2 := by
  refine ⟨v.1, Nat.le_trans u.2.1 v.2.1, ?_, ?_, fun p hp => ?_⟩
  · have := u.2.2.1; have := v.2.2.1; omega
  · have := u.2.2.2.1; have := v.2.2.2.1; omega
  · obtain ⟨x1, x2, x3, x4⟩ := u.2.2.2.2 p hp
    obtain ⟨y1, y2, y3, y4⟩ := v.2.2.2.2 p (by rw [x1]; exact hp)
    refine ⟨y1.trans x1, y2.trans x2, fun f hf => ?_, fun hk => (x4 hk).trans (y4 (by rw [x1]; exact fun z => hk (hK _ z)))⟩
    have z1 := x3 f hf; have z2 := y3 f (fun z => hf (hF _ z))
    exact ⟨z2.1.trans z1.1, z2.2.1.trans z1.2.1, z2.2.2.trans z1.2.2⟩
theorem Ef.trans (u : Ef F K a h h1) (v : Ef F K b h1 h2) : Ef F K (a + b) h h2 := u.cat v (fun _ z => z) (fun _ z => z)
theorem Ef.wk (u : Ef F2 K2 a h h1) (hF : ∀ f ∈ F2, f ∈ F) (hK : ∀ k ∈ K2, k ∈ K) (hab : a ≤ b) : Ef F K b h h1 := by
  refine ⟨u.1, u.2.1, ?_, ?_, fun p hp => ?_⟩
  · have := u.2.2.1; omega
  · have := u.2.2.2.1; omega
  · obtain ⟨x1, x2, x3, x4⟩ := u.2.2.2.2 p hp
    exact ⟨x1, x2, fun f hf => x3 f (fun z => hf (hF _ z)), fun hk => x4 (fun z => hk (hK _ z))⟩
theorem Ef.le (u : Ef F K a h h1) (hab : a ≤ b) : Ef F K b h h1 := u.wk (fun _ z => z) (fun _ z => z) hab
theorem Ef.kk (u : Ef F K a h h1) {p c : Nat} (hp : kc h p = c) (hc : c ≠ 0) : kc h1 p = c := ((u.2.2.2.2 p (by rw [hp]; exact hc)).1).trans hp
theorem Ef.k0 (u : Ef F K a h h1) {p : Nat} (hp : kc h1 p = 0) : kc h p = 0 := Classical.byContradiction fun z => z ((u.2.2.2.2 p z).1.symm.trans hp)
theorem Ef.gx (u : Ef F K a h h1) {p c : Nat} (hp : kc h p = c) (hc : c ≠ 0) : xl h1 p = xl h p := (u.2.2.2.2 p (by rw [hp]; exact hc)).2.1
theorem Ef.gi (u : Ef F K a h h1) {p c f : Nat} (hp : kc h p = c) (hc : c ≠ 0) (hf : f ∉ F) : fi h1 f p = fi h f p := ((u.2.2.2.2 p (by rw [hp]; exact hc)).2.2.1 f hf).1
theorem Ef.gj (u : Ef F K a h h1) {p c f : Nat} (hp : kc h p = c) (hc : c ≠ 0) (hf : f ∉ F) : fj h1 f p = fj h f p := ((u.2.2.2.2 p (by rw [hp]; exact hc)).2.2.1 f hf).2.1
theorem Ef.gr (u : Ef F K a h h1) {p c f : Nat} (hp : kc h p = c) (hc : c ≠ 0) (hf : f ∉ F) : fr h1 f p = fr h f p := ((u.2.2.2.2 p (by rw [hp]; exact hc)).2.2.1 f hf).2.2
theorem Ef.cq (u : Ef F K a h h1) {p c : Nat} (hp : kc h p = c) (hc : c ≠ 0) (hk : c ∉ K) : Cq h h1 p := (u.2.2.2.2 p (by rw [hp]; exact hc)).2.2.2 (by rw [hp]; exact hk)
theorem Ef.gl (u : Ef F K a h h1) {p c : Nat} (hp : kc h p = c) (hc : c ≠ 0) (hk : c ∉ K) : ls h1 p = ls h p := (u.cq hp hc hk).2.2.2.1
theorem Ef.gc (u : Ef F K a h h1) {p c : Nat} (hp : kc h p = c) (hc : c ≠ 0) (hk : c ∉ K) : cp h1 p = cp h p := (u.cq hp hc hk).2.2.2.2.2
theorem Ef.gt (u : Ef F K a h h1) {p c : Nat} (hp : kc h p = c) (hc : c ≠ 0) (hk : c ∉ K) : tx h1 p = tx h p := (u.cq hp hc hk).2.2.2.2.1
theorem Ef.str (u : Ef F K a h h1) {p : Nat} {s : List Nat} (x : StrX h p s) (hk : 71 ∉ K) : StrX h1 p s := ⟨u.kk x.1 (by decide), (u.gt x.1 (by decide) hk).trans x.2⟩
theorem Ef.iv (u : Ef F K a h h1) {p v : Nat} (x : IvX h p v) (hk : 491 ∉ F) : IvX h1 p v := ⟨u.kk x.1 (by decide), (u.gi x.1 (by decide) hk).trans x.2⟩
theorem Ef.new (u : Ef F K a h h1) : kc h (nx h1) = 0 := u.k0 u.1.new
theorem Ef.zero (u : Ef F K a h h1) {p : Nat} (hp : nx h1 ≤ p) : kc h p = 0 := u.k0 (u.1.2.1 p hp).1
/-- out of a frame by addresses -/
theorem St.ef {X : List Nat} (u : St [] X a h h1) (hX : ∀ x ∈ X, kc h x = 0) : Ef [] [] a h h1 := by
  refine ⟨u.1, u.2.1, u.2.2.1, u.2.2.2.1, fun p hp => ?_⟩
  obtain ⟨x1, x2, x3⟩ := u.2.2.2.2 p hp
  obtain ⟨e1, e2, e3, e4, e5, e6, e7, e8, e9⟩ := x3 (by simp) (fun z => hp (hX p z))
  exact ⟨x1, x2, fun f _ => ⟨e1 f, e2 f, e3 f⟩, fun _ => ⟨e4, e5, e6, e7, e8, e9⟩⟩
theorem Ef.sI (u : Ef F K a h h1) {f p c : Nat} {v : Int32} (hk : kc h1 p = c) (ok : okc c = true) (hx : kc h p = 0 ∨ f ∈ F) : Ef F K a h (sI h1 f p v) := by
  refine ⟨u.1.sI hk ok, u.2.1, u.2.2.1, u.2.2.2.1, fun q hq => ?_⟩
  obtain ⟨x1, x2, x3, x4⟩ := u.2.2.2.2 q hq
  refine ⟨x1, x2, fun g hg => ?_, x4⟩
  have z := x3 g hg
  have hne : ¬ (g = f ∧ q = p) := fun y => by
    rcases hx with w | w
    · exact hq (by rw [y.2]; exact w)
    · exact hg (by rw [y.1]; exact w)
  exact ⟨by rw [fi_sI, if_neg (fun y => hne y)]; exact z.1, z.2.1, z.2.2⟩
theorem Ef.sJ (u : Ef F K a h h1) {f p c : Nat} {v : Int64} (hk : kc h1 p = c) (ok : okc c = true) (hx : kc h p = 0 ∨ f ∈ F) : Ef F K a h (sJ h1 f p v) := by
  refine ⟨u.1.sJ hk ok, u.2.1, u.2.2.1, u.2.2.2.1, fun q hq => ?_⟩
  obtain ⟨x1, x2, x3, x4⟩ := u.2.2.2.2 q hq
  refine ⟨x1, x2, fun g hg => ?_, x4⟩
  have z := x3 g hg
  have hne : ¬ (g = f ∧ q = p) := fun y => by
    rcases hx with w | w
    · exact hq (by rw [y.2]; exact w)
    · exact hg (by rw [y.1]; exact w)
  exact ⟨z.1, by rw [fj_sJ, if_neg (fun y => hne y)]; exact z.2.1, z.2.2⟩
theorem Ef.sR (u : Ef F K a h h1) {f p c : Nat} {v : Nat} (hk : kc h1 p = c) (ok : okc c = true) (hx : kc h p = 0 ∨ f ∈ F) : Ef F K a h (sR h1 f p v) := by
  refine ⟨u.1.sR hk ok, u.2.1, u.2.2.1, u.2.2.2.1, fun q hq => ?_⟩
  obtain ⟨x1, x2, x3, x4⟩ := u.2.2.2.2 q hq
  refine ⟨x1, x2, fun g hg => ?_, x4⟩
  have z := x3 g hg
  have hne : ¬ (g = f ∧ q = p) := fun y => by
    rcases hx with w | w
    · exact hq (by rw [y.2]; exact w)
    · exact hg (by rw [y.1]; exact w)
  exact ⟨z.1, z.2.1, by rw [fr_sR, if_neg (fun y => hne y)]; exact z.2.2⟩
theorem Ef.sXi (u : Ef F K a h h1) {p j c : Nat} {v : Int32} (hk : kc h1 p = c) (ok : okc c = true) (hx : kc h p = 0 ∨ c ∈ K) : Ef F K a h (sXi h1 p j v) := by
  refine ⟨u.1.sXi hk ok, u.2.1, u.2.2.1, u.2.2.2.1, fun q hq => ?_⟩
  obtain ⟨x1, x2, x3, x4⟩ := u.2.2.2.2 q hq
  refine ⟨x1, x2, x3, fun hg => ?_⟩
  have z := x4 hg
  have hne : ¬ q = p := fun y => by
    rcases hx with w | w
    · exact hq (by rw [y]; exact w)
    · subst y; rw [x1] at hk; exact hg (by rw [hk]; exact w)
  exact ⟨fun g => by rw [xi_sXi, if_neg (fun y => hne y.1)]; exact z.1 g, z.2.1, z.2.2.1, z.2.2.2.1, z.2.2.2.2.1, z.2.2.2.2.2⟩
theorem Ef.sXj (u : Ef F K a h h1) {p j c : Nat} {v : Int64} (hk : kc h1 p = c) (ok : okc c = true) (hx : kc h p = 0 ∨ c ∈ K) : Ef F K a h (sXj h1 p j v) := by
  refine ⟨u.1.sXj hk ok, u.2.1, u.2.2.1, u.2.2.2.1, fun q hq => ?_⟩
  obtain ⟨x1, x2, x3, x4⟩ := u.2.2.2.2 q hq
  refine ⟨x1, x2, x3, fun hg => ?_⟩
  have z := x4 hg
  have hne : ¬ q = p := fun y => by
    rcases hx with w | w
    · exact hq (by rw [y]; exact w)
    · subst y; rw [x1] at hk; exact hg (by rw [hk]; exact w)
  exact ⟨z.1, fun g => by rw [xj_sXj, if_neg (fun y => hne y.1)]; exact z.2.1 g, z.2.2.1, z.2.2.2.1, z.2.2.2.2.1, z.2.2.2.2.2⟩
theorem Ef.sXr (u : Ef F K a h h1) {p j c : Nat} {v : Nat} (hk : kc h1 p = c) (ok : okc c = true) (hx : kc h p = 0 ∨ c ∈ K) : Ef F K a h (sXr h1 p j v) := by
  refine ⟨u.1.sXr hk ok, u.2.1, u.2.2.1, u.2.2.2.1, fun q hq => ?_⟩
  obtain ⟨x1, x2, x3, x4⟩ := u.2.2.2.2 q hq
  refine ⟨x1, x2, x3, fun hg => ?_⟩
  have z := x4 hg
  have hne : ¬ q = p := fun y => by
    rcases hx with w | w
    · exact hq (by rw [y]; exact w)
    · subst y; rw [x1] at hk; exact hg (by rw [hk]; exact w)
  exact ⟨z.1, z.2.1, fun g => by rw [xr_sXr, if_neg (fun y => hne y.1)]; exact z.2.2.1 g, z.2.2.2.1, z.2.2.2.2.1, z.2.2.2.2.2⟩
theorem Ef.sL (u : Ef F K a h h1) {p c : Nat} {v : List Nat} (hk : kc h1 p = c) (ok : okc c = true) (hx : kc h p = 0 ∨ c ∈ K) : Ef F K a h (sL h1 p v) := by
  refine ⟨u.1.sL hk ok, u.2.1, u.2.2.1, u.2.2.2.1, fun q hq => ?_⟩
  obtain ⟨x1, x2, x3, x4⟩ := u.2.2.2.2 q hq
  refine ⟨x1, x2, x3, fun hg => ?_⟩
  have z := x4 hg
  have hne : ¬ q = p := fun y => by
    rcases hx with w | w
    · exact hq (by rw [y]; exact w)
    · subst y; rw [x1] at hk; exact hg (by rw [hk]; exact w)
  exact ⟨z.1, z.2.1, z.2.2.1, by rw [ls_sL, if_neg hne]; exact z.2.2.2.1, z.2.2.2.2.1, z.2.2.2.2.2⟩
theorem Ef.sLc (u : Ef F K a h h1) {p c : Nat} {v : List Nat} {n c1 s1 : Nat} (hk : kc h1 p = c) (ok : okc c = true) (hx : kc h p = 0 ∨ c ∈ K) (h2 : c1 ≤ b) (h3 : s1 ≤ 97 * b) : Ef F K (a + b) h (sLc h1 p v n c1 s1) := by
  refine ⟨u.1.sLc hk ok, u.2.1, ?_, ?_, fun q hq => ?_⟩
  · have := u.2.2.1; rw [cc_sLc]; omega
  · have := u.2.2.2.1; rw [cs_sLc]; omega
  obtain ⟨x1, x2, x3, x4⟩ := u.2.2.2.2 q hq
  refine ⟨x1, x2, x3, fun hg => ?_⟩
  have z := x4 hg
  have hne : ¬ q = p := fun y => by
    rcases hx with w | w
    · exact hq (by rw [y]; exact w)
    · subst y; rw [x1] at hk; exact hg (by rw [hk]; exact w)
  exact ⟨z.1, z.2.1, z.2.2.1, by rw [ls_sLc, if_neg hne]; exact z.2.2.2.1, z.2.2.2.2.1, by rw [cp_sLc, if_neg hne]; exact z.2.2.2.2.2⟩
theorem Ef.sTc (u : Ef F K a h h1) {p c : Nat} {v : List Nat} {n c1 s1 : Nat} (hk : kc h1 p = c) (ok : okc c = true) (hx : kc h p = 0 ∨ c ∈ K) (h2 : c1 ≤ b) (h3 : s1 ≤ 97 * b) : Ef F K (a + b) h (sTc h1 p v n c1 s1) := by
  refine ⟨u.1.sTc hk ok, u.2.1, ?_, ?_, fun q hq => ?_⟩
  · have := u.2.2.1; rw [cc_sTc]; omega
  · have := u.2.2.2.1; rw [cs_sTc]; omega
  obtain ⟨x1, x2, x3, x4⟩ := u.2.2.2.2 q hq
  refine ⟨x1, x2, x3, fun hg => ?_⟩
  have z := x4 hg
  have hne : ¬ q = p := fun y => by
    rcases hx with w | w
    · exact hq (by rw [y]; exact w)
    · subst y; rw [x1] at hk; exact hg (by rw [hk]; exact w)
  exact ⟨z.1, z.2.1, z.2.2.1, z.2.2.2.1, by rw [tx_sTc, if_neg hne]; exact z.2.2.2.2.1, by rw [cp_sTc, if_neg hne]; exact z.2.2.2.2.2⟩
theorem Ef.nO (u : Ef F K a h h1) {k n : Nat} (h2 : 1 ≤ b) (h3 : n ≤ 97 * b) : Ef F K (a + b) h (nO h1 k n) := by
  refine ⟨u.1.nO, ?_, ?_, ?_, fun q hq => ?_⟩
  · have := u.2.1; rw [nx_nO]; omega
  · have := u.2.2.1; rw [cc_nO]; omega
  · have := u.2.2.2.1; rw [cs_nO]; omega
  obtain ⟨x1, x2, x3, x4⟩ := u.2.2.2.2 q hq
  have hne : q ≠ nx h1 := u.1.ne x1 hq
  refine ⟨by rw [kc_nO, if_neg hne]; exact x1, x2, fun g hg => ?_, fun hg => ?_⟩
  · have y3 := x3 g hg
    exact y3
  · have z := x4 hg
    exact ⟨z.1, z.2.1, z.2.2.1, z.2.2.2.1, z.2.2.2.2.1, z.2.2.2.2.2⟩
theorem Ef.nA (u : Ef F K a h h1) {k n : Nat} (h2 : 1 ≤ b) (h3 : n ≤ 97 * b) : Ef F K (a + b) h (nA h1 k n) := by
  refine ⟨u.1.nA, ?_, ?_, ?_, fun q hq => ?_⟩
  · have := u.2.1; rw [nx_nA]; omega
  · have := u.2.2.1; rw [cc_nA]; omega
  · have := u.2.2.2.1; rw [cs_nA]; omega
  obtain ⟨x1, x2, x3, x4⟩ := u.2.2.2.2 q hq
  have hne : q ≠ nx h1 := u.1.ne x1 hq
  refine ⟨by rw [kc_nA, if_neg hne]; exact x1, (by rw [xl_nA, if_neg hne]; exact x2), fun g hg => ?_, fun hg => ?_⟩
  · have y3 := x3 g hg
    exact y3
  · have z := x4 hg
    exact ⟨z.1, z.2.1, z.2.2.1, z.2.2.2.1, z.2.2.2.2.1, z.2.2.2.2.2⟩
theorem Ef.nC (u : Ef F K a h h1) {k n : Nat} (h2 : 1 ≤ b) (h3 : n ≤ 97 * b) : Ef F K (a + b) h (nC h1 k n) := by
  refine ⟨u.1.nC, ?_, ?_, ?_, fun q hq => ?_⟩
  · have := u.2.1; rw [nx_nC]; omega
  · have := u.2.2.1; rw [cc_nC]; omega
  · have := u.2.2.2.1; rw [cs_nC]; omega
  obtain ⟨x1, x2, x3, x4⟩ := u.2.2.2.2 q hq
  have hne : q ≠ nx h1 := u.1.ne x1 hq
  refine ⟨by rw [kc_nC, if_neg hne]; exact x1, x2, fun g hg => ?_, fun hg => ?_⟩
  · have y3 := x3 g hg
    exact y3
  · have z := x4 hg
    exact ⟨z.1, z.2.1, z.2.2.1, z.2.2.2.1, z.2.2.2.2.1, by rw [cp_nC, if_neg hne]; exact z.2.2.2.2.2⟩
theorem Ef.nS (u : Ef F K a h h1) {l : List Nat} (h2 : 2 ≤ b) (h3 : 4 + l.length ≤ 97 * b) : Ef F K (a + b) h (nS h1 l) := by
  refine ⟨u.1.nS, ?_, ?_, ?_, fun q hq => ?_⟩
  · have := u.2.1; rw [nx_nS]; omega
  · have := u.2.2.1; rw [cc_nS]; omega
  · have := u.2.2.2.1; rw [cs_nS]; omega
  obtain ⟨x1, x2, x3, x4⟩ := u.2.2.2.2 q hq
  have hne : q ≠ nx h1 := u.1.ne x1 hq
  refine ⟨by rw [kc_nS, if_neg hne]; exact x1, x2, fun g hg => ?_, fun hg => ?_⟩
  · have y3 := x3 g hg
    exact y3
  · have z := x4 hg
    exact ⟨z.1, z.2.1, z.2.2.1, z.2.2.2.1, by rw [tx_nS, if_neg hne]; exact z.2.2.2.2.1, z.2.2.2.2.2⟩
theorem Ef.nI3 (u : Ef F K a h h1) {v : Int32} (h2 : 1 ≤ b) (h3 : 1 ≤ 97 * b) : Ef F K (a + b) h (nI3 h1 v) := by
  refine ⟨u.1.nI3, ?_, ?_, ?_, fun q hq => ?_⟩
  · have := u.2.1; rw [nx_nI3]; omega
  · have := u.2.2.1; rw [cc_nI3]; omega
  · have := u.2.2.2.1; rw [cs_nI3]; omega
  obtain ⟨x1, x2, x3, x4⟩ := u.2.2.2.2 q hq
  have hne : q ≠ nx h1 := u.1.ne x1 hq
  refine ⟨by rw [kc_nI3, if_neg hne]; exact x1, x2, fun g hg => ?_, fun hg => ?_⟩
  · have y3 := x3 g hg
    exact ⟨by rw [fi_nI3, if_neg (fun y => hne y.2)]; exact y3.1, y3.2⟩
  · have z := x4 hg
    exact ⟨z.1, z.2.1, z.2.2.1, z.2.2.2.1, z.2.2.2.2.1, z.2.2.2.2.2⟩
/-- one more on a list; a list that was made empty and only grew -/
def gcap : Nat → Nat
  | 0 => 0
  | n + 1 => acap (gcap n) n
def gcu : Nat → Nat
  | 0 => 0
  | n + 1 => gcu n + (if n < gcap n then 0 else (gcap (n + 1) + 96) / 97)
theorem gcap_s (n : Nat) : gcap (n + 1) = acap (gcap n) n := rfl
theorem gcap_ge (n : Nat) : n ≤ gcap n := by
  cases n with
  | zero => exact Nat.zero_le _
  | succ n =>
    rw [gcap_s]; unfold acap ncap
    split
    · omega
    · split <;> omega
/-- a list made empty that only grew -/
def Gl (h : HP) (l c : Nat) (xs : List Nat) : Prop := kc h l = c ∧ cp h l = gcap xs.length ∧ ls h l = xs
theorem gcap_b : ∀ n, n ≤ 300 → gcap n ≤ 400 := by decide +kernel
theorem Gl.raw {l c : Nat} {xs : List Nat} (x : Gl h l c xs) (hl : xs.length ≤ 300) : cp h l ≠ RAW := by
  have := gcap_b _ hl
  rw [x.2.1]; show gcap xs.length ≠ 1099511627776; omega
theorem Gl.kl {l c : Nat} {xs : List Nat} (x : Gl h l c xs) (hl : xs.length ≤ 300) (hc : 100 ≤ c ∧ c < 200) : lsK h l := ⟨by rw [x.1]; exact hc.1, by rw [x.1]; exact hc.2, x.raw hl⟩
theorem Gl.add {l c v : Nat} {xs : List Nat} (x : Gl h1 l c xs) (u : Ef F K (a + gcu xs.length) h h1) (hl : xs.length < 300) (hc : 100 ≤ c ∧ c < 200) (ok : okc c = true) (hv : elK h1 v) (hx : kc h l = 0 ∨ c ∈ K) :
    (∀ {β : Type} {K : HP → Rs β}, lsAdd l v h1 K = K (lad h1 l v)) ∧ Ef F K (a + gcu (xs.length + 1)) h (lad h1 l v) ∧ Gl (lad h1 l v) l c (xs ++ [v]) := by
  obtain ⟨x1, x2, x3⟩ := x
  have KL : lsK h1 l := Gl.kl ⟨x1, x2, x3⟩ (by omega) hc
  refine ⟨lsAdd_e KL hv (by rw [x3]; omega), ?_, x1, ?_, ?_⟩
  · have hb := gcap_b (xs.length + 1) (by omega)
    have he : a + gcu (xs.length + 1) = (a + gcu xs.length) + (if xs.length < gcap xs.length then 0 else (gcap (xs.length + 1) + 96) / 97) := by
      show a + (gcu xs.length + _) = _; omega
    rw [he]
    unfold lad
    rw [x2, x3]
    refine u.sLc x1 ok hx ?_ ?_
    · unfold acc
      split
      · omega
      · have : xs.length + 1 ≤ gcap (xs.length + 1) := gcap_ge _
        omega
    · unfold acs
      split
      · omega
      · rename_i y
        have : gcap (xs.length + 1) = ncap xs.length := by rw [gcap_s]; unfold acap; rw [if_neg y]
        rw [this]; omega
  · unfold lad; rw [cp_sLc, if_pos rfl, x2, x3, List.length_append]; rfl
  · rw [lad_ls, x3]
theorem Ef.lad (u : Ef F K a h h1) {l c v : Nat} (hk : kc h1 l = c) (hc : c ≠ 0) (ok : okc c = true) (hx : kc h l = 0 ∨ c ∈ K) (hl : (ls h1 l).length ≤ 450) : Ef F K (a + 10) h (lad h1 l v) := by
  refine u.sLc hk ok hx ?_ ?_
  · unfold acc; split <;> omega
  · unfold acs ncap
    split
    · omega
    · split <;> omega
theorem Ef_ladb (u : Ef F K a h h1) {l c v b : Nat} (hk : kc h1 l = c) (ok : okc c = true) (hx : kc h l = 0 ∨ c ∈ K) (hb : 1 ≤ b) (h3 : 10 + 2 * (ls h1 l).length ≤ 97 * b) : Ef F K (a + b) h (lad h1 l v) := by
  refine u.sLc hk ok hx ?_ ?_
  · unfold acc; split <;> omega
  · unfold acs ncap
    split
    · omega
    · split <;> omega
