/-! PHASE B: frames -/
set_option maxRecDepth 100000
def WG (h : HP) : Prop :=
  1000 ≤ nx h ∧
  (∀ p, nx h ≤ p → kc h p = 0 ∧ (∀ f, fi h f p = 0) ∧ (∀ f, fj h f p = 0) ∧ (∀ f, fr h f p = 0) ∧ (∀ j, xi h p j = 0) ∧ (∀ j, xj h p j = 0) ∧ (∀ j, xr h p j = 0) ∧ ls h p = [] ∧ tx h p = [] ∧ cp h p = 0 ∧ xl h p = 0) ∧
  (∀ p, p < 1000 → kc h p = kc0 p ∧ tx h p = tx0 p ∧ ∀ g, fi h g p = fi0 g p)
def Eq1 (h h' : HP) (p : Nat) : Prop := (∀ f, fi h' f p = fi h f p) ∧ (∀ f, fj h' f p = fj h f p) ∧ (∀ f, fr h' f p = fr h f p) ∧ (∀ j, xi h' p j = xi h p j) ∧ (∀ j, xj h' p j = xj h p j) ∧ (∀ j, xr h' p j = xr h p j) ∧ ls h' p = ls h p ∧ tx h' p = tx h p ∧ cp h' p = cp h p
def Up (K X : List Nat) (a : Nat) (h h' : HP) : Prop :=
  nx h ≤ nx h' ∧ cc h' ≤ cc h + a ∧ cs h' ≤ cs h + 97 * a ∧
  ∀ p, kc h p ≠ 0 → kc h' p = kc h p ∧ xl h' p = xl h p ∧ (kc h p ∉ K → p ∉ X → Eq1 h h' p)
def St (K X : List Nat) (a : Nat) (h h' : HP) : Prop := WG h' ∧ Up K X a h h'
def okc (c : Nat) : Bool := decide (c ≠ 0 ∧ c ≠ 71 ∧ c ≠ 73 ∧ c ≠ 99)
theorem okc_e {c : Nat} (h : okc c = true) : c ≠ 0 ∧ c ≠ 71 ∧ c ≠ 73 ∧ c ≠ 99 := of_decide_eq_true h
theorem kc0_c (p : Nat) : kc0 p = 0 ∨ kc0 p = 71 ∨ kc0 p = 73 ∨ kc0 p = 99 := by
  unfold kc0
  by_cases a : 1 ≤ p ∧ p ≤ nStr
  · rw [if_pos a]; simp
  · rw [if_neg a]
    by_cases b : 300 ≤ p ∧ p < 556
    · rw [if_pos b]; simp
    · rw [if_neg b]
      by_cases d : 900 ≤ p ∧ p < 908
      · rw [if_pos d]; simp
      · rw [if_neg d]; simp
theorem WG.lt {h : HP} (w : WG h) {p : Nat} (hp : kc h p ≠ 0) : p < nx h := Nat.lt_of_not_le fun q => hp (w.2.1 p q).1
theorem WG.new {h : HP} (w : WG h) : kc h (nx h) = 0 := (w.2.1 _ (Nat.le_refl _)).1
theorem WG.ne {h : HP} (w : WG h) {p c : Nat} (hp : kc h p = c) (hc : c ≠ 0) : p ≠ nx h := fun e => hc (by rw [← hp, e, w.new])
theorem WG.ge {h : HP} (w : WG h) {p c : Nat} (hp : kc h p = c) (hc : okc c = true) : 1000 ≤ p := by
  refine Nat.le_of_not_lt fun q => ?_
  have e := (w.2.2 p q).1; rw [hp] at e; have o := okc_e hc; rcases kc0_c p with z | z | z | z <;> rw [z] at e <;> simp_all
theorem Eq1.refl (h : HP) (p : Nat) : Eq1 h h p := ⟨fun _ => rfl, fun _ => rfl, fun _ => rfl, fun _ => rfl, fun _ => rfl, fun _ => rfl, rfl, rfl, rfl⟩
theorem Eq1.trans {h h1 h2 : HP} {p : Nat} (a : Eq1 h h1 p) (b : Eq1 h1 h2 p) : Eq1 h h2 p :=
  ⟨fun f => (b.1 f).trans (a.1 f), fun f => (b.2.1 f).trans (a.2.1 f), fun f => (b.2.2.1 f).trans (a.2.2.1 f), fun f => (b.2.2.2.1 f).trans (a.2.2.2.1 f), fun f => (b.2.2.2.2.1 f).trans (a.2.2.2.2.1 f), fun f => (b.2.2.2.2.2.1 f).trans (a.2.2.2.2.2.1 f), b.2.2.2.2.2.2.1.trans a.2.2.2.2.2.2.1, b.2.2.2.2.2.2.2.1.trans a.2.2.2.2.2.2.2.1, b.2.2.2.2.2.2.2.2.trans a.2.2.2.2.2.2.2.2⟩
theorem Up.refl (K X : List Nat) (h : HP) : Up K X 0 h h := ⟨Nat.le_refl _, Nat.le_refl _, Nat.le_refl _, fun _ _ => ⟨rfl, rfl, fun _ _ => Eq1.refl h _⟩⟩
theorem Up.trans {K X : List Nat} {a b : Nat} {h h1 h2 : HP} (u : Up K X a h h1) (v : Up K X b h1 h2) : Up K X (a + b) h h2 := by
  refine ⟨Nat.le_trans u.1 v.1, ?_, ?_, fun p hp => ?_⟩
  · have := u.2.1; have := v.2.1; omega
  · have := u.2.2.1; have := v.2.2.1; omega
  · have x := u.2.2.2 p hp; have y := v.2.2.2 p (by rw [x.1]; exact hp)
    exact ⟨y.1.trans x.1, y.2.1.trans x.2.1, fun k l => (x.2.2 k l).trans (y.2.2 (by rw [x.1]; exact k) l)⟩
theorem Up.wk {K X K2 X2 : List Nat} {a b : Nat} {h h1 : HP} (u : Up K X a h h1) (hk : ∀ k ∈ K, k ∈ K2) (hx : ∀ x ∈ X, x ∈ X2 ∨ kc h x = 0 ∨ kc h x ∈ K2) (hab : a ≤ b) : Up K2 X2 b h h1 := by
  refine ⟨u.1, ?_, ?_, fun p hp => ⟨(u.2.2.2 p hp).1, (u.2.2.2 p hp).2.1, fun k l => (u.2.2.2 p hp).2.2 (fun q => k (hk _ q)) (fun q => ?_)⟩⟩
  · have := u.2.1; omega
  · have := u.2.2.1; omega
  · rcases hx p q with z | z | z
    · exact l z
    · exact hp z
    · exact k z
theorem Up.le {K X : List Nat} {a b : Nat} {h h1 : HP} (u : Up K X a h h1) (hab : a ≤ b) : Up K X b h h1 := u.wk (fun _ q => q) (fun _ q => .inl q) hab
/-- a callee's change, where what it may change is new to the caller or may be changed by it -/
theorem Up.cat {K X K2 X2 : List Nat} {a b : Nat} {h h1 h2 : HP} (u : Up K X a h h1) (v : Up K2 X2 b h1 h2) (hk : ∀ k ∈ K2, k ∈ K) (hx : ∀ x ∈ X2, x ∈ X ∨ kc h x = 0 ∨ kc h x ∈ K) : Up K X (a + b) h h2 := by
  refine ⟨Nat.le_trans u.1 v.1, ?_, ?_, fun p hp => ?_⟩
  · have := u.2.1; have := v.2.1; omega
  · have := u.2.2.1; have := v.2.2.1; omega
  · have x := u.2.2.2 p hp; have y := v.2.2.2 p (by rw [x.1]; exact hp)
    refine ⟨y.1.trans x.1, y.2.1.trans x.2.1, fun k l => (x.2.2 k l).trans (y.2.2 (by rw [x.1]; exact fun q => k (hk _ q)) fun q => ?_)⟩
    rcases hx p q with z | z | z
    · exact l z
    · exact hp z
    · exact k z
theorem Up.kk {K X : List Nat} {a c p : Nat} {h h1 : HP} (u : Up K X a h h1) (hp : kc h p = c) (hc : c ≠ 0) : kc h1 p = c := ((u.2.2.2 p (by rw [hp]; exact hc)).1).trans hp
theorem Up.xx {K X : List Nat} {a c p : Nat} {h h1 : HP} (u : Up K X a h h1) (hp : kc h p = c) (hc : c ≠ 0) : xl h1 p = xl h p := (u.2.2.2 p (by rw [hp]; exact hc)).2.1
theorem Up.eq {K X : List Nat} {a c p : Nat} {h h1 : HP} (u : Up K X a h h1) (hp : kc h p = c) (hc : c ≠ 0) (hK : c ∉ K) (hX : p ∉ X) : Eq1 h h1 p := (u.2.2.2 p (by rw [hp]; exact hc)).2.2 (by rw [hp]; exact hK) hX
theorem St.refl {h : HP} (w : WG h) (K X : List Nat) : St K X 0 h h := ⟨w, Up.refl K X h⟩
theorem St.trans {K X : List Nat} {a b : Nat} {h h1 h2 : HP} (u : St K X a h h1) (v : St K X b h1 h2) : St K X (a + b) h h2 := ⟨v.1, u.2.trans v.2⟩
theorem St.le {K X : List Nat} {a b : Nat} {h h1 : HP} (u : St K X a h h1) (hab : a ≤ b) : St K X b h h1 := ⟨u.1, u.2.le hab⟩
theorem St.cat {K X K2 X2 : List Nat} {a b : Nat} {h h1 h2 : HP} (u : St K X a h h1) (v : St K2 X2 b h1 h2) (hk : ∀ k ∈ K2, k ∈ K) (hx : ∀ x ∈ X2, x ∈ X ∨ kc h x = 0 ∨ kc h x ∈ K) : St K X (a + b) h h2 := ⟨v.1, u.2.cat v.2 hk hx⟩
theorem St.wk {K X K2 X2 : List Nat} {a b : Nat} {h h1 : HP} (u : St K X a h h1) (hk : ∀ k ∈ K, k ∈ K2) (hx : ∀ x ∈ X, x ∈ X2 ∨ kc h x = 0 ∨ kc h x ∈ K2) (hab : a ≤ b) : St K2 X2 b h h1 := ⟨u.1, u.2.wk hk hx hab⟩
theorem St.ne {K X : List Nat} {a c p q : Nat} {h h1 : HP} (s : St K X a h h1) (hk : kc h1 p = c) (hx : kc h p = 0 ∨ c ∈ K ∨ p ∈ X) (hq : kc h q ≠ 0) (hK : kc h q ∉ K) (hX : q ∉ X) : q ≠ p := by
  intro e; subst e
  rcases hx with z | z | z
  · exact hq z
  · have := (s.2.2.2.2 q hq).1; rw [hk] at this; exact hK (by rw [← this]; exact z)
  · exact hX z
theorem WG.sI {h : HP} (w : WG h) {f p : Nat} {v : Int32} {c : Nat} (hk : kc h p = c) (hc : okc c = true) : WG (sI h f p v) := by
  refine ⟨w.1, fun q hq => ?_, fun q hq => ?_⟩
  · have z := w.2.1 q hq
    have hne : q ≠ p := fun y => (okc_e hc).1 (by rw [← hk, ← y]; exact z.1)
    exact ⟨z.1, (fun g => by rw [fi_sI, if_neg (fun y => hne y.2)]; exact (z.2.1) g), (z.2.2.1), (z.2.2.2.1), (z.2.2.2.2.1), (z.2.2.2.2.2.1), (z.2.2.2.2.2.2.1), z.2.2.2.2.2.2.2.1, z.2.2.2.2.2.2.2.2.1, z.2.2.2.2.2.2.2.2.2.1, z.2.2.2.2.2.2.2.2.2.2⟩
  · have hne : q ≠ p := fun y => absurd (w.ge hk hc) (by rw [← y]; exact Nat.not_le_of_lt hq)
    exact ⟨(w.2.2 q hq).1, (w.2.2 q hq).2.1, fun g => by rw [fi_sI, if_neg (fun y => hne y.2)]; exact (w.2.2 q hq).2.2 g⟩
theorem St.sI {K X : List Nat} {a : Nat} {h h1 : HP} (s : St K X a h h1) {f p : Nat} {v : Int32} {c : Nat} (hk : kc h1 p = c) (hc : okc c = true) (hx : kc h p = 0 ∨ c ∈ K ∨ p ∈ X) : St K X a h (sI h1 f p v) := by
  refine ⟨s.1.sI hk hc, s.2.1, s.2.2.1, s.2.2.2.1, fun q hq => ⟨(s.2.2.2.2 q hq).1, (s.2.2.2.2 q hq).2.1, fun hK hX => ?_⟩⟩
  have hne := s.ne hk hx hq hK hX
  obtain ⟨e1, e2, e3, e4, e5, e6, e7, e8, e9⟩ := (s.2.2.2.2 q hq).2.2 hK hX
  exact ⟨(fun g => by rw [fi_sI, if_neg (fun y => hne y.2)]; exact e1 g), e2, e3, e4, e5, e6, e7, e8, e9⟩
theorem WG.sJ {h : HP} (w : WG h) {f p : Nat} {v : Int64} {c : Nat} (hk : kc h p = c) (hc : okc c = true) : WG (sJ h f p v) := by
  refine ⟨w.1, fun q hq => ?_, fun q hq => ?_⟩
  · have z := w.2.1 q hq
    have hne : q ≠ p := fun y => (okc_e hc).1 (by rw [← hk, ← y]; exact z.1)
    exact ⟨z.1, (z.2.1), (fun g => by rw [fj_sJ, if_neg (fun y => hne y.2)]; exact (z.2.2.1) g), (z.2.2.2.1), (z.2.2.2.2.1), (z.2.2.2.2.2.1), (z.2.2.2.2.2.2.1), z.2.2.2.2.2.2.2.1, z.2.2.2.2.2.2.2.2.1, z.2.2.2.2.2.2.2.2.2.1, z.2.2.2.2.2.2.2.2.2.2⟩
  · have hne : q ≠ p := fun y => absurd (w.ge hk hc) (by rw [← y]; exact Nat.not_le_of_lt hq)
    exact ⟨(w.2.2 q hq).1, (w.2.2 q hq).2.1, (w.2.2 q hq).2.2⟩
theorem St.sJ {K X : List Nat} {a : Nat} {h h1 : HP} (s : St K X a h h1) {f p : Nat} {v : Int64} {c : Nat} (hk : kc h1 p = c) (hc : okc c = true) (hx : kc h p = 0 ∨ c ∈ K ∨ p ∈ X) : St K X a h (sJ h1 f p v) := by
  refine ⟨s.1.sJ hk hc, s.2.1, s.2.2.1, s.2.2.2.1, fun q hq => ⟨(s.2.2.2.2 q hq).1, (s.2.2.2.2 q hq).2.1, fun hK hX => ?_⟩⟩
  have hne := s.ne hk hx hq hK hX
  obtain ⟨e1, e2, e3, e4, e5, e6, e7, e8, e9⟩ := (s.2.2.2.2 q hq).2.2 hK hX
  exact ⟨e1, (fun g => by rw [fj_sJ, if_neg (fun y => hne y.2)]; exact e2 g), e3, e4, e5, e6, e7, e8, e9⟩
theorem WG.sR {h : HP} (w : WG h) {f p : Nat} {v : Nat} {c : Nat} (hk : kc h p = c) (hc : okc c = true) : WG (sR h f p v) := by
  refine ⟨w.1, fun q hq => ?_, fun q hq => ?_⟩
  · have z := w.2.1 q hq
    have hne : q ≠ p := fun y => (okc_e hc).1 (by rw [← hk, ← y]; exact z.1)
    exact ⟨z.1, (z.2.1), (z.2.2.1), (fun g => by rw [fr_sR, if_neg (fun y => hne y.2)]; exact (z.2.2.2.1) g), (z.2.2.2.2.1), (z.2.2.2.2.2.1), (z.2.2.2.2.2.2.1), z.2.2.2.2.2.2.2.1, z.2.2.2.2.2.2.2.2.1, z.2.2.2.2.2.2.2.2.2.1, z.2.2.2.2.2.2.2.2.2.2⟩
  · have hne : q ≠ p := fun y => absurd (w.ge hk hc) (by rw [← y]; exact Nat.not_le_of_lt hq)
    exact ⟨(w.2.2 q hq).1, (w.2.2 q hq).2.1, (w.2.2 q hq).2.2⟩
theorem St.sR {K X : List Nat} {a : Nat} {h h1 : HP} (s : St K X a h h1) {f p : Nat} {v : Nat} {c : Nat} (hk : kc h1 p = c) (hc : okc c = true) (hx : kc h p = 0 ∨ c ∈ K ∨ p ∈ X) : St K X a h (sR h1 f p v) := by
  refine ⟨s.1.sR hk hc, s.2.1, s.2.2.1, s.2.2.2.1, fun q hq => ⟨(s.2.2.2.2 q hq).1, (s.2.2.2.2 q hq).2.1, fun hK hX => ?_⟩⟩
  have hne := s.ne hk hx hq hK hX
  obtain ⟨e1, e2, e3, e4, e5, e6, e7, e8, e9⟩ := (s.2.2.2.2 q hq).2.2 hK hX
  exact ⟨e1, e2, (fun g => by rw [fr_sR, if_neg (fun y => hne y.2)]; exact e3 g), e4, e5, e6, e7, e8, e9⟩
theorem WG.sXi {h : HP} (w : WG h) {p j : Nat} {v : Int32} {c : Nat} (hk : kc h p = c) (hc : okc c = true) : WG (sXi h p j v) := by
  refine ⟨w.1, fun q hq => ?_, fun q hq => ?_⟩
  · have z := w.2.1 q hq
    have hne : q ≠ p := fun y => (okc_e hc).1 (by rw [← hk, ← y]; exact z.1)
    exact ⟨z.1, (z.2.1), (z.2.2.1), (z.2.2.2.1), (fun g => by rw [xi_sXi, if_neg (fun y => hne y.1)]; exact (z.2.2.2.2.1) g), (z.2.2.2.2.2.1), (z.2.2.2.2.2.2.1), z.2.2.2.2.2.2.2.1, z.2.2.2.2.2.2.2.2.1, z.2.2.2.2.2.2.2.2.2.1, z.2.2.2.2.2.2.2.2.2.2⟩
  · have hne : q ≠ p := fun y => absurd (w.ge hk hc) (by rw [← y]; exact Nat.not_le_of_lt hq)
    exact ⟨(w.2.2 q hq).1, (w.2.2 q hq).2.1, (w.2.2 q hq).2.2⟩
theorem St.sXi {K X : List Nat} {a : Nat} {h h1 : HP} (s : St K X a h h1) {p j : Nat} {v : Int32} {c : Nat} (hk : kc h1 p = c) (hc : okc c = true) (hx : kc h p = 0 ∨ c ∈ K ∨ p ∈ X) : St K X a h (sXi h1 p j v) := by
  refine ⟨s.1.sXi hk hc, s.2.1, s.2.2.1, s.2.2.2.1, fun q hq => ⟨(s.2.2.2.2 q hq).1, (s.2.2.2.2 q hq).2.1, fun hK hX => ?_⟩⟩
  have hne := s.ne hk hx hq hK hX
  obtain ⟨e1, e2, e3, e4, e5, e6, e7, e8, e9⟩ := (s.2.2.2.2 q hq).2.2 hK hX
  exact ⟨e1, e2, e3, (fun g => by rw [xi_sXi, if_neg (fun y => hne y.1)]; exact e4 g), e5, e6, e7, e8, e9⟩
theorem WG.sXj {h : HP} (w : WG h) {p j : Nat} {v : Int64} {c : Nat} (hk : kc h p = c) (hc : okc c = true) : WG (sXj h p j v) := by
  refine ⟨w.1, fun q hq => ?_, fun q hq => ?_⟩
  · have z := w.2.1 q hq
    have hne : q ≠ p := fun y => (okc_e hc).1 (by rw [← hk, ← y]; exact z.1)
    exact ⟨z.1, (z.2.1), (z.2.2.1), (z.2.2.2.1), (z.2.2.2.2.1), (fun g => by rw [xj_sXj, if_neg (fun y => hne y.1)]; exact (z.2.2.2.2.2.1) g), (z.2.2.2.2.2.2.1), z.2.2.2.2.2.2.2.1, z.2.2.2.2.2.2.2.2.1, z.2.2.2.2.2.2.2.2.2.1, z.2.2.2.2.2.2.2.2.2.2⟩
  · have hne : q ≠ p := fun y => absurd (w.ge hk hc) (by rw [← y]; exact Nat.not_le_of_lt hq)
    exact ⟨(w.2.2 q hq).1, (w.2.2 q hq).2.1, (w.2.2 q hq).2.2⟩
theorem St.sXj {K X : List Nat} {a : Nat} {h h1 : HP} (s : St K X a h h1) {p j : Nat} {v : Int64} {c : Nat} (hk : kc h1 p = c) (hc : okc c = true) (hx : kc h p = 0 ∨ c ∈ K ∨ p ∈ X) : St K X a h (sXj h1 p j v) := by
  refine ⟨s.1.sXj hk hc, s.2.1, s.2.2.1, s.2.2.2.1, fun q hq => ⟨(s.2.2.2.2 q hq).1, (s.2.2.2.2 q hq).2.1, fun hK hX => ?_⟩⟩
  have hne := s.ne hk hx hq hK hX
  obtain ⟨e1, e2, e3, e4, e5, e6, e7, e8, e9⟩ := (s.2.2.2.2 q hq).2.2 hK hX
  exact ⟨e1, e2, e3, e4, (fun g => by rw [xj_sXj, if_neg (fun y => hne y.1)]; exact e5 g), e6, e7, e8, e9⟩
theorem WG.sXr {h : HP} (w : WG h) {p j : Nat} {v : Nat} {c : Nat} (hk : kc h p = c) (hc : okc c = true) : WG (sXr h p j v) := by
  refine ⟨w.1, fun q hq => ?_, fun q hq => ?_⟩
  · have z := w.2.1 q hq
    have hne : q ≠ p := fun y => (okc_e hc).1 (by rw [← hk, ← y]; exact z.1)
    exact ⟨z.1, (z.2.1), (z.2.2.1), (z.2.2.2.1), (z.2.2.2.2.1), (z.2.2.2.2.2.1), (fun g => by rw [xr_sXr, if_neg (fun y => hne y.1)]; exact (z.2.2.2.2.2.2.1) g), z.2.2.2.2.2.2.2.1, z.2.2.2.2.2.2.2.2.1, z.2.2.2.2.2.2.2.2.2.1, z.2.2.2.2.2.2.2.2.2.2⟩
  · have hne : q ≠ p := fun y => absurd (w.ge hk hc) (by rw [← y]; exact Nat.not_le_of_lt hq)
    exact ⟨(w.2.2 q hq).1, (w.2.2 q hq).2.1, (w.2.2 q hq).2.2⟩
theorem St.sXr {K X : List Nat} {a : Nat} {h h1 : HP} (s : St K X a h h1) {p j : Nat} {v : Nat} {c : Nat} (hk : kc h1 p = c) (hc : okc c = true) (hx : kc h p = 0 ∨ c ∈ K ∨ p ∈ X) : St K X a h (sXr h1 p j v) := by
  refine ⟨s.1.sXr hk hc, s.2.1, s.2.2.1, s.2.2.2.1, fun q hq => ⟨(s.2.2.2.2 q hq).1, (s.2.2.2.2 q hq).2.1, fun hK hX => ?_⟩⟩
  have hne := s.ne hk hx hq hK hX
  obtain ⟨e1, e2, e3, e4, e5, e6, e7, e8, e9⟩ := (s.2.2.2.2 q hq).2.2 hK hX
  exact ⟨e1, e2, e3, e4, e5, (fun g => by rw [xr_sXr, if_neg (fun y => hne y.1)]; exact e6 g), e7, e8, e9⟩
theorem WG.sL {h : HP} (w : WG h) {p : Nat} {v : List Nat} {c : Nat} (hk : kc h p = c) (hc : okc c = true) : WG (sL h p v) := by
  refine ⟨w.1, fun q hq => ?_, fun q hq => ?_⟩
  · have z := w.2.1 q hq
    have hne : q ≠ p := fun y => (okc_e hc).1 (by rw [← hk, ← y]; exact z.1)
    exact ⟨z.1, (z.2.1), (z.2.2.1), (z.2.2.2.1), (z.2.2.2.2.1), (z.2.2.2.2.2.1), (z.2.2.2.2.2.2.1), (by rw [ls_sL, if_neg hne]; exact z.2.2.2.2.2.2.2.1), z.2.2.2.2.2.2.2.2.1, z.2.2.2.2.2.2.2.2.2.1, z.2.2.2.2.2.2.2.2.2.2⟩
  · have hne : q ≠ p := fun y => absurd (w.ge hk hc) (by rw [← y]; exact Nat.not_le_of_lt hq)
    exact ⟨(w.2.2 q hq).1, (w.2.2 q hq).2.1, (w.2.2 q hq).2.2⟩
theorem St.sL {K X : List Nat} {a : Nat} {h h1 : HP} (s : St K X a h h1) {p : Nat} {v : List Nat} {c : Nat} (hk : kc h1 p = c) (hc : okc c = true) (hx : kc h p = 0 ∨ c ∈ K ∨ p ∈ X) : St K X a h (sL h1 p v) := by
  refine ⟨s.1.sL hk hc, s.2.1, s.2.2.1, s.2.2.2.1, fun q hq => ⟨(s.2.2.2.2 q hq).1, (s.2.2.2.2 q hq).2.1, fun hK hX => ?_⟩⟩
  have hne := s.ne hk hx hq hK hX
  obtain ⟨e1, e2, e3, e4, e5, e6, e7, e8, e9⟩ := (s.2.2.2.2 q hq).2.2 hK hX
  exact ⟨e1, e2, e3, e4, e5, e6, (by rw [ls_sL, if_neg hne]; exact e7), e8, e9⟩
theorem WG.sLc {h : HP} (w : WG h) {p : Nat} {v : List Nat} {n c1 s1 : Nat} {c : Nat} (hk : kc h p = c) (hc : okc c = true) : WG (sLc h p v n c1 s1) := by
  refine ⟨w.1, fun q hq => ?_, fun q hq => ?_⟩
  · have z := w.2.1 q hq
    have hne : q ≠ p := fun y => (okc_e hc).1 (by rw [← hk, ← y]; exact z.1)
    exact ⟨z.1, (z.2.1), (z.2.2.1), (z.2.2.2.1), (z.2.2.2.2.1), (z.2.2.2.2.2.1), (z.2.2.2.2.2.2.1), (by rw [ls_sLc, if_neg hne]; exact z.2.2.2.2.2.2.2.1), z.2.2.2.2.2.2.2.2.1, (by rw [cp_sLc, if_neg hne]; exact z.2.2.2.2.2.2.2.2.2.1), z.2.2.2.2.2.2.2.2.2.2⟩
  · have hne : q ≠ p := fun y => absurd (w.ge hk hc) (by rw [← y]; exact Nat.not_le_of_lt hq)
    exact ⟨(w.2.2 q hq).1, (w.2.2 q hq).2.1, (w.2.2 q hq).2.2⟩
theorem St.sLc {K X : List Nat} {a b : Nat} {h h1 : HP} (s : St K X a h h1) {p : Nat} {v : List Nat} {n c1 s1 : Nat} {c : Nat} (hk : kc h1 p = c) (hc : okc c = true) (hx : kc h p = 0 ∨ c ∈ K ∨ p ∈ X) (h2 : c1 ≤ b) (h3 : s1 ≤ 97 * b) : St K X (a + b) h (sLc h1 p v n c1 s1) := by
  refine ⟨s.1.sLc hk hc, s.2.1, ?_, ?_, fun q hq => ⟨(s.2.2.2.2 q hq).1, (s.2.2.2.2 q hq).2.1, fun hK hX => ?_⟩⟩
  · have := s.2.2.1; rw [cc_sLc]; omega
  · have := s.2.2.2.1; rw [cs_sLc]; omega
  have hne := s.ne hk hx hq hK hX
  obtain ⟨e1, e2, e3, e4, e5, e6, e7, e8, e9⟩ := (s.2.2.2.2 q hq).2.2 hK hX
  exact ⟨e1, e2, e3, e4, e5, e6, (by rw [ls_sLc, if_neg hne]; exact e7), e8, (by rw [cp_sLc, if_neg hne]; exact e9)⟩
theorem WG.sTc {h : HP} (w : WG h) {p : Nat} {v : List Nat} {n c1 s1 : Nat} {c : Nat} (hk : kc h p = c) (hc : okc c = true) : WG (sTc h p v n c1 s1) := by
  refine ⟨w.1, fun q hq => ?_, fun q hq => ?_⟩
  · have z := w.2.1 q hq
    have hne : q ≠ p := fun y => (okc_e hc).1 (by rw [← hk, ← y]; exact z.1)
    exact ⟨z.1, (z.2.1), (z.2.2.1), (z.2.2.2.1), (z.2.2.2.2.1), (z.2.2.2.2.2.1), (z.2.2.2.2.2.2.1), z.2.2.2.2.2.2.2.1, (by rw [tx_sTc, if_neg hne]; exact z.2.2.2.2.2.2.2.2.1), (by rw [cp_sTc, if_neg hne]; exact z.2.2.2.2.2.2.2.2.2.1), z.2.2.2.2.2.2.2.2.2.2⟩
  · have hne : q ≠ p := fun y => absurd (w.ge hk hc) (by rw [← y]; exact Nat.not_le_of_lt hq)
    exact ⟨(w.2.2 q hq).1, (by rw [tx_sTc, if_neg hne]; exact (w.2.2 q hq).2.1), (w.2.2 q hq).2.2⟩
theorem St.sTc {K X : List Nat} {a b : Nat} {h h1 : HP} (s : St K X a h h1) {p : Nat} {v : List Nat} {n c1 s1 : Nat} {c : Nat} (hk : kc h1 p = c) (hc : okc c = true) (hx : kc h p = 0 ∨ c ∈ K ∨ p ∈ X) (h2 : c1 ≤ b) (h3 : s1 ≤ 97 * b) : St K X (a + b) h (sTc h1 p v n c1 s1) := by
  refine ⟨s.1.sTc hk hc, s.2.1, ?_, ?_, fun q hq => ⟨(s.2.2.2.2 q hq).1, (s.2.2.2.2 q hq).2.1, fun hK hX => ?_⟩⟩
  · have := s.2.2.1; rw [cc_sTc]; omega
  · have := s.2.2.2.1; rw [cs_sTc]; omega
  have hne := s.ne hk hx hq hK hX
  obtain ⟨e1, e2, e3, e4, e5, e6, e7, e8, e9⟩ := (s.2.2.2.2 q hq).2.2 hK hX
  exact ⟨e1, e2, e3, e4, e5, e6, e7, (by rw [tx_sTc, if_neg hne]; exact e8), (by rw [cp_sTc, if_neg hne]; exact e9)⟩
theorem WG.nO {h : HP} (w : WG h) {k n : Nat} : WG (nO h k n) := by
  refine ⟨Nat.le_succ_of_le w.1, fun q hq => ?_, fun q hq => ?_⟩
  · rw [nx_nO] at hq
    have z := w.2.1 q (by omega)
    have hne : q ≠ nx h := by omega
    exact ⟨by rw [kc_nO, if_neg hne]; exact z.1, (z.2.1), (z.2.2.1), (z.2.2.2.1), (z.2.2.2.2.1), (z.2.2.2.2.2.1), (z.2.2.2.2.2.2.1), z.2.2.2.2.2.2.2.1, z.2.2.2.2.2.2.2.2.1, z.2.2.2.2.2.2.2.2.2.1, z.2.2.2.2.2.2.2.2.2.2⟩
  · have hne : q ≠ nx h := by have := w.1; omega
    exact ⟨by rw [kc_nO, if_neg hne]; exact (w.2.2 q hq).1, (w.2.2 q hq).2.1, (w.2.2 q hq).2.2⟩
theorem St.nO {K X : List Nat} {a b : Nat} {h h1 : HP} (s : St K X a h h1) {k n : Nat} (h2 : 1 ≤ b) (h3 : n ≤ 97 * b) : St K X (a + b) h (nO h1 k n) := by
  refine ⟨s.1.nO, ?_, ?_, ?_, fun q hq => ?_⟩
  · have := s.2.1; rw [nx_nO]; omega
  · have := s.2.2.1; rw [cc_nO]; omega
  · have := s.2.2.2.1; rw [cs_nO]; omega
  have hne : q ≠ nx h1 := s.1.ne (s.2.2.2.2 q hq).1 hq
  refine ⟨by rw [kc_nO, if_neg hne]; exact (s.2.2.2.2 q hq).1, (s.2.2.2.2 q hq).2.1, fun hK hX => ?_⟩
  obtain ⟨e1, e2, e3, e4, e5, e6, e7, e8, e9⟩ := (s.2.2.2.2 q hq).2.2 hK hX
  exact ⟨e1, e2, e3, e4, e5, e6, e7, e8, e9⟩
theorem kc_nO_o {h : HP} (w : WG h) {k n : Nat} {p c : Nat} (hp : kc h p = c) (hc : c ≠ 0) : kc (nO h k n) p = c := by rw [kc_nO, if_neg (w.ne hp hc)]; exact hp
theorem kc_nO_n {h : HP} {k n : Nat} : kc (nO h k n) (nx h) = k := by rw [kc_nO, if_pos rfl]
theorem St.nO_new {K X : List Nat} {a : Nat} {h h1 : HP} (s : St K X a h h1) : kc h (nx h1) = 0 := Classical.byContradiction fun q => q ((s.2.2.2.2 _ q).1.symm.trans s.1.new)
theorem WG.nA {h : HP} (w : WG h) {k n : Nat} : WG (nA h k n) := by
  refine ⟨Nat.le_succ_of_le w.1, fun q hq => ?_, fun q hq => ?_⟩
  · rw [nx_nA] at hq
    have z := w.2.1 q (by omega)
    have hne : q ≠ nx h := by omega
    exact ⟨by rw [kc_nA, if_neg hne]; exact z.1, (z.2.1), (z.2.2.1), (z.2.2.2.1), (z.2.2.2.2.1), (z.2.2.2.2.2.1), (z.2.2.2.2.2.2.1), z.2.2.2.2.2.2.2.1, z.2.2.2.2.2.2.2.2.1, z.2.2.2.2.2.2.2.2.2.1, (by rw [xl_nA, if_neg hne]; exact z.2.2.2.2.2.2.2.2.2.2)⟩
  · have hne : q ≠ nx h := by have := w.1; omega
    exact ⟨by rw [kc_nA, if_neg hne]; exact (w.2.2 q hq).1, (w.2.2 q hq).2.1, (w.2.2 q hq).2.2⟩
theorem St.nA {K X : List Nat} {a b : Nat} {h h1 : HP} (s : St K X a h h1) {k n : Nat} (h2 : 1 ≤ b) (h3 : n ≤ 97 * b) : St K X (a + b) h (nA h1 k n) := by
  refine ⟨s.1.nA, ?_, ?_, ?_, fun q hq => ?_⟩
  · have := s.2.1; rw [nx_nA]; omega
  · have := s.2.2.1; rw [cc_nA]; omega
  · have := s.2.2.2.1; rw [cs_nA]; omega
  have hne : q ≠ nx h1 := s.1.ne (s.2.2.2.2 q hq).1 hq
  refine ⟨by rw [kc_nA, if_neg hne]; exact (s.2.2.2.2 q hq).1, (by rw [xl_nA, if_neg hne]; exact (s.2.2.2.2 q hq).2.1), fun hK hX => ?_⟩
  obtain ⟨e1, e2, e3, e4, e5, e6, e7, e8, e9⟩ := (s.2.2.2.2 q hq).2.2 hK hX
  exact ⟨e1, e2, e3, e4, e5, e6, e7, e8, e9⟩
theorem kc_nA_o {h : HP} (w : WG h) {k n : Nat} {p c : Nat} (hp : kc h p = c) (hc : c ≠ 0) : kc (nA h k n) p = c := by rw [kc_nA, if_neg (w.ne hp hc)]; exact hp
theorem kc_nA_n {h : HP} {k n : Nat} : kc (nA h k n) (nx h) = k := by rw [kc_nA, if_pos rfl]
theorem St.nA_new {K X : List Nat} {a : Nat} {h h1 : HP} (s : St K X a h h1) : kc h (nx h1) = 0 := Classical.byContradiction fun q => q ((s.2.2.2.2 _ q).1.symm.trans s.1.new)
theorem WG.nC {h : HP} (w : WG h) {k n : Nat} : WG (nC h k n) := by
  refine ⟨Nat.le_succ_of_le w.1, fun q hq => ?_, fun q hq => ?_⟩
  · rw [nx_nC] at hq
    have z := w.2.1 q (by omega)
    have hne : q ≠ nx h := by omega
    exact ⟨by rw [kc_nC, if_neg hne]; exact z.1, (z.2.1), (z.2.2.1), (z.2.2.2.1), (z.2.2.2.2.1), (z.2.2.2.2.2.1), (z.2.2.2.2.2.2.1), z.2.2.2.2.2.2.2.1, z.2.2.2.2.2.2.2.2.1, (by rw [cp_nC, if_neg hne]; exact z.2.2.2.2.2.2.2.2.2.1), z.2.2.2.2.2.2.2.2.2.2⟩
  · have hne : q ≠ nx h := by have := w.1; omega
    exact ⟨by rw [kc_nC, if_neg hne]; exact (w.2.2 q hq).1, (w.2.2 q hq).2.1, (w.2.2 q hq).2.2⟩
theorem St.nC {K X : List Nat} {a b : Nat} {h h1 : HP} (s : St K X a h h1) {k n : Nat} (h2 : 1 ≤ b) (h3 : n ≤ 97 * b) : St K X (a + b) h (nC h1 k n) := by
  refine ⟨s.1.nC, ?_, ?_, ?_, fun q hq => ?_⟩
  · have := s.2.1; rw [nx_nC]; omega
  · have := s.2.2.1; rw [cc_nC]; omega
  · have := s.2.2.2.1; rw [cs_nC]; omega
  have hne : q ≠ nx h1 := s.1.ne (s.2.2.2.2 q hq).1 hq
  refine ⟨by rw [kc_nC, if_neg hne]; exact (s.2.2.2.2 q hq).1, (s.2.2.2.2 q hq).2.1, fun hK hX => ?_⟩
  obtain ⟨e1, e2, e3, e4, e5, e6, e7, e8, e9⟩ := (s.2.2.2.2 q hq).2.2 hK hX
  exact ⟨e1, e2, e3, e4, e5, e6, e7, e8, (by rw [cp_nC, if_neg hne]; exact e9)⟩
theorem kc_nC_o {h : HP} (w : WG h) {k n : Nat} {p c : Nat} (hp : kc h p = c) (hc : c ≠ 0) : kc (nC h k n) p = c := by rw [kc_nC, if_neg (w.ne hp hc)]; exact hp
theorem kc_nC_n {h : HP} {k n : Nat} : kc (nC h k n) (nx h) = k := by rw [kc_nC, if_pos rfl]
theorem St.nC_new {K X : List Nat} {a : Nat} {h h1 : HP} (s : St K X a h h1) : kc h (nx h1) = 0 := Classical.byContradiction fun q => q ((s.2.2.2.2 _ q).1.symm.trans s.1.new)
theorem WG.nS {h : HP} (w : WG h) {l : List Nat} : WG (nS h l) := by
  refine ⟨Nat.le_succ_of_le w.1, fun q hq => ?_, fun q hq => ?_⟩
  · rw [nx_nS] at hq
    have z := w.2.1 q (by omega)
    have hne : q ≠ nx h := by omega
    exact ⟨by rw [kc_nS, if_neg hne]; exact z.1, (z.2.1), (z.2.2.1), (z.2.2.2.1), (z.2.2.2.2.1), (z.2.2.2.2.2.1), (z.2.2.2.2.2.2.1), z.2.2.2.2.2.2.2.1, (by rw [tx_nS, if_neg hne]; exact z.2.2.2.2.2.2.2.2.1), z.2.2.2.2.2.2.2.2.2.1, z.2.2.2.2.2.2.2.2.2.2⟩
  · have hne : q ≠ nx h := by have := w.1; omega
    exact ⟨by rw [kc_nS, if_neg hne]; exact (w.2.2 q hq).1, (by rw [tx_nS, if_neg hne]; exact (w.2.2 q hq).2.1), (w.2.2 q hq).2.2⟩
theorem St.nS {K X : List Nat} {a b : Nat} {h h1 : HP} (s : St K X a h h1) {l : List Nat} (h2 : 2 ≤ b) (h3 : 4 + l.length ≤ 97 * b) : St K X (a + b) h (nS h1 l) := by
  refine ⟨s.1.nS, ?_, ?_, ?_, fun q hq => ?_⟩
  · have := s.2.1; rw [nx_nS]; omega
  · have := s.2.2.1; rw [cc_nS]; omega
  · have := s.2.2.2.1; rw [cs_nS]; omega
  have hne : q ≠ nx h1 := s.1.ne (s.2.2.2.2 q hq).1 hq
  refine ⟨by rw [kc_nS, if_neg hne]; exact (s.2.2.2.2 q hq).1, (s.2.2.2.2 q hq).2.1, fun hK hX => ?_⟩
  obtain ⟨e1, e2, e3, e4, e5, e6, e7, e8, e9⟩ := (s.2.2.2.2 q hq).2.2 hK hX
  exact ⟨e1, e2, e3, e4, e5, e6, e7, (by rw [tx_nS, if_neg hne]; exact e8), e9⟩
theorem kc_nS_o {h : HP} (w : WG h) {l : List Nat} {p c : Nat} (hp : kc h p = c) (hc : c ≠ 0) : kc (nS h l) p = c := by rw [kc_nS, if_neg (w.ne hp hc)]; exact hp
theorem kc_nS_n {h : HP} {l : List Nat} : kc (nS h l) (nx h) = 71 := by rw [kc_nS, if_pos rfl]
theorem St.nS_new {K X : List Nat} {a : Nat} {h h1 : HP} (s : St K X a h h1) : kc h (nx h1) = 0 := Classical.byContradiction fun q => q ((s.2.2.2.2 _ q).1.symm.trans s.1.new)
theorem WG.nI3 {h : HP} (w : WG h) {v : Int32} : WG (nI3 h v) := by
  refine ⟨Nat.le_succ_of_le w.1, fun q hq => ?_, fun q hq => ?_⟩
  · rw [nx_nI3] at hq
    have z := w.2.1 q (by omega)
    have hne : q ≠ nx h := by omega
    exact ⟨by rw [kc_nI3, if_neg hne]; exact z.1, (fun g => by rw [fi_nI3, if_neg (fun y => hne y.2)]; exact (z.2.1) g), (z.2.2.1), (z.2.2.2.1), (z.2.2.2.2.1), (z.2.2.2.2.2.1), (z.2.2.2.2.2.2.1), z.2.2.2.2.2.2.2.1, z.2.2.2.2.2.2.2.2.1, z.2.2.2.2.2.2.2.2.2.1, z.2.2.2.2.2.2.2.2.2.2⟩
  · have hne : q ≠ nx h := by have := w.1; omega
    exact ⟨by rw [kc_nI3, if_neg hne]; exact (w.2.2 q hq).1, (w.2.2 q hq).2.1, (fun g => by rw [fi_nI3, if_neg (fun y => hne y.2)]; exact (w.2.2 q hq).2.2 g)⟩
theorem St.nI3 {K X : List Nat} {a b : Nat} {h h1 : HP} (s : St K X a h h1) {v : Int32} (h2 : 1 ≤ b) (h3 : 1 ≤ 97 * b) : St K X (a + b) h (nI3 h1 v) := by
  refine ⟨s.1.nI3, ?_, ?_, ?_, fun q hq => ?_⟩
  · have := s.2.1; rw [nx_nI3]; omega
  · have := s.2.2.1; rw [cc_nI3]; omega
  · have := s.2.2.2.1; rw [cs_nI3]; omega
  have hne : q ≠ nx h1 := s.1.ne (s.2.2.2.2 q hq).1 hq
  refine ⟨by rw [kc_nI3, if_neg hne]; exact (s.2.2.2.2 q hq).1, (s.2.2.2.2 q hq).2.1, fun hK hX => ?_⟩
  obtain ⟨e1, e2, e3, e4, e5, e6, e7, e8, e9⟩ := (s.2.2.2.2 q hq).2.2 hK hX
  exact ⟨(fun g => by rw [fi_nI3, if_neg (fun y => hne y.2)]; exact e1 g), e2, e3, e4, e5, e6, e7, e8, e9⟩
theorem kc_nI3_o {h : HP} (w : WG h) {v : Int32} {p c : Nat} (hp : kc h p = c) (hc : c ≠ 0) : kc (nI3 h v) p = c := by rw [kc_nI3, if_neg (w.ne hp hc)]; exact hp
theorem kc_nI3_n {h : HP} {v : Int32} : kc (nI3 h v) (nx h) = 73 := by rw [kc_nI3, if_pos rfl]
theorem St.nI3_new {K X : List Nat} {a : Nat} {h h1 : HP} (s : St K X a h h1) : kc h (nx h1) = 0 := Classical.byContradiction fun q => q ((s.2.2.2.2 _ q).1.symm.trans s.1.new)
theorem St.new {K X : List Nat} {a : Nat} {h h1 : HP} (s : St K X a h h1) : kc h (nx h1) = 0 := Classical.byContradiction fun q => q ((s.2.2.2.2 _ q).1.symm.trans s.1.new)
theorem ldI_e {β : Type} {c f p : Nat} {h : HP} {K : Int32 → Rs β} (hk : kc h p = c) : ldI c f p h K = K (fi h f p) := if_pos hk
theorem ldJ_e {β : Type} {c f p : Nat} {h : HP} {K : Int64 → Rs β} (hk : kc h p = c) : ldJ c f p h K = K (fj h f p) := if_pos hk
theorem ldR_e {β : Type} {c f p : Nat} {h : HP} {K : Nat → Rs β} (hk : kc h p = c) : ldR c f p h K = K (fr h f p) := if_pos hk
theorem stI_e {β : Type} {c f p : Nat} {v : Int32} {h : HP} {K : HP → Rs β} (hk : kc h p = c) : stI c f p v h K = K (sI h f p v) := if_pos hk
theorem stJ_e {β : Type} {c f p : Nat} {v : Int64} {h : HP} {K : HP → Rs β} (hk : kc h p = c) : stJ c f p v h K = K (sJ h f p v) := if_pos hk
theorem stR_e {β : Type} {c f p : Nat} {v : Nat} {h : HP} {K : HP → Rs β} (hk : kc h p = c) : stR c f p v h K = K (sR h f p v) := if_pos hk
theorem ldMI_e {β : Type} {c : List Nat} {f p : Nat} {h : HP} {K : Int32 → Rs β} (hk : kc h p ∈ c) : ldMI c f p h K = K (fi h f p) := if_pos hk
theorem ldMR_e {β : Type} {c : List Nat} {f p : Nat} {h : HP} {K : Nat → Rs β} (hk : kc h p ∈ c) : ldMR c f p h K = K (fr h f p) := if_pos hk
theorem stMI_e {β : Type} {c : List Nat} {f p : Nat} {v : Int32} {h : HP} {K : HP → Rs β} (hk : kc h p ∈ c) : stMI c f p v h K = K (sI h f p v) := if_pos hk
theorem stMR_e {β : Type} {c : List Nat} {f p : Nat} {v : Nat} {h : HP} {K : HP → Rs β} (hk : kc h p ∈ c) : stMR c f p v h K = K (sR h f p v) := if_pos hk
theorem alen_e {β : Type} {p : Nat} {h : HP} {K : Int32 → Rs β} (hk : tiK (kc h p) < 17) : alen p h K = K (Int32.ofNat (xl h p)) := if_pos hk
theorem aldI_e {β : Type} {ti p : Nat} {i : Int32} {h : HP} {K : Int32 → Rs β} (hk : tiK (kc h p) = ti ∧ inA i (xl h p)) : aldI ti p i h K = K (xi h p i.toNatClampNeg) := if_pos hk
theorem aldJ_e {β : Type} {ti p : Nat} {i : Int32} {h : HP} {K : Int64 → Rs β} (hk : tiK (kc h p) = ti ∧ inA i (xl h p)) : aldJ ti p i h K = K (xj h p i.toNatClampNeg) := if_pos hk
theorem aldR_e {β : Type} {ti p : Nat} {i : Int32} {h : HP} {K : Nat → Rs β} (hk : tiK (kc h p) = ti ∧ inA i (xl h p)) : aldR ti p i h K = K (xr h p i.toNatClampNeg) := if_pos hk
theorem astI_e {β : Type} {ti p : Nat} {i v : Int32} {h : HP} {K : HP → Rs β} (hk : tiK (kc h p) = ti ∧ inA i (xl h p)) : astI ti p i v h K = K (sXi h p i.toNatClampNeg v) := if_pos hk
theorem astJ_e {β : Type} {ti p : Nat} {i : Int32} {v : Int64} {h : HP} {K : HP → Rs β} (hk : tiK (kc h p) = ti ∧ inA i (xl h p)) : astJ ti p i v h K = K (sXj h p i.toNatClampNeg v) := if_pos hk
theorem lsSize_e {β : Type} {p : Nat} {h : HP} {K : Int32 → Rs β} (hk : lsK h p) : lsSize p h K = K (nI (ls h p).length) := if_pos hk
theorem lsGet_e {β : Type} {p : Nat} {i : Int32} {h : HP} {K : Nat → Rs β} (hk : lsK h p ∧ inA i (ls h p).length) : lsGet p i h K = K ((ls h p).getD i.toNatClampNeg 0) := if_pos hk
theorem txLen_e {β : Type} {p : Nat} {h : HP} {K : Int32 → Rs β} (hk : kc h p = 71) : txLen p h K = K (nI (tx h p).length) := if_pos hk
theorem txAt_e {β : Type} {p : Nat} {i : Int32} {h : HP} {K : Int32 → Rs β} (hk : kc h p = 71 ∧ inA i (tx h p).length) : txAt p i h K = K (nI ((tx h p).getD i.toNatClampNeg 0)) := if_pos hk
theorem txEq_e {β : Type} {p r : Nat} {h : HP} {K : Int32 → Rs β} (hk : kc h p = 71 ∧ kc h r = 71) : txEq p r h K = K (if tx h p = tx h r then 1 else 0) := if_pos hk
theorem inA_nI {j n : Nat} (h : j < n) (hn : n < 2 ^ 31) : inA (nI j) n := vp_in_nI h hn
theorem NN_ge {k : Nat} (h : k ≤ 4611686018427387904) : k ≤ NN := h
