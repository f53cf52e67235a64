/-! PHASE B settle 23: the component: all kinds, arrays too -/
set_option maxRecDepth 100000
variable {F K : List Nat} {c : Nat} {h h' h0 : HP} {e : EE} {kx ax : Nat → Nat} {ds : List DC} {C DL kl : Nat} {AR : AT} {D : List (List Nat)}
/-- descriptors -/
def dsz (ds : List DC) (D : List (List Nat)) (q : Nat) : List Nat := if q < 10 + ds.length then dsc ds q else D.getD (q - (10 + ds.length)) []
/-- the kinds of arrays -/
def ArK (h : HP) (ds : List DC) (kx : Nat → Nat) (AR : AT) (D : List (List Nat)) (i : Nat) : Prop :=
  kc h (kx (10 + ds.length + i)) = 4 ∧ fi h 31 (kx (10 + ds.length + i)) = nI (10 + ds.length + i) ∧ fr h 32 (kx (10 + ds.length + i)) = 907 ∧ fr h 33 (kx (10 + ds.length + i)) = 1 ∧ fr h 34 (kx (10 + ds.length + i)) = kx (AR.getD i (0, 0)).1 ∧ fi h 35 (kx (10 + ds.length + i)) = nI (AR.getD i (0, 0)).2 ∧
  StrX h (fr h 36 (kx (10 + ds.length + i))) (D.getD i []) ∧ D.getD i [] = 91 :: dsz ds D (AR.getD i (0, 0)).1 ∧ (D.getD i []).length ≤ 110 + (AR.getD i (0, 0)).2
def ArX (h : HP) (ds : List DC) (kx : Nat → Nat) (AR : AT) (D : List (List Nat)) : Prop := D.length = AR.length ∧ ∀ i, i < AR.length → ArK h ds kx AR D i
/-- each kind's kind of arrays -/
def LkX (h : HP) (kx : Nat → Nat) (n : Nat) (AR : AT) : Prop := ∀ q, q < 10 + n + AR.length → fr h 37 (kx q) = kxo kx (lkN n AR q)
/-- the kinds' lists -/
def KKx (h : HP) (kx : Nat → Nat) (m : Nat) : Prop := ∀ j, j < m → kc h (kx j) = 4 ∧ kc h (fr h 41 (kx j)) = 104 ∧ kc h (fr h 43 (kx j)) = 103 ∧ kc h (fr h 44 (kx j)) = 102 ∧ kc h (fr h 45 (kx j)) = 101
def InX (h : HP) (kx : Nat → Nat) (m : Nat) : Prop := ∀ f ∈ [41, 43, 44, 45], ∀ i j, i < m → j < m → fr h f (kx i) = fr h f (kx j) → i = j
/-- what stands in a list of each kind -/
def LE (h : HP) (f : Nat) (kx : Nat → Nat) (m : Nat) (la : Nat → List Nat) : Prop := ∀ j, j < m → ls h (fr h f (kx j)) = la j ∧ cp h (fr h f (kx j)) ≠ RAW
/-- kinds with nothing above -/
def EX (h : HP) (kx : Nat → Nat) (n m : Nat) : Prop := ∀ q, q < m → (q < 10 ∨ 10 + n ≤ q) → kc h (fr h 42 (kx q)) = 242 ∧ xl h (fr h 42 (kx q)) = 0
theorem KKx_ef {m : Nat} (u : Ef F K c h h') (s : Sx F K) (x : KKx h kx m) : KKx h' kx m := fun j hj => by
  obtain ⟨a, b, d, f, g⟩ := x j hj
  exact ⟨u.kk a (by decide), by rw [u.gr a (by decide) (s.1 41 (by decide))]; exact u.kk b (by decide), by rw [u.gr a (by decide) (s.1 43 (by decide))]; exact u.kk d (by decide), by rw [u.gr a (by decide) (s.1 44 (by decide))]; exact u.kk f (by decide), by rw [u.gr a (by decide) (s.1 45 (by decide))]; exact u.kk g (by decide)⟩
theorem InX_ef {m : Nat} (u : Ef F K c h h') (s : Sx F K) (k : KKx h kx m) (x : InX h kx m) : InX h' kx m := fun f hf i j hi hj => by
  have hs : f ∉ F := s.1 f (by simp only [List.mem_cons, List.not_mem_nil, or_false] at hf; rcases hf with z | z | z | z <;> rw [z] <;> decide)
  rw [u.gr (k i hi).1 (by decide) hs, u.gr (k j hj).1 (by decide) hs]
  exact x f hf i j hi hj
theorem ArX_ef (u : Ef F K c h h') (s : Sx F K) (x : ArX h ds kx AR D) : ArX h' ds kx AR D := ⟨x.1, fun i hi => by
  obtain ⟨a, b1, b2, b3, b4, b5, b6, b7, b8⟩ := x.2 i hi
  exact ⟨u.kk a (by decide), (u.gi a (by decide) (s.1 31 (by decide))).trans b1, (u.gr a (by decide) (s.1 32 (by decide))).trans b2, (u.gr a (by decide) (s.1 33 (by decide))).trans b3, (u.gr a (by decide) (s.1 34 (by decide))).trans b4, (u.gi a (by decide) (s.1 35 (by decide))).trans b5, by rw [u.gr a (by decide) (s.1 36 (by decide))]; exact StrX_ef u s b6, b7, b8⟩⟩
theorem LkX_ef {n : Nat} (u : Ef F K c h h') (h1 : 37 ∉ F) (k : KKx h kx (10 + n + AR.length)) (x : LkX h kx n AR) : LkX h' kx n AR := fun q hq => (u.gr (k q hq).1 (by decide) h1).trans (x q hq)
theorem LE_ef {f k m : Nat} {la : Nat → List Nat} (u : Ef F K c h h') (hf : f ∉ F) (hk : k ∉ K) (h0 : k ≠ 0) (kk : ∀ j, j < m → kc h (kx j) = 4 ∧ kc h (fr h f (kx j)) = k) (x : LE h f kx m la) : LE h' f kx m la := fun j hj => by
  obtain ⟨a, b⟩ := kk j hj
  have g := u.gr a (by decide) hf
  exact ⟨by rw [g, u.gl b h0 hk]; exact (x j hj).1, by rw [g, u.gc b h0 hk]; exact (x j hj).2⟩
theorem EX_ef {n m : Nat} (u : Ef F K c h h') (h1 : 42 ∉ F) (k : KKx h kx m) (x : EX h kx n m) : EX h' kx n m := fun q hq z => by
  obtain ⟨a, b⟩ := x q hq z
  have g := u.gr (k q hq).1 (by decide) h1
  exact ⟨by rw [g]; exact u.kk a (by decide), by rw [g]; exact (u.gx a (by decide)).trans b⟩
/-- parents -/
def PE (h : HP) (kx : Nat → Nat) (m : Nat) (pa : Nat → Option Nat) : Prop := ∀ j, j < m → fr h 40 (kx j) = kxo kx (pa j)
theorem PE_ef {m : Nat} {pa : Nat → Option Nat} (u : Ef F K c h h') (h1 : 40 ∉ F) (k : KKx h kx m) (x : PE h kx m pa) : PE h' kx m pa := fun j hj => (u.gr (k j hj).1 (by decide) h1).trans (x j hj)
/-- all of it -/
def XK (e : EE) (h : HP) (C DL kl : Nat) (kx ax : Nat → Nat) (ds : List DC) (AR : AT) (D : List (List Nat)) : Prop :=
  SX e h C DL kx ax ds ∧ TbX h C kl kx (ds.length + AR.length) [] ∧ okA ds.length AR ∧ ArX h ds kx AR D ∧ LkX h kx ds.length AR ∧ (KKx h kx (10 + ds.length + AR.length) ∧ InX h kx (10 + ds.length + AR.length)) ∧
  PE h kx (10 + ds.length + AR.length) (paF ds ds.length) ∧ LE h 41 kx (10 + ds.length + AR.length) (fun j => (faF ds ds.length j).map kx) ∧ LE h 43 kx (10 + ds.length + AR.length) (fun j => (laF ds ds.length j).map kx) ∧
  EX h kx ds.length (10 + ds.length + AR.length) ∧ AX h kx ds.length ds.length (Wn ds)
/-- what may not change -/
def Xx (F K : List Nat) : Prop := Sx F K ∧ (∀ f ∈ [37, 40, 42], f ∉ F) ∧ ∀ k ∈ [103, 104, 120, 282], k ∉ K
theorem XK_ef (u : Ef F K c h h') (s : Xx F K) (x : XK e h C DL kl kx ax ds AR D) : XK e h' C DL kl kx ax ds AR D := by
  obtain ⟨x1, x2, x3, x4, x5, ⟨x6, x7⟩, x8, x9, x10, x11, x12⟩ := x
  exact ⟨SX_ef u s.1 x1, TbX_ef u s.1 (s.2.2 _ (by decide)) x2, x3, ArX_ef u s.1 x4, LkX_ef u (s.2.1 _ (by decide)) x6 x5, ⟨KKx_ef u s.1 x6, InX_ef u s.1 x6 x7⟩, PE_ef u (s.2.1 _ (by decide)) x6 x8, LE_ef u (s.1.1 41 (by decide)) (s.2.2 104 (by decide)) (by decide) (fun j hj => ⟨(x6 j hj).1, (x6 j hj).2.1⟩) x9, LE_ef u (s.1.1 43 (by decide)) (s.2.2 103 (by decide)) (by decide) (fun j hj => ⟨(x6 j hj).1, (x6 j hj).2.2.1⟩) x10, EX_ef u (s.2.1 _ (by decide)) x6 x11, AX_ef u (fun k hk => x1.k4 hk) (s.2.1 _ (by decide)) (s.2.2 _ (by decide)) x12⟩
theorem SX_cg {kx' : Nat → Nat} (hx : ∀ k, k < 10 + ds.length → kx k = kx' k) (x : SX e h C DL kx ax ds) : SX e h C DL kx' ax ds := by
  obtain ⟨w, a, b, o, k1, k2, k3, kC⟩ := x
  refine ⟨w, a, b, o, fun k hk => by rw [← hx k hk]; exact k1 k hk, fun k hk => by rw [← hx (10 + k) (by omega)]; exact k2 k hk, fun f hf i j hi hj => ?_, kC⟩
  rw [← hx i hi, ← hx j hj]
  exact k3 f hf i j hi hj
theorem range_ad (a b : Nat) (f : Nat → Nat) : (List.range (a + b)).map f = (List.range a).map f ++ (List.range b).map (fun i => f (a + i)) := by
  induction b with
  | zero => simp
  | succ b ih =>
    rw [show a + (b + 1) = (a + b) + 1 from rfl, List.range_succ, List.range_succ, List.map_append, List.map_append, ih, List.append_assoc]
    rfl
/-- the table, with arrays apart -/
theorem XK.tb (x : XK e h C DL kl kx ax ds AR D) : TbX h C kl kx ds.length ((List.range AR.length).map fun i => kx (10 + ds.length + i)) := by
  obtain ⟨x1, x2, x3, x4, _⟩ := x
  obtain ⟨a1, a2, a3, a4, a5, a6, a7⟩ := x2
  refine ⟨a1, a2, a3, a4, ?_, by rw [List.length_map, List.length_range]; have := x3.1; omega, fun a ha => ?_⟩
  · rw [a5, List.append_nil, ← Nat.add_assoc, range_ad]
  · obtain ⟨i, hi, rfl⟩ := List.mem_map.mp ha
    have := x4.2 i (List.mem_range.mp hi)
    exact ⟨this.1, this.2.2.1⟩
theorem XK.named {s : Nat} {nm : List Nat} (x : XK e h C DL kl kx ax ds AR D) (hs : StrX h s nm) : f_X2_named C s h = rok (kxo kx (kno ds nm)) h := named_e x.1 x.tb hs
theorem XK.nz {q : Nat} (x : XK e h C DL kl kx ax ds AR D) (hq : q < 10 + ds.length + AR.length) : kx q ≠ 0 := fun z => by
  have := x.1.1.ge (x.2.2.2.2.2.1.1 q hq).1 (by decide)
  omega
theorem XK.n31 {q : Nat} (x : XK e h C DL kl kx ax ds AR D) (hq : q < 10 + ds.length + AR.length) : fi h 31 (kx q) = nI q := by
  by_cases z : q < 10 + ds.length
  · exact (x.1.kk z).2.1
  · obtain ⟨i, rfl⟩ : ∃ i, q = 10 + ds.length + i := ⟨q - (10 + ds.length), by omega⟩
    exact (x.2.2.2.1.2 i (by omega)).2.1
theorem XK.n35 {q : Nat} (x : XK e h C DL kl kx ax ds AR D) (hq : q < 10 + ds.length + AR.length) : fi h 35 (kx q) = nI (dep ds.length AR q) := by
  unfold dep
  by_cases z : q < 10 + ds.length
  · rw [if_pos z]
    have k := x.1.kk z
    exact k.2.2.2.2.2.1
  · rw [if_neg z]
    obtain ⟨i, rfl⟩ : ∃ i, q = 10 + ds.length + i := ⟨q - (10 + ds.length), by omega⟩
    rw [show 10 + ds.length + i - (10 + ds.length) = i by omega]
    exact (x.2.2.2.1.2 i (by omega)).2.2.2.2.2.1
theorem XK.s36 {q : Nat} (x : XK e h C DL kl kx ax ds AR D) (hq : q < 10 + ds.length + AR.length) : StrX h (fr h 36 (kx q)) (dsz ds D q) := by
  unfold dsz
  by_cases z : q < 10 + ds.length
  · rw [if_pos z]
    have k := x.1.kk z
    exact k.2.2.2.2.2.2.1
  · rw [if_neg z]
    obtain ⟨i, rfl⟩ : ∃ i, q = 10 + ds.length + i := ⟨q - (10 + ds.length), by omega⟩
    rw [show 10 + ds.length + i - (10 + ds.length) = i by omega]
    exact (x.2.2.2.1.2 i (by omega)).2.2.2.2.2.2.1
