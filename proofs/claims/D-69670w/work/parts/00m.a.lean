/-! PHASE B settle 1: told plainly; the rule of loops -/
set_option maxRecDepth 100000
/-- the first that is wrong -/
def frs (f : Nat → Option Nat) : Nat → Option Nat
  | 0 => none
  | n + 1 => match frs f n with
    | some p => some p
    | none => f n
theorem frs_s {f : Nat → Option Nat} {n : Nat} (h : frs f n = none) : frs f (n + 1) = f n := by
  show (match frs f n with | some p => some p | none => f n) = f n
  rw [h]
theorem frs_p {f : Nat → Option Nat} {n p : Nat} (h : frs f n = some p) : frs f (n + 1) = some p := by
  show (match frs f n with | some p => some p | none => f n) = some p
  rw [h]
theorem frs_up {f : Nat → Option Nat} {n p : Nat} (h : frs f n = some p) (k : Nat) : frs f (n + k) = some p := by
  induction k with
  | zero => exact h
  | succ k ih => exact frs_p ih
theorem frs_at {f : Nat → Option Nat} {i n p : Nat} (h : frs f i = none) (hf : f i = some p) (hi : i < n) : frs f n = some p := by
  have h1 : frs f (i + 1) = some p := (frs_s h).trans hf
  have := frs_up h1 (n - (i + 1))
  rwa [show i + 1 + (n - (i + 1)) = n by omega] at this
theorem frs_no {f : Nat → Option Nat} {n : Nat} (h : frs f n = none) : ∀ i, i < n → f i = none := by
  induction n with
  | zero => intro i hi; omega
  | succ n ih =>
    intro i hi
    cases h2 : frs f n with
    | some p => rw [frs_p h2] at h; cases h
    | none =>
      by_cases c : i < n
      · exact ih h2 i c
      · have : i = n := by omega
        rw [this, ← frs_s h2]; exact h
theorem frs_nn {f : Nat → Option Nat} {n : Nat} (h : ∀ i, i < n → f i = none) : frs f n = none := by
  induction n with
  | zero => rfl
  | succ n ih => rw [frs_s (ih fun i hi => h i (by omega))]; exact h n (by omega)
theorem frs_cg {f g : Nat → Option Nat} {n : Nat} (h : ∀ i, i < n → f i = g i) : frs f n = frs g n := by
  induction n with
  | zero => rfl
  | succ n ih =>
    show (match frs f n with | some p => some p | none => f n) = (match frs g n with | some p => some p | none => g n)
    rw [ih fun i hi => h i (by omega), h n (by omega)]
/-- first one, then the other -/
def thn (a b : Option Nat) : Option Nat := match a with
  | some p => some p
  | none => b
theorem thn_n {b : Option Nat} : thn none b = b := rfl
theorem thn_s {b : Option Nat} {p : Nat} : thn (some p) b = some p := rfl
/-- a loop over numbers -/
theorem loop_gen {α : Type} {F : Nat → Int32 → HP → Rs α} {n : Nat} (Inv : Nat → HP → Prop) (Out : Rs α → Prop)
    (step : ∀ N i h, i < n → Inv i h → (∀ h', Inv (i + 1) h' → Out (F N (nI (i + 1)) h')) → Out (F (N + 1) (nI i) h))
    (stop : ∀ N h, Inv n h → Out (F (N + 1) (nI n) h)) (m : Nat) : ∀ i h N, n - i < m → m ≤ N → i ≤ n → Inv i h → Out (F N (nI i) h) := by
  induction m with
  | zero => intro i h N z; omega
  | succ m ih =>
    intro i h N h1 h2 h3 h4
    obtain ⟨N, rfl⟩ : ∃ k, N = k + 1 := ⟨N - 1, by omega⟩
    by_cases c : i < n
    · exact step N i h c h4 fun h' h5 => ih (i + 1) h' N (by omega) (by omega) (by omega) h5
    · have : i = n := by omega
      subst this
      exact stop N h h4
theorem loop_NN {α : Type} {F : Nat → Int32 → HP → Rs α} {n : Nat} (hn : n ≤ 100000) (Inv : Nat → HP → Prop) (Out : Rs α → Prop)
    (step : ∀ N i h, i < n → Inv i h → (∀ h', Inv (i + 1) h' → Out (F N (nI (i + 1)) h')) → Out (F (N + 1) (nI i) h))
    (stop : ∀ N h, Inv n h → Out (F (N + 1) (nI n) h)) {i : Nat} {h : HP} (hi : i ≤ n) (h4 : Inv i h) : Out (F NN (nI i) h) :=
  loop_gen Inv Out step stop (n + 1) i h NN (by omega) (Nat.le_trans (by omega) (NN_ge (k := 100001) (by omega))) hi h4
/-- where a name stands in a row of names -/
def fnd : List (List Nat) → List Nat → Option Nat
  | [], _ => none
  | x :: l, s => if x = s then some 0 else (fnd l s).map (· + 1)
theorem fnd_some {l : List (List Nat)} {s : List Nat} : ∀ {k : Nat}, fnd l s = some k → k < l.length ∧ l.getD k [] = s ∧ ∀ j, j < k → l.getD j [] ≠ s := by
  induction l with
  | nil => intro k h; cases h
  | cons x l ih =>
    intro k h
    unfold fnd at h
    by_cases c : x = s
    · rw [if_pos c] at h
      cases h
      exact ⟨by simp, c, fun j hj => by omega⟩
    · rw [if_neg c] at h
      cases h2 : fnd l s with
      | none => rw [h2] at h; cases h
      | some j =>
        rw [h2] at h
        cases h
        obtain ⟨a, b, d⟩ := ih h2
        refine ⟨by simp only [List.length_cons]; omega, b, fun i hi => ?_⟩
        cases i with
        | zero => exact c
        | succ i => exact d i (by have : i + 1 < j + 1 := hi; omega)
theorem fnd_none {l : List (List Nat)} {s : List Nat} : fnd l s = none → ∀ j, j < l.length → l.getD j [] ≠ s := by
  induction l with
  | nil => intro _ j hj; simp at hj
  | cons x l ih =>
    intro h j hj
    unfold fnd at h
    by_cases c : x = s
    · rw [if_pos c] at h; cases h
    · rw [if_neg c] at h
      cases h2 : fnd l s with
      | some k => rw [h2] at h; cases h
      | none =>
        cases j with
        | zero => exact c
        | succ j => exact ih h2 j (by simpa using hj)
theorem fnd_eq {l : List (List Nat)} {s : List Nat} {k : Nat} (h1 : k < l.length) (h2 : l.getD k [] = s) (h3 : ∀ j, j < k → l.getD j [] ≠ s) : fnd l s = some k := by
  cases h : fnd l s with
  | none => exact absurd h2 (fnd_none h k h1)
  | some j =>
    obtain ⟨a, b, d⟩ := fnd_some h
    by_cases c : j < k
    · exact absurd b (h3 j c)
    · by_cases c2 : k < j
      · exact absurd h2 (d k c2)
      · rw [show j = k by omega]
theorem fnd_nn {l : List (List Nat)} {s : List Nat} (h3 : ∀ j, j < l.length → l.getD j [] ≠ s) : fnd l s = none := by
  cases h : fnd l s with
  | none => rfl
  | some j =>
    obtain ⟨a, b, d⟩ := fnd_some h
    exact absurd b (h3 j a)
/-- the names of the plain kinds, of Object and Text, then the declared ones -/
def NB : List (List Nat) := PW ++ [codes "Object", codes "Text"]
def NT (ds : List DC) : List (List Nat) := NB ++ ds.map fun d => d.2.1.1
def kno (ds : List DC) (s : List Nat) : Option Nat := fnd (NT ds) s
def d0 : DC := (0, ([], 0), 0, none, [], [], [])
abbrev dc (ds : List DC) (k : Nat) : DC := ds.getD k d0
/-- a kind's sort by its number -/
def so (ds : List DC) (k : Nat) : Nat := if k < 8 then 0 else if k = 8 then 1 else if k = 9 then 2 else srt (dc ds (k - 10)).1
theorem NB_len : NB.length = 10 := by decide +kernel
theorem NT_len {ds : List DC} : (NT ds).length = 10 + ds.length := by unfold NT; rw [List.length_append, NB_len, List.length_map]
theorem NT_hi {ds : List DC} {k : Nat} (hk : k < ds.length) : (NT ds).getD (10 + k) [] = (dc ds k).2.1.1 := by
  unfold NT
  rw [List.getD_eq_getElem?_getD, List.getElem?_append_right (by rw [NB_len]; omega), NB_len, show 10 + k - 10 = k by omega, List.getElem?_map, List.getElem?_eq_getElem hk]
  show (ds[k]).2.1.1 = (ds.getD k d0).2.1.1
  rw [gE_in hk]
theorem NT_lo {ds : List DC} {k : Nat} (hk : k < 10) : (NT ds).getD k [] = NB.getD k [] := by
  unfold NT
  rw [List.getD_eq_getElem?_getD, List.getElem?_append_left (by rw [NB_len]; omega), ← List.getD_eq_getElem?_getD]
theorem kno_lt {ds : List DC} {s : List Nat} {k : Nat} (h : kno ds s = some k) : k < 10 + ds.length := by
  have := (fnd_some h).1
  rwa [NT_len] at this
theorem gE_map {α β : Type} {f : α → β} {l : List α} {k : Nat} {d : β} (e : α) (hk : k < l.length) : (l.map f).getD k d = f (l.getD k e) := by
  rw [List.getD_eq_getElem?_getD, List.getElem?_map, List.getElem?_eq_getElem hk, gE_in hk]; rfl
-- ---- names
/-- a name twice -/
def bad1 (ds : List DC) (k : Nat) : Option Nat := if kno ds (dc ds k).2.1.1 = some (10 + k) then none else some (dc ds k).2.1.2
-- ---- above
def exk (ds : List DC) (k : Nat) : Option Nat := match (dc ds k).2.2.2.1 with
  | none => none
  | some t => kno ds t.1
def par (ds : List DC) (k : Nat) : Option Nat := match exk ds k with
  | none => none
  | some p => if so ds p = 3 then some p else none
def badp (ds : List DC) (k : Nat) : Option Nat := match (dc ds k).2.2.2.1 with
  | none => none
  | some t => match kno ds t.1 with
    | none => some t.2
    | some p => if so ds p = 3 ∨ so ds p = 1 then none else some t.2
/-- the faces told of a kind -/
abbrev fcd (ds : List DC) (k : Nat) : List Td := (dc ds k).2.2.2.2.1
def fcn (ds : List DC) (k i : Nat) : Nat := (kno ds ((fcd ds k).getD i ([], 0)).1).getD 0
def fcs (ds : List DC) (k i : Nat) : List Nat := (List.range i).map (fcn ds k)
def badf (ds : List DC) (k i : Nat) : Option Nat := match kno ds ((fcd ds k).getD i ([], 0)).1 with
  | none => some ((fcd ds k).getD i ([], 0)).2
  | some p => if so ds p ≠ 4 ∨ p ∈ fcs ds k i then some ((fcd ds k).getD i ([], 0)).2 else none
def bad2 (ds : List DC) (k : Nat) : Option Nat := thn (badp ds k) (frs (badf ds k) (fcd ds k).length)
def fcl (ds : List DC) (k : Nat) : List Nat := fcs ds k (fcd ds k).length
/-- a loop over numbers with further state -/
theorem loop_st {σ α : Type} {G : Nat → σ → Rs α} {n : Nat} (Inv : Nat → σ → Prop) (Out : Rs α → Prop)
    (step : ∀ N i s, i < n → Inv i s → (∀ s', Inv (i + 1) s' → Out (G N s')) → Out (G (N + 1) s))
    (stop : ∀ N s, Inv n s → Out (G (N + 1) s)) (m : Nat) : ∀ i s N, n - i < m → m ≤ N → i ≤ n → Inv i s → Out (G N s) := by
  induction m with
  | zero => intro i s N z; omega
  | succ m ih =>
    intro i s N h1 h2 h3 h4
    obtain ⟨N, rfl⟩ : ∃ k, N = k + 1 := ⟨N - 1, by omega⟩
    by_cases c : i < n
    · exact step N i s c h4 fun s' h5 => ih (i + 1) s' N (by omega) (by omega) (by omega) h5
    · have : i = n := by omega
      subst this
      exact stop N s h4
theorem loop_SN {σ α : Type} {G : Nat → σ → Rs α} {n : Nat} (hn : n ≤ 100000) (Inv : Nat → σ → Prop) (Out : Rs α → Prop)
    (step : ∀ N i s, i < n → Inv i s → (∀ s', Inv (i + 1) s' → Out (G N s')) → Out (G (N + 1) s))
    (stop : ∀ N s, Inv n s → Out (G (N + 1) s)) {i : Nat} {s : σ} (hi : i ≤ n) (h4 : Inv i s) : Out (G NN s) :=
  loop_st Inv Out step stop (n + 1) i s NN (by omega) (Nat.le_trans (by omega) (NN_ge (k := 100001) (by omega))) hi h4
