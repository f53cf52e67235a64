/-! PHASE B settle 10: above all: told plainly -/
set_option maxRecDepth 100000
variable {ds : List DC}
/-- parents and faces of all -/
def paF (ds : List DC) (i j : Nat) : Option Nat := if 10 ≤ j ∧ j < 10 + i then par ds (j - 10) else none
def faF (ds : List DC) (i j : Nat) : List Nat := if 10 ≤ j ∧ j < 10 + i then fcl ds (j - 10) else []
theorem paF_s (i : Nat) : ∀ j, ud (paF ds i) (10 + i) (par ds i) j = paF ds (i + 1) j := fun j => by
  unfold ud paF
  by_cases z : j = 10 + i
  · rw [if_pos z, if_pos (by omega), z, show 10 + i - 10 = i by omega]
  · rw [if_neg z]
    by_cases y : 10 ≤ j ∧ j < 10 + i
    · rw [if_pos y, if_pos (by omega)]
    · rw [if_neg y, if_neg (by omega)]
theorem faF_s (i : Nat) : ∀ j, ud (faF ds i) (10 + i) (fcl ds i) j = faF ds (i + 1) j := fun j => by
  unfold ud faF
  by_cases z : j = 10 + i
  · rw [if_pos z, if_pos (by omega), z, show 10 + i - 10 = i by omega]
  · rw [if_neg z]
    by_cases y : 10 ≤ j ∧ j < 10 + i
    · rw [if_pos y, if_pos (by omega)]
    · rw [if_neg y, if_neg (by omega)]
theorem paF_hi {i k : Nat} (h : k < i) : paF ds i (10 + k) = par ds k := by unfold paF; rw [if_pos (by omega), show 10 + k - 10 = k by omega]
theorem faF_hi {i k : Nat} (h : k < i) : faF ds i (10 + k) = fcl ds k := by unfold faF; rw [if_pos (by omega), show 10 + k - 10 = k by omega]
theorem paF_no {i j : Nat} (h : ¬ (10 ≤ j ∧ j < 10 + i)) : paF ds i j = none := if_neg h
theorem faF_no {i j : Nat} (h : ¬ (10 ≤ j ∧ j < 10 + i)) : faF ds i j = [] := if_neg h
/-- sums -/
def sm (f : Nat → Nat) : Nat → Nat
  | 0 => 0
  | n + 1 => sm f n + f n
theorem sm_mono (f : Nat → Nat) {i n : Nat} (h : i ≤ n) : sm f i ≤ sm f n := by
  induction n with
  | zero => rw [Nat.le_zero.mp h]; exact Nat.le_refl _
  | succ n ih =>
    by_cases z : i = n + 1
    · rw [z]; exact Nat.le_refl _
    · exact Nat.le_trans (ih (by omega)) (Nat.le_add_right _ _)
theorem sm_le {f : Nat → Nat} {i n : Nat} (h : i < n) : sm f i + f i ≤ sm f n := sm_mono f (show i + 1 ≤ n from h)
abbrev nfc (ds : List DC) (k : Nat) : Nat := (fcd ds k).length
/-- directly above -/
def upk (ds : List DC) (k j : Nat) : Bool := decide (par ds k = some j) || decide (j ∈ fcl ds k)
/-- what is above, over those told before m -/
def Wr (ds : List DC) : Nat → Nat → Nat → Bool
  | 0, k, j => upk ds k j
  | m + 1, k, j => Wr ds m k j || (Wr ds m k (10 + m) && Wr ds m m j)
/-- a kind's next above -/
def Un (ds : List DC) (a b : Nat) : Prop := ∃ k, k < ds.length ∧ a = 10 + k ∧ upk ds k b = true
def Ab (ds : List DC) : Nat → Nat → Prop := Relation.TransGen (Un ds)
theorem Wr_s {m k j : Nat} : Wr ds (m + 1) k j = (Wr ds m k j || (Wr ds m k (10 + m) && Wr ds m m j)) := rfl
theorem Wr_or {m k j : Nat} : Wr ds (m + 1) k j = true ↔ Wr ds m k j = true ∨ (Wr ds m k (10 + m) = true ∧ Wr ds m m j = true) := by
  rw [Wr_s, Bool.or_eq_true, Bool.and_eq_true]
theorem Wr_up {m k j : Nat} (h : Wr ds m k j = true) (n : Nat) : Wr ds (m + n) k j = true := by
  induction n with
  | zero => exact h
  | succ n ih => exact Wr_or.mpr (.inl ih)
theorem Wr_ab {m : Nat} : ∀ {k j : Nat}, m ≤ ds.length → k < ds.length → Wr ds m k j = true → Ab ds (10 + k) j := by
  induction m with
  | zero => intro k j _ hk h; exact .single ⟨k, hk, rfl, h⟩
  | succ m ih =>
    intro k j hm hk h
    rcases Wr_or.mp h with z | ⟨z, y⟩
    · exact ih (by omega) hk z
    · exact Relation.TransGen.trans (ih (by omega) hk z) (ih (by omega) (by omega) y)
theorem Wr_tr {m : Nat} : ∀ {t k j : Nat}, t < m → Wr ds m k (10 + t) = true → Wr ds m t j = true → Wr ds m k j = true := by
  induction m with
  | zero => intro t k j h; omega
  | succ m ih =>
    intro t k j ht h1 h2
    by_cases z : t = m
    · subst z
      have a1 : Wr ds t k (10 + t) = true := by rcases Wr_or.mp h1 with y | y; exact y; exact y.1
      have a2 : Wr ds t t j = true := by rcases Wr_or.mp h2 with y | y; exact y; exact y.2
      exact Wr_or.mpr (.inr ⟨a1, a2⟩)
    · have ht' : t < m := by omega
      rcases Wr_or.mp h1 with a | a <;> rcases Wr_or.mp h2 with b | b
      · exact Wr_or.mpr (.inl (ih ht' a b))
      · exact Wr_or.mpr (.inr ⟨ih ht' a b.1, b.2⟩)
      · exact Wr_or.mpr (.inr ⟨a.1, ih ht' a.2 b⟩)
      · exact Wr_or.mpr (.inr ⟨a.1, b.2⟩)
/-- what is above, at last -/
abbrev Wn (ds : List DC) (k j : Nat) : Bool := Wr ds ds.length k j
theorem ab_lo {a b : Nat} (h : Ab ds a b) : ∃ k, k < ds.length ∧ a = 10 + k := by
  induction h with
  | single h => obtain ⟨k, h1, h2, _⟩ := h; exact ⟨k, h1, h2⟩
  | tail _ _ ih => exact ih
theorem ab_Wr {k j : Nat} (h : Ab ds (10 + k) j) : Wn ds k j = true := by
  generalize hb : 10 + k = b at h
  induction h with
  | single h =>
    obtain ⟨t, h1, h2, h3⟩ := h
    have : t = k := by omega
    subst this
    have := Wr_up (m := 0) h3 ds.length
    rwa [Nat.zero_add] at this
  | tail h1 h2 ih =>
    obtain ⟨t, h3, h4, h5⟩ := h2
    subst h4
    have := Wr_up (m := 0) (k := t) h5 ds.length
    rw [Nat.zero_add] at this
    exact Wr_tr h3 ih this
theorem Wn_ab {k j : Nat} (hk : k < ds.length) : Wn ds k j = true ↔ Ab ds (10 + k) j := ⟨fun h => Wr_ab (Nat.le_refl _) hk h, ab_Wr⟩
/-- a kind above itself -/
def bad3 (ds : List DC) (k : Nat) : Option Nat := if Wn ds k (10 + k) then some (dc ds k).2.1.2 else none
/-- the faces above, by number -/
def alf (ds : List DC) (k : Nat) : List Nat := (List.range (10 + ds.length)).filter fun j => Wn ds k j && decide (so ds j = 4)
