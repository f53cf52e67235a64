/-! PHASE B settle 14: above itself, told plainly -/
set_option maxRecDepth 100000
variable {ds : List DC}
/-- as many places as things -/
theorem pig : ∀ (n m : Nat) (f : Nat → Nat), (∀ a, a < m → f a < n) → (∀ a b, a < m → b < m → f a = f b → a = b) → m ≤ n := by
  intro n
  induction n with
  | zero =>
    intro m f h1 _
    cases m with
    | zero => exact Nat.le_refl _
    | succ m => have := h1 0 (by omega); omega
  | succ n ih =>
    intro m f h1 h2
    by_cases c : ∃ a, a < m ∧ f a = n
    · obtain ⟨a, ha, hf⟩ := c
      have := ih (m - 1) (fun i => if i < a then f i else f (i + 1)) (fun i hi => by
        show (if i < a then f i else f (i + 1)) < n
        by_cases z : i < a
        · rw [if_pos z]
          have x := h1 i (by omega)
          have y : f i ≠ n := fun y => by have := h2 i a (by omega) ha (by omega); omega
          omega
        · rw [if_neg z]
          have x := h1 (i + 1) (by omega)
          have y : f (i + 1) ≠ n := fun y => by have := h2 (i + 1) a (by omega) ha (by omega); omega
          omega) (fun i j hi hj e => by
        have e' : (if i < a then f i else f (i + 1)) = (if j < a then f j else f (j + 1)) := e
        by_cases z : i < a
        · by_cases y : j < a
          · rw [if_pos z, if_pos y] at e'
            exact h2 i j (by omega) (by omega) e'
          · rw [if_pos z, if_neg y] at e'
            have := h2 i (j + 1) (by omega) (by omega) e'; omega
        · by_cases y : j < a
          · rw [if_neg z, if_pos y] at e'
            have := h2 (i + 1) j (by omega) (by omega) e'; omega
          · rw [if_neg z, if_neg y] at e'
            have := h2 (i + 1) (j + 1) (by omega) (by omega) e'; omega)
      omega
    · have := ih m f (fun a ha => by
        have x := h1 a ha
        have y : f a ≠ n := fun y => c ⟨a, ha, y⟩
        omega) h2
      omega
/-- parents are classes, faces are faces -/
theorem par_so {k p : Nat} (h : par ds k = some p) : so ds p = 3 := by
  unfold par at h
  cases g : exk ds k with
  | none => rw [g] at h; cases h
  | some q =>
    simp only [g] at h
    split at h
    · rename_i z; cases h; exact z
    · cases h
theorem par_lt {k p : Nat} (h : par ds k = some p) : p < 10 + ds.length := by
  unfold par exk at h
  cases hx : (dc ds k).2.2.2.1 with
  | none => rw [hx] at h; cases h
  | some t =>
    rw [hx] at h
    cases hk : kno ds t.1 with
    | none => simp [hk] at h
    | some q =>
      simp only [hk] at h
      have := kno_lt hk
      split at h
      · cases h; exact this
      · cases h
theorem so_ge {p : Nat} (h : so ds p = 3 ∨ so ds p = 4) : 10 ≤ p := by
  apply Classical.byContradiction
  intro z
  unfold so at h
  rcases h with h | h <;> (repeat' split at h) <;> omega
theorem fcl_so {k : Nat} (h : bad2 ds k = none) : ∀ x ∈ fcl ds k, so ds x = 4 := fun x hx => by
  unfold fcl fcs at hx
  obtain ⟨i, hi, rfl⟩ := List.mem_map.mp hx
  have hi' : i < (fcd ds k).length := List.mem_range.mp hi
  have h2 : frs (badf ds k) (fcd ds k).length = none := by
    unfold bad2 at h
    cases g : badp ds k with
    | none => rw [g] at h; exact h
    | some p => rw [g] at h; cases h
  have := frs_no h2 i hi'
  unfold badf at this
  unfold fcn
  cases g : kno ds ((fcd ds k).getD i ([], 0)).1 with
  | none => rw [g] at this; cases this
  | some p =>
    simp only [g] at this
    split at this
    · cases this
    · rename_i z
      show so ds p = 4
      exact Classical.byContradiction fun y => z (.inl y)
/-- what all have after the first rounds -/
def ok2 (ds : List DC) : Prop := okDs ds ∧ ∀ k, k < ds.length → bad2 ds k = none
theorem face_par (o : ok2 ds) {k : Nat} (hk : k < ds.length) (h4 : so ds (10 + k) = 4) : par ds k = none := by
  have d := (o.1.2 k hk).2.2.2.1
  have f : (dc ds k).1 ≠ 1 := fun z => by rw [so_hi, z] at h4; exact absurd h4 (by decide)
  unfold par exk
  rw [d.2.2.2 f]
theorem face_up (o : ok2 ds) {a b : Nat} (h : Un ds a b) (h4 : so ds a = 4) : so ds b = 4 := by
  obtain ⟨k, hk, rfl, hu⟩ := h
  unfold upk at hu
  rw [face_par o hk h4] at hu
  simp at hu
  exact fcl_so (o.2 k hk) b hu
/-- the parents, one behind the other -/
def pp (ds : List DC) (k : Nat) : Nat → Option Nat
  | 0 => par ds k
  | i + 1 => match pp ds k i with
    | none => none
    | some p => paF ds ds.length p
theorem pp_s {k i : Nat} : pp ds k (i + 1) = (match pp ds k i with | none => none | some p => paF ds ds.length p) := rfl
theorem pp_c {k i p : Nat} (h : pp ds k i = some p) : so ds p = 3 ∧ p < 10 + ds.length ∧ 10 ≤ p := by
  cases i with
  | zero => exact ⟨par_so h, par_lt h, so_ge (.inl (par_so h))⟩
  | succ i =>
    rw [pp_s] at h
    cases g : pp ds k i with
    | none => rw [g] at h; cases h
    | some q =>
      simp only [g] at h
      unfold paF at h
      split at h
      · exact ⟨par_so h, par_lt h, so_ge (.inl (par_so h))⟩
      · cases h
theorem pp_ab {k : Nat} (hk : k < ds.length) : ∀ {i p : Nat}, pp ds k i = some p → Ab ds (10 + k) p := by
  intro i
  induction i with
  | zero => intro p h; exact .single ⟨k, hk, rfl, by unfold upk; rw [show par ds k = some p from h]; simp⟩
  | succ i ih =>
    intro p h
    rw [pp_s] at h
    cases g : pp ds k i with
    | none => rw [g] at h; cases h
    | some q =>
      simp only [g] at h
      obtain ⟨_, q2, q3⟩ := pp_c g
      obtain ⟨t, rfl⟩ : ∃ t, q = 10 + t := ⟨q - 10, by omega⟩
      rw [paF_hi (by omega)] at h
      exact .tail (ih g) ⟨t, by omega, rfl, by unfold upk; rw [h]; simp⟩
theorem ab_pp (o : ok2 ds) {k j : Nat} (h : Ab ds (10 + k) j) (hj : so ds j ≠ 4) : ∃ i, pp ds k i = some j := by
  generalize hb : 10 + k = b at h
  induction h with
  | single h =>
    obtain ⟨t, h1, h2, h3⟩ := h
    have : t = k := by omega
    subst this
    unfold upk at h3
    simp only [Bool.or_eq_true, decide_eq_true_eq] at h3
    rcases h3 with z | z
    · exact ⟨0, z⟩
    · exact absurd (fcl_so (o.2 t h1) _ z) hj
  | tail h1 h2 ih =>
    obtain ⟨i, hi⟩ := ih (fun z => hj (face_up o h2 z))
    obtain ⟨t, h3, h4, h5⟩ := h2
    subst h4
    unfold upk at h5
    simp only [Bool.or_eq_true, decide_eq_true_eq] at h5
    rcases h5 with z | z
    · refine ⟨i + 1, ?_⟩
      rw [pp_s, hi]
      show paF ds ds.length (10 + t) = _
      rw [paF_hi h3]; exact z
    · exact absurd (fcl_so (o.2 t h3) _ z) hj
/-- a chain goes on alike from equal kinds -/
theorem pp_eq {k a b : Nat} (h : pp ds k a = pp ds k b) (i : Nat) : pp ds k (a + i) = pp ds k (b + i) := by
  induction i with
  | zero => exact h
  | succ i ih =>
    show pp ds k (a + i + 1) = pp ds k (b + i + 1)
    rw [pp_s, pp_s, ih]
theorem pp_some {k i p : Nat} (h : pp ds k i = some p) : ∀ j, j ≤ i → ∃ q, pp ds k j = some q := by
  induction i generalizing p with
  | zero => intro j hj; rw [Nat.le_zero.mp hj]; exact ⟨p, h⟩
  | succ i ih =>
    intro j hj
    by_cases z : j = i + 1
    · rw [z]; exact ⟨p, h⟩
    · rw [pp_s] at h
      cases g : pp ds k i with
      | none => rw [g] at h; cases h
      | some q => exact ih g j (by omega)
/-- the first time is within as many steps as there are kinds -/
theorem pp_near {k j : Nat} (h : ∃ i, pp ds k i = some j) : ∃ i, i < ds.length ∧ pp ds k i = some j := by
  obtain ⟨i, hi⟩ := h
  induction i using Nat.strongRecOn with
  | ind i ih =>
    by_cases c : ∃ a b, a < b ∧ b ≤ i ∧ pp ds k a = pp ds k b
    · obtain ⟨a, b, h1, h2, h3⟩ := c
      have := pp_eq h3 (i - b)
      rw [show b + (i - b) = i by omega, hi] at this
      exact ih (a + (i - b)) (by omega) this
    · refine ⟨i, ?_, hi⟩
      have s := pp_some hi
      have := pig ds.length (i + 1) (fun t => (pp ds k t).getD 10 - 10) (fun t ht => by
        obtain ⟨q, hq⟩ := s t (by omega)
        obtain ⟨_, q2, q3⟩ := pp_c hq
        show (pp ds k t).getD 10 - 10 < _
        rw [hq]; show q - 10 < _; omega) (fun a b ha hb e => by
        obtain ⟨q, hq⟩ := s a (by omega)
        obtain ⟨r, hr⟩ := s b (by omega)
        obtain ⟨_, q2, q3⟩ := pp_c hq
        obtain ⟨_, r2, r3⟩ := pp_c hr
        have e' : (pp ds k a).getD 10 - 10 = (pp ds k b).getD 10 - 10 := e
        rw [hq, hr] at e'
        have e2 : q - 10 = r - 10 := e'
        have qr : q = r := by omega
        by_cases z : a = b
        · exact z
        · exfalso
          by_cases y : a < b
          · exact c ⟨a, b, y, by omega, by rw [hq, hr, qr]⟩
          · exact c ⟨b, a, by omega, by omega, by rw [hq, hr, qr]⟩)
      omega
theorem self_pp (o : ok2 ds) {k : Nat} (hk : k < ds.length) (h4 : so ds (10 + k) ≠ 4) : Wn ds k (10 + k) = true ↔ ∃ i, i < ds.length ∧ pp ds k i = some (10 + k) :=
  (Wn_ab hk).trans ⟨fun z => pp_near (ab_pp o z h4), fun ⟨i, _, z⟩ => pp_ab hk z⟩
