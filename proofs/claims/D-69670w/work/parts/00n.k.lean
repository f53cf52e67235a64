/-! PHASE B settle 30: what is above a kind by parents; fields told plainly -/
set_option maxRecDepth 100000
variable {ds : List DC} {j p k : Nat}
def ok3 (ds : List DC) : Prop := ok2 ds ∧ ∀ k, k < ds.length → Wn ds k (10 + k) = false
theorem fil_le {p q : Nat → Bool} : ∀ {l : List Nat}, (∀ i ∈ l, q i = true → p i = true) → (l.filter q).length ≤ (l.filter p).length := by
  intro l
  induction l with
  | nil => intro _; exact Nat.le_refl _
  | cons a l ih =>
    intro h
    have i := ih (fun x hx => h x (List.mem_cons_of_mem _ hx))
    cases g : q a with
    | true =>
      rw [List.filter_cons_of_pos g, List.filter_cons_of_pos (h a List.mem_cons_self g), List.length_cons, List.length_cons]
      omega
    | false =>
      rw [List.filter_cons_of_neg (by rw [g]; decide)]
      by_cases c : p a = true
      · rw [List.filter_cons_of_pos c, List.length_cons]; omega
      · rw [List.filter_cons_of_neg c]; exact i
theorem fil_lt {p q : Nat → Bool} {x : Nat} (hp : p x = true) (hq : q x = false) : ∀ {l : List Nat}, (∀ i ∈ l, q i = true → p i = true) → x ∈ l → (l.filter q).length < (l.filter p).length := by
  intro l
  induction l with
  | nil => intro _ hx; cases hx
  | cons a l ih =>
    intro h hx
    have h' : ∀ i ∈ l, q i = true → p i = true := fun x hx => h x (List.mem_cons_of_mem _ hx)
    by_cases e : x = a
    · subst e
      rw [List.filter_cons_of_pos hp, List.filter_cons_of_neg (by rw [hq]; decide), List.length_cons]
      have := fil_le h'
      omega
    · have xl : x ∈ l := by
        cases List.mem_cons.mp hx with
        | inl y => exact absurd y e
        | inr y => exact y
      have i := ih h' xl
      cases g : q a with
      | true =>
        rw [List.filter_cons_of_pos g, List.filter_cons_of_pos (h a List.mem_cons_self g), List.length_cons, List.length_cons]
        omega
      | false =>
        rw [List.filter_cons_of_neg (by rw [g]; decide)]
        by_cases c : p a = true
        · rw [List.filter_cons_of_pos c, List.length_cons]; omega
        · rw [List.filter_cons_of_neg c]; exact i
/-- how much is above a kind -/
def rnk (ds : List DC) (j : Nat) : Nat := if 10 ≤ j ∧ j < 10 + ds.length then ((List.range (10 + ds.length)).filter fun i => Wn ds (j - 10) i).length else 0
theorem rnk_le : rnk ds j ≤ 10 + ds.length := by
  unfold rnk
  split
  · have := List.length_filter_le (fun i => Wn ds (j - 10) i) (List.range (10 + ds.length))
    rwa [List.length_range] at this
  · omega
/-- it grows less upward -/
theorem rnk_up (o : ok3 ds) (h : Un ds j p) (hp : p < 10 + ds.length) : rnk ds p < rnk ds j := by
  obtain ⟨k, hk, rfl, hu⟩ := h
  have jp : Ab ds (10 + k) p := .single ⟨k, hk, rfl, hu⟩
  unfold rnk
  rw [if_pos (show 10 ≤ 10 + k ∧ 10 + k < 10 + ds.length by omega), show 10 + k - 10 = k by omega]
  have pos : p ∈ List.range (10 + ds.length) := List.mem_range.mpr hp
  have wp := ab_Wr jp
  by_cases c : 10 ≤ p
  · obtain ⟨t, rfl⟩ : ∃ t, p = 10 + t := ⟨p - 10, by omega⟩
    rw [if_pos (by omega), show 10 + t - 10 = t by omega]
    exact fil_lt (x := 10 + t) wp (o.2 t (by omega)) (fun i _ hi => ab_Wr (jp.trans ((Wn_ab (by omega)).mp hi))) pos
  · rw [if_neg (by omega)]
    exact List.length_pos_of_mem (List.mem_filter.mpr ⟨pos, wp⟩)
theorem pa_un (h : paF ds ds.length j = some p) : Un ds j p ∧ p < 10 + ds.length ∧ 10 ≤ p ∧ 10 ≤ j ∧ j < 10 + ds.length := by
  unfold paF at h
  split at h
  · rename_i c
    obtain ⟨k, rfl⟩ : ∃ k, j = 10 + k := ⟨j - 10, by omega⟩
    rw [show 10 + k - 10 = k by omega] at h
    exact ⟨⟨k, by omega, rfl, by unfold upk; rw [h]; simp⟩, par_lt h, so_ge (.inl (par_so h)), c⟩
  · cases h
theorem fa_un (o : ok3 ds) (h : p ∈ faF ds ds.length j) : Un ds j p ∧ p < 10 + ds.length ∧ 10 ≤ p ∧ 10 ≤ j ∧ j < 10 + ds.length := by
  unfold faF at h
  split at h
  · rename_i c
    obtain ⟨k, rfl⟩ : ∃ k, j = 10 + k := ⟨j - 10, by omega⟩
    rw [show 10 + k - 10 = k by omega] at h
    exact ⟨⟨k, by omega, rfl, by unfold upk; rw [decide_eq_true h]; simp⟩, fcs_lt _ h, so_ge (.inr (fcl_so (o.1.2 k (by omega)) p h)), c⟩
  · simp at h
/-- a kind's parents, the nearest first -/
def chn (ds : List DC) : Nat → Nat → List Nat
  | 0, _ => []
  | f + 1, j => match paF ds ds.length j with
    | none => []
    | some p => p :: chn ds f p
def up (ds : List DC) (j : Nat) : List Nat := chn ds (10 + ds.length) j
theorem chn_st (o : ok3 ds) : ∀ {f g j : Nat}, rnk ds j ≤ f → rnk ds j ≤ g → chn ds f j = chn ds g j := by
  intro f
  induction f with
  | zero =>
    intro g j h1 _
    cases e : paF ds ds.length j with
    | none =>
      cases g with
      | zero => rfl
      | succ g => unfold chn; rw [e]
    | some p =>
      have u := pa_un e
      have := rnk_up o u.1 u.2.1
      omega
  | succ f ih =>
    intro g j h1 h2
    cases e : paF ds ds.length j with
    | none =>
      cases g with
      | zero => unfold chn; rw [e]
      | succ g => unfold chn; rw [e]
    | some p =>
      have u := pa_un e
      have r := rnk_up o u.1 u.2.1
      cases g with
      | zero => omega
      | succ g =>
        unfold chn
        rw [e]
        show p :: chn ds f p = p :: chn ds g p
        rw [ih (g := g) (by omega) (by omega)]
theorem up_none (h : paF ds ds.length j = none) : up ds j = [] := by
  unfold up
  rw [show 10 + ds.length = (9 + ds.length) + 1 by omega]
  unfold chn
  rw [h]
theorem up_some (o : ok3 ds) (h : paF ds ds.length j = some p) : up ds j = p :: up ds p := by
  have u := pa_un h
  have r := rnk_up o u.1 u.2.1
  have r2 := rnk_le (ds := ds) (j := j)
  have e : up ds p = chn ds (9 + ds.length) p := chn_st o rnk_le (by omega)
  rw [e]
  show chn ds (10 + ds.length) j = _
  rw [show 10 + ds.length = (9 + ds.length) + 1 by omega]
  show (match paF ds ds.length j with | none => [] | some p => p :: chn ds (9 + ds.length) p) = _
  rw [h]
/-- parents by induction -/
theorem up_ind (o : ok3 ds) {P : Nat → Prop} (h0 : ∀ j, paF ds ds.length j = none → P j) (h1 : ∀ j p, paF ds ds.length j = some p → P p → P j) : ∀ j, P j := by
  intro j
  generalize hr : rnk ds j = r
  induction r using Nat.strongRecOn generalizing j with
  | ind r ih =>
    cases e : paF ds ds.length j with
    | none => exact h0 j e
    | some p =>
      have u := pa_un e
      exact h1 j p e (ih _ (by rw [← hr]; exact rnk_up o u.1 u.2.1) p rfl)
theorem up_c (o : ok3 ds) : ∀ x ∈ up ds j, 10 ≤ x ∧ x < 10 + ds.length := by
  refine up_ind o (P := fun j => ∀ x ∈ up ds j, 10 ≤ x ∧ x < 10 + ds.length) (fun j e x hx => ?_) (fun j p e i x hx => ?_) j
  · rw [up_none e] at hx; cases hx
  · rw [up_some o e] at hx
    have u := pa_un e
    cases List.mem_cons.mp hx with
    | inl y => rw [y]; exact ⟨u.2.2.1, u.2.1⟩
    | inr y => exact i x y
theorem up_rk (o : ok3 ds) : ∀ j, (up ds j).length ≤ rnk ds j := by
  refine up_ind o (fun j e => ?_) (fun j p e i => ?_)
  · rw [up_none e]; exact Nat.zero_le _
  · rw [up_some o e, List.length_cons]
    have u := pa_un e
    have := rnk_up o u.1 u.2.1
    omega
/-- fields among members -/
def ownL (ms : List Mb) : List Vr := ms.filterMap fun m => if m.2.isSome then none else some m.1
def metL (ms : List Mb) : List (Vr × Mt) := ms.filterMap fun m => m.2.map fun t => (m.1, t)
abbrev mem (d : DC) : List Mb := d.2.2.2.2.2.1
abbrev vr0 : Vr := (([], 0, 0), [], 0)
abbrev mb0 : Mb := (vr0, none)
theorem tk_s {α : Type} {l : List α} {i : Nat} (d : α) (h : i < l.length) : l.take (i + 1) = l.take i ++ [l.getD i d] := by
  rw [List.take_succ, List.getD_eq_getElem?_getD, List.getElem?_eq_getElem h]; rfl
theorem ownL_s {ms : List Mb} {i : Nat} (h : i < ms.length) : ownL (ms.take (i + 1)) = ownL (ms.take i) ++ (if (ms.getD i mb0).2.isSome then [] else [(ms.getD i mb0).1]) := by
  rw [tk_s mb0 h]
  unfold ownL
  rw [List.filterMap_append]
  congr 1
  generalize ms.getD i mb0 = m
  cases g : m.2 with
  | none => rw [List.filterMap_cons]; simp [g]
  | some t => rw [List.filterMap_cons]; simp [g]
theorem metL_s {ms : List Mb} {i : Nat} (h : i < ms.length) : metL (ms.take (i + 1)) = metL (ms.take i) ++ (match (ms.getD i mb0).2 with | none => [] | some t => [((ms.getD i mb0).1, t)]) := by
  rw [tk_s mb0 h]
  unfold metL
  rw [List.filterMap_append]
  congr 1
  generalize ms.getD i mb0 = m
  cases g : m.2 with
  | none => rw [List.filterMap_cons]; simp [g]
  | some t => rw [List.filterMap_cons]; simp [g]
theorem ownL_le : ∀ {ms : List Mb}, (ownL ms).length ≤ ms.length := fun {ms} => List.length_filterMap_le _ _
theorem metL_le : ∀ {ms : List Mb}, (metL ms).length ≤ ms.length := fun {ms} => List.length_filterMap_le _ _
/-- a kind's own fields; all its fields, the farthest parent's first -/
def ow (ds : List DC) (j : Nat) : List Vr := if j < 10 then [] else ownL (mem (dc ds (j - 10)))
theorem ow_hi : ow ds (10 + k) = ownL (mem (dc ds k)) := by unfold ow; rw [if_neg (by omega), show 10 + k - 10 = k by omega]
def fdp (ds : List DC) (j : Nat) : List Vr := (up ds j).reverse.flatMap (ow ds)
def fds (ds : List DC) (j : Nat) : List Vr := fdp ds j ++ ow ds j
theorem fdp_none (h : paF ds ds.length j = none) : fdp ds j = [] := by unfold fdp; rw [up_none h]; rfl
theorem fdp_some (o : ok3 ds) (h : paF ds ds.length j = some p) : fdp ds j = fds ds p := by
  unfold fds fdp
  rw [up_some o h, List.reverse_cons, List.flatMap_append]
  simp
theorem fdp_len : (fdp ds j).length = ((up ds j).map fun p => (ow ds p).length).sum := by
  unfold fdp
  rw [List.length_flatMap, List.map_reverse, List.sum_reverse]
theorem fdp_nm {s : List Nat} : s ∈ (fdp ds j).map (fun v => v.2.1) ↔ ∃ p ∈ up ds j, s ∈ (ow ds p).map (fun v => v.2.1) := by
  unfold fdp
  simp only [List.mem_map, List.mem_flatMap, List.mem_reverse]
  constructor
  · rintro ⟨v, ⟨p, hp, hv⟩, e⟩
    exact ⟨p, hp, v, hv, e⟩
  · rintro ⟨p, hp, v, hv, e⟩
    exact ⟨v, ⟨p, hp, hv⟩, e⟩
