/-! PHASE B settle 20: kinds of arrays, told plainly -/
set_option maxRecDepth 100000
/-- the kinds of arrays: each one's elements' kind, and depth -/
abbrev AT : Type := List (Nat × Nat)
def aix : AT → Nat → Option Nat
  | [], _ => none
  | x :: l, q => if x.1 = q then some 0 else (aix l q).map (· + 1)
variable {n : Nat} {AR AR' s : AT} {q i : Nat}
theorem aix_some : ∀ {AR : AT} {i : Nat}, aix AR q = some i → i < AR.length ∧ (AR.getD i (0, 0)).1 = q ∧ ∀ j, j < i → (AR.getD j (0, 0)).1 ≠ q := by
  intro AR
  induction AR with
  | nil => intro i h; cases h
  | cons x l ih =>
    intro i h
    unfold aix at h
    by_cases c : x.1 = q
    · rw [if_pos c] at h; cases h
      exact ⟨by simp, c, fun j hj => by omega⟩
    · rw [if_neg c] at h
      cases h2 : aix l q with
      | none => rw [h2] at h; cases h
      | some j =>
        rw [h2] at h; cases h
        obtain ⟨a, b, d⟩ := ih h2
        refine ⟨by simp only [List.length_cons]; omega, b, fun t ht => ?_⟩
        cases t with
        | zero => exact c
        | succ t => exact d t (by have : t + 1 < j + 1 := ht; omega)
theorem aix_none : ∀ {AR : AT}, aix AR q = none → ∀ j, j < AR.length → (AR.getD j (0, 0)).1 ≠ q := by
  intro AR
  induction AR with
  | nil => intro _ j hj; simp at hj
  | cons x l ih =>
    intro h j hj
    unfold aix at h
    by_cases c : x.1 = q
    · rw [if_pos c] at h; cases h
    · rw [if_neg c] at h
      cases h2 : aix l q with
      | some k => rw [h2] at h; cases h
      | none =>
        cases j with
        | zero => exact c
        | succ j => exact ih h2 j (by simpa using hj)
theorem aix_eq (h1 : i < AR.length) (h2 : (AR.getD i (0, 0)).1 = q) (h3 : ∀ j, j < i → (AR.getD j (0, 0)).1 ≠ q) : aix AR q = some i := by
  cases h : aix AR q with
  | none => exact absurd h2 (aix_none h i h1)
  | some j =>
    obtain ⟨a, b, d⟩ := aix_some h
    by_cases c : j < i
    · exact absurd b (h3 j c)
    · by_cases c2 : i < j
      · exact absurd h2 (d i c2)
      · rw [show i = j by omega]
theorem aix_nn (h3 : ∀ j, j < AR.length → (AR.getD j (0, 0)).1 ≠ q) : aix AR q = none := by
  cases h : aix AR q with
  | none => rfl
  | some j => obtain ⟨a, b, d⟩ := aix_some h; exact absurd b (h3 j a)
theorem gT_l (h : i < AR.length) : (AR ++ s).getD i (0, 0) = AR.getD i (0, 0) := by
  rw [List.getD_eq_getElem?_getD, List.getElem?_append_left h, ← List.getD_eq_getElem?_getD]
theorem gT_e {x : Nat × Nat} : (AR ++ [x]).getD AR.length (0, 0) = x := by
  rw [List.getD_eq_getElem?_getD, List.getElem?_append_right (Nat.le_refl _), Nat.sub_self]; rfl
theorem aix_app (h : aix AR q = some i) : aix (AR ++ s) q = some i := by
  obtain ⟨a, b, d⟩ := aix_some h
  exact aix_eq (by rw [List.length_append]; omega) (by rw [gT_l a]; exact b) (fun j hj => by rw [gT_l (by omega)]; exact d j hj)
theorem aix_new {x : Nat × Nat} (h : aix AR q = none) : aix (AR ++ [x]) q = if x.1 = q then some AR.length else none := by
  have z := aix_none h
  by_cases c : x.1 = q
  · rw [if_pos c]
    exact aix_eq (by simp) (by rw [gT_e]; exact c) (fun j hj => by rw [gT_l hj]; exact z j hj)
  · rw [if_neg c]
    refine aix_nn fun j hj => ?_
    rw [List.length_append, List.length_singleton] at hj
    by_cases y : j < AR.length
    · rw [gT_l y]; exact z j y
    · rw [show j = AR.length by omega, gT_e]; exact c
/-- a kind's depth; n kinds are declared -/
def dep (n : Nat) (AR : AT) (q : Nat) : Nat := if q < 10 + n then 0 else (AR.getD (q - (10 + n)) (0, 0)).2
theorem dep_app (h : q < 10 + n + AR.length) : dep n (AR ++ s) q = dep n AR q := by
  unfold dep
  by_cases z : q < 10 + n
  · rw [if_pos z, if_pos z]
  · rw [if_neg z, if_neg z, gT_l (by omega)]
/-- no array of a kind may be made any more -/
def ded (n : Nat) (AR : AT) (q : Nat) : Prop := dep n AR q = 8 ∨ 10 + n + AR.length = 400
def okA (n : Nat) (AR : AT) : Prop := 10 + n + AR.length ≤ 400 ∧ ∀ i, i < AR.length → (AR.getD i (0, 0)).1 < 10 + n + i ∧ (AR.getD i (0, 0)).2 = dep n AR (AR.getD i (0, 0)).1 + 1 ∧ (AR.getD i (0, 0)).2 ≤ 8
theorem okA_dep (o : okA n AR) (h : q < 10 + n + AR.length) : dep n AR q ≤ 8 := by
  unfold dep
  by_cases z : q < 10 + n
  · rw [if_pos z]; omega
  · rw [if_neg z]; exact (o.2 _ (by omega)).2.2
/-- the array of a kind, made if it is not there -/
def mkN (n : Nat) (AR : AT) (q : Nat) : Option Nat := match aix AR q with
  | some i => some (10 + n + i)
  | none => if dep n AR q = 8 ∨ 10 + n + AR.length = 400 then none else some (10 + n + AR.length)
def mkA (n : Nat) (AR : AT) (q : Nat) : AT := match aix AR q with
  | some _ => AR
  | none => if dep n AR q = 8 ∨ 10 + n + AR.length = 400 then AR else AR ++ [(q, dep n AR q + 1)]
/-- the array of a kind, if it is there -/
def lkN (n : Nat) (AR : AT) (q : Nat) : Option Nat := (aix AR q).map (10 + n + ·)
theorem mkA_x (n : Nat) (AR : AT) (q : Nat) : ∃ s, mkA n AR q = AR ++ s := by
  unfold mkA
  cases aix AR q with
  | some i => exact ⟨[], (List.append_nil _).symm⟩
  | none =>
    show ∃ s, (if dep n AR q = 8 ∨ 10 + n + AR.length = 400 then AR else AR ++ [(q, dep n AR q + 1)]) = AR ++ s
    split
    · exact ⟨[], (List.append_nil _).symm⟩
    · exact ⟨_, rfl⟩
theorem mkA_ok (o : okA n AR) (h : q < 10 + n + AR.length) : okA n (mkA n AR q) := by
  unfold mkA
  cases aix AR q with
  | some i => exact o
  | none =>
    show okA n (if dep n AR q = 8 ∨ 10 + n + AR.length = 400 then AR else AR ++ [(q, dep n AR q + 1)])
    split
    · exact o
    · rename_i z
      have d8 := okA_dep o h
      refine ⟨by rw [List.length_append, List.length_singleton]; have := o.1; omega, fun i hi => ?_⟩
      rw [List.length_append, List.length_singleton] at hi
      by_cases y : i < AR.length
      · rw [gT_l y, dep_app (by have := (o.2 i y).1; omega)]; exact o.2 i y
      · rw [show i = AR.length by omega, gT_e]
        show q < 10 + n + AR.length ∧ dep n AR q + 1 = dep n (AR ++ _) q + 1 ∧ dep n AR q + 1 ≤ 8
        rw [dep_app h]
        exact ⟨h, rfl, by omega⟩
theorem mkN_lt (h : mkN n AR q = some i) : i < 10 + n + (mkA n AR q).length := by
  unfold mkN at h
  unfold mkA
  cases g : aix AR q with
  | some j =>
    rw [g] at h; cases h
    have := (aix_some g).1
    show 10 + n + j < 10 + n + AR.length
    omega
  | none =>
    simp only [g] at h
    split at h
    · cases h
    · rename_i z
      cases h
      show 10 + n + AR.length < 10 + n + (if dep n AR q = 8 ∨ 10 + n + AR.length = 400 then AR else AR ++ [(q, dep n AR q + 1)]).length
      rw [if_neg z, List.length_append, List.length_singleton]; omega
/-- what was found stays; what may not be made is never made -/
theorem mk_lk : lkN n (mkA n AR q) q = mkN n AR q ∧ (mkN n AR q = none → ded n (mkA n AR q) q) := by
  unfold mkN mkA lkN ded
  cases g : aix AR q with
  | some i => exact ⟨by show (aix AR q).map _ = _; rw [g]; rfl, fun z => (by cases z)⟩
  | none =>
    show (aix (if dep n AR q = 8 ∨ 10 + n + AR.length = 400 then AR else AR ++ [(q, dep n AR q + 1)]) q).map _ = (if dep n AR q = 8 ∨ 10 + n + AR.length = 400 then none else some (10 + n + AR.length)) ∧ ((if dep n AR q = 8 ∨ 10 + n + AR.length = 400 then none else some (10 + n + AR.length)) = none → dep n (if dep n AR q = 8 ∨ 10 + n + AR.length = 400 then AR else AR ++ [(q, dep n AR q + 1)]) q = 8 ∨ 10 + n + (if dep n AR q = 8 ∨ 10 + n + AR.length = 400 then AR else AR ++ [(q, dep n AR q + 1)]).length = 400)
    by_cases z : dep n AR q = 8 ∨ 10 + n + AR.length = 400
    · rw [if_pos z, if_pos z, g]; exact ⟨rfl, fun _ => z⟩
    · rw [if_neg z, if_neg z, aix_new g, if_pos rfl]; exact ⟨rfl, fun y => (by cases y)⟩
theorem lk_app {k : Nat} (h : lkN n AR q = some k) : lkN n (AR ++ s) q = some k := by
  unfold lkN at h ⊢
  cases g : aix AR q with
  | none => rw [g] at h; cases h
  | some i => rw [g] at h; rw [aix_app g]; exact h
theorem ded_mk {p : Nat} (hq : q < 10 + n + AR.length) (hl : lkN n AR q = none) (hd : ded n AR q) : lkN n (mkA n AR p) q = none ∧ ded n (mkA n AR p) q := by
  have hl' : aix AR q = none := by
    unfold lkN at hl
    cases g : aix AR q with
    | none => rfl
    | some i => rw [g] at hl; cases hl
  unfold mkA
  cases g : aix AR p with
  | some i => exact ⟨hl, hd⟩
  | none =>
    show lkN n (if dep n AR p = 8 ∨ 10 + n + AR.length = 400 then AR else AR ++ [(p, dep n AR p + 1)]) q = none ∧ ded n (if dep n AR p = 8 ∨ 10 + n + AR.length = 400 then AR else AR ++ [(p, dep n AR p + 1)]) q
    by_cases z : dep n AR p = 8 ∨ 10 + n + AR.length = 400
    · rw [if_pos z]; exact ⟨hl, hd⟩
    · rw [if_neg z]
      rcases hd with y | y
      · refine ⟨?_, .inl (by rw [dep_app hq]; exact y)⟩
        unfold lkN
        rw [aix_new hl', if_neg (fun e => z (.inl (by rw [show p = q from e]; exact y)))]; rfl
      · exact absurd (.inr y) z
/-- a type's kind: so many arrays over a kind; made, or looked up -/
def rsN (n : Nat) : Nat → Option Nat → AT → Option Nat
  | 0, o, _ => o
  | _ + 1, none, _ => none
  | d + 1, some q, AR => rsN n d (mkN n AR q) (mkA n AR q)
def rsA (n : Nat) : Nat → Option Nat → AT → AT
  | 0, _, AR => AR
  | _ + 1, none, AR => AR
  | d + 1, some q, AR => rsA n d (mkN n AR q) (mkA n AR q)
def lkD (n : Nat) (AR : AT) : Nat → Option Nat → Option Nat
  | 0, o => o
  | _ + 1, none => none
  | d + 1, some q => lkD n AR d (lkN n AR q)
/-- settled: whatever is made further, the type's kind stays -/
def fin (n : Nat) (AR : AT) : Nat → Option Nat → Prop
  | 0, _ => True
  | _ + 1, none => True
  | d + 1, some q => q < 10 + n + AR.length ∧ (lkN n AR q = none → ded n AR q) ∧ fin n AR d (lkN n AR q)
theorem lkD_none (n : Nat) (AR : AT) (d : Nat) : lkD n AR d none = none := by cases d <;> rfl
theorem rsN_none (n : Nat) (AR : AT) (d : Nat) : rsN n d none AR = none := by cases d <;> rfl
theorem rsA_none (n : Nat) (AR : AT) (d : Nat) : rsA n d none AR = AR := by cases d <;> rfl
theorem finN (n : Nat) (AR : AT) (d : Nat) : fin n AR d none := by cases d <;> exact True.intro
theorem fin_mk {p : Nat} : ∀ {d : Nat} {o : Option Nat}, fin n AR d o → fin n (mkA n AR p) d o ∧ lkD n (mkA n AR p) d o = lkD n AR d o := by
  obtain ⟨s, hs⟩ := mkA_x n AR p
  intro d
  induction d with
  | zero => intro o _; exact ⟨True.intro, rfl⟩
  | succ d ih =>
    intro o h
    cases o with
    | none => exact ⟨True.intro, rfl⟩
    | some q =>
      obtain ⟨h1, h2, h3⟩ := h
      have hl : q < 10 + n + (mkA n AR p).length := by rw [hs, List.length_append]; omega
      cases g : lkN n AR q with
      | some k =>
        have e : lkN n (mkA n AR p) q = some k := by rw [hs]; exact lk_app g
        rw [g] at h3
        obtain ⟨i1, i2⟩ := ih h3
        refine ⟨⟨hl, fun z => (by rw [e] at z; cases z), by rw [e]; exact i1⟩, ?_⟩
        show lkD n _ d (lkN n _ q) = lkD n AR d (lkN n AR q)
        rw [e, g]; exact i2
      | none =>
        obtain ⟨e, d2⟩ := ded_mk (p := p) h1 g (h2 g)
        refine ⟨⟨hl, fun _ => d2, by rw [e]; exact finN _ _ _⟩, ?_⟩
        show lkD n _ d (lkN n _ q) = lkD n AR d (lkN n AR q)
        rw [e, g, lkD_none, lkD_none]
theorem fin_rs : ∀ {d : Nat} {o : Option Nat} {AR : AT} {d' : Nat} {o' : Option Nat}, fin n AR d' o' → fin n (rsA n d o AR) d' o' ∧ lkD n (rsA n d o AR) d' o' = lkD n AR d' o' := by
  intro d
  induction d with
  | zero => intro o AR d' o' h; exact ⟨h, rfl⟩
  | succ d ih =>
    intro o AR d' o' h
    cases o with
    | none => exact ⟨h, rfl⟩
    | some q =>
      obtain ⟨a, b⟩ := fin_mk (p := q) h
      obtain ⟨a2, b2⟩ := ih (o := mkN n AR q) a
      exact ⟨a2, b2.trans b⟩
/-- what was made is what is looked up afterwards -/
theorem rs_fin : ∀ {d : Nat} {o : Option Nat} {AR : AT}, okA n AR → (∀ q, o = some q → q < 10 + n + AR.length) → okA n (rsA n d o AR) ∧ fin n (rsA n d o AR) d o ∧ lkD n (rsA n d o AR) d o = rsN n d o AR ∧ ∃ s, rsA n d o AR = AR ++ s := by
  intro d
  induction d with
  | zero => intro o AR a _; exact ⟨a, True.intro, rfl, [], (List.append_nil _).symm⟩
  | succ d ih =>
    intro o AR a h
    cases o with
    | none => exact ⟨a, True.intro, rfl, [], (List.append_nil _).symm⟩
    | some q =>
      have hq := h q rfl
      obtain ⟨s1, hs1⟩ := mkA_x n AR q
      obtain ⟨m1, m2⟩ := mk_lk (n := n) (AR := AR) (q := q)
      obtain ⟨i1, i2, i3, s2, hs2⟩ := ih (o := mkN n AR q) (AR := mkA n AR q) (mkA_ok a hq) (fun p hp => mkN_lt hp)
      show okA n (rsA n d (mkN n AR q) (mkA n AR q)) ∧ fin n (rsA n d (mkN n AR q) (mkA n AR q)) (d + 1) (some q) ∧ lkD n (rsA n d (mkN n AR q) (mkA n AR q)) d (lkN n (rsA n d (mkN n AR q) (mkA n AR q)) q) = rsN n d (mkN n AR q) (mkA n AR q) ∧ _
      have hl : q < 10 + n + (mkA n AR q).length := by rw [hs1, List.length_append]; omega
      have one : fin n (mkA n AR q) 1 (some q) := ⟨hl, fun z => m2 (by rw [← m1]; exact z), True.intro⟩
      obtain ⟨f1, f2⟩ := fin_rs (d := d) (o := mkN n AR q) one
      have e : lkN n (rsA n d (mkN n AR q) (mkA n AR q)) q = mkN n AR q := by
        have : lkN n (rsA n d (mkN n AR q) (mkA n AR q)) q = lkN n (mkA n AR q) q := f2
        rw [this]; exact m1
      refine ⟨i1, ⟨f1.1, f1.2.1, by rw [e]; exact i2⟩, by rw [e]; exact i3, s1 ++ s2, ?_⟩
      show rsA n d (mkN n AR q) (mkA n AR q) = _
      rw [hs2, hs1, List.append_assoc]
