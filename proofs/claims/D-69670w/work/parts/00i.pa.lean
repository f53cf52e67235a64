/-! PHASE B parser 10: the twin's expressions where there is no token -/
set_option maxRecDepth 100000
variable {e : EE} {hx hm h h' : HP} {i j a : Nat} {IT : List It} {TY : List Ty} {QU : List (List Nat)}
theorem vPrim {p N N2 d m : Nat} (n : PN e h p N) : MF e h p N2 1 ((r_S7 (m + 1)).2.2.2.1 e.Q (nI d) h) := by
  show MF e h p N2 1 (f_X48_primary_o (r_S7 m) e.Q (nI d) h)
  unfold f_X48_primary_o
  refine v46 n (vT n fun t T mt k9 => ?_)
  obtain ⟨m1, m2, m3, m4, m5, m6⟩ := mt
  rw [k9] at m2
  have ld : ∀ {β : Type} {K : Int32 → Rs β}, ldI 44 349 t h K = K (nI 9) := by intro β K; rw [ldI_e m1, m2]
  rw [ld, if_neg (by decide), ld, if_neg (by decide), ld, if_neg (by decide), ld, if_neg (by decide), ld, if_neg (by decide)]
  refine v46 n (vK n (by decide) (by decide) ?_)
  rw [if_pos y00]
  refine v46 n (vK n (by decide) (by decide) ?_)
  rw [if_pos y00]
  refine v46 n (vK n (by decide) (by decide) ?_)
  rw [if_pos y00]
  refine v46 n (vK n (by decide) (by decide) ?_)
  rw [if_pos y00, ld, if_neg (by decide)]
  refine v46 n (vS n (by decide) (by decide) ?_)
  rw [if_pos y00]
  exact v46 n (vWr n)
theorem vPostL {p N : Nat} {R : TY_S7} {d : Int32} (n : PN e h p N) : MF e h p N 0 (f_X48_postfix_l5 R e.Q d NN h) := by
  rw [show NN = (NN - 1) + 1 from rfl, f_X48_postfix_l5_s]
  unfold b_X48_postfix_l5
  refine v46 n (vS n (by decide) (by decide) ?_)
  rw [if_pos y00]
  refine v46 n (vS n (by decide) (by decide) ?_)
  rw [if_pos y00]
  exact MF.ok n ()
theorem vPost {p N N2 d m : Nat} (n : PN e h p N) : MF e h p N2 1 ((r_S7 (m + 2)).2.2.1 e.Q (nI d) h) := by
  show MF e h p N2 1 (f_X48_postfix_o (r_S7 (m + 1)) e.Q (nI d) h)
  unfold f_X48_postfix_o
  refine v46 n ((MF.bd (vPrim (N2 := N2) (m := m) (d := d) n) fun v h1 n1 => ?_).le (Nat.le_refl _) (show 1 + 0 ≤ 1 by omega))
  have := MF.bd (vPostL (R := r_S7 (m + 1)) (d := nI d) n1) (fun v h2 n2 => MF.ok n2 ())
  exact this
theorem vUn {p N N2 d m : Nat} (n : PN e h p N) : MF e h p N2 1 ((r_S7 (m + 3)).2.2.2.2.2 e.Q (nI d) h) := by
  show MF e h p N2 1 (f_X48_unary_o (r_S7 (m + 2)) e.Q (nI d) h)
  unfold f_X48_unary_o
  refine v46 n (vT n fun t T mt k9 => ?_)
  refine v46 n (vS n (by decide) (by decide) ?_)
  rw [if_pos y00]
  refine v46 n (vS n (by decide) (by decide) ?_)
  rw [if_pos y00]
  refine v46 n (vS n (by decide) (by decide) ?_)
  rw [if_pos y00]
  refine v46 n (vS n (by decide) (by decide) ?_)
  rw [if_pos y00]
  refine v46 n ?_
  exact (MF.bd (vPost (N2 := N2) (m := m) (d := d) n) fun v h1 n1 => MF.ok n1 ()).le (Nat.le_refl _) (by omega)
theorem vRankL {p N : Nat} {R : TY_S7} {l d : Int32} (n : PN e h p N) : MF e h p N 0 (f_X48_ranked_l75 R e.Q l d NN h) := by
  rw [show NN = (NN - 1) + 1 from rfl, f_X48_ranked_l75_s]
  unfold b_X48_ranked_l75
  refine v46 n (vT n fun t T mt k9 => ?_)
  obtain ⟨m1, m2, m3, m4, m5, m6⟩ := mt
  rw [k9] at m2
  rw [ldI_e m1, m2, if_neg (by decide)]
  exact MF.ok n ()
/-- behind a level's first operand -/
theorem vRankT {p N : Nat} {R : TY_S7} {l : Nat} {d : Int32} (n : PN e h p N) : MF e h p N 0 (if nI l = (6 : Int32) then (if kc h e.Q = 46 then bd (f_X48_isKey e.Q 57 h) (fun x4 h5 => if x4 = 0 then bd (f_X48_ranked_l75 R e.Q (nI l) d NN h5) (fun x6 h7 => rok () h7) else if kc h5 e.Q = 46 then bd (f_X48_token e.Q h5) (fun x8 h9 => ldI 44 350 x8 h9 fun x10 => ldI 46 358 e.Q h9 fun x11 => stI 46 358 e.Q (x11 + (1 : Int32)) h9 fun h12 => if kc h12 e.Q = 46 then bd (f_X48_type e.Q h12) (fun x13 h14 => if kc h14 e.Q = 46 then bd (f_X48_item e.Q (12 : Int32) x10 1 (0 : Int64) (0 : Int32) x13 h14) (fun _ h15 => rok () h15) else none) else none) else none) else none) else bd (f_X48_ranked_l75 R e.Q (nI l) d NN h) (fun x2 h3 => rok () h3)) := by
  by_cases c : nI l = (6 : Int32)
  · rw [if_pos c]
    refine v46 n (vK n (by decide) (by decide) ?_)
    rw [if_pos y00]
    exact MF.bd (vRankL n) fun v h2 n2 => MF.ok n2 ()
  · rw [if_neg c]
    exact MF.bd (vRankL n) fun v h2 n2 => MF.ok n2 ()
theorem vRank {p N N2 d m : Nat} (k : Nat) : ∀ (l : Nat) {h : HP} (n : PN e h p N), l + k = 10 → N ≤ N2 → MF e h p N2 1 ((r_S7 (m + 4 + k)).2.2.2.2.1 e.Q (nI l) (nI d) h) := by
  induction k with
  | zero =>
    intro l h n hl hN
    show MF e h p N2 1 (f_X48_ranked_o (r_S7 (m + 3)) e.Q (nI l) (nI d) h)
    unfold f_X48_ranked_o
    rw [if_neg (show ¬ nI l ≤ (9 : Int32) from fun z => by have := (nI_leI (a := l) (b := 9) (by omega) (by omega)).mp z; omega)]
    refine v46 n ?_
    exact (MF.bd (vUn (N2 := N2) (m := m) (d := d) n) fun v h1 n1 => MF.ok n1 ()).le (Nat.le_refl _) (by omega)
  | succ k ih =>
    intro l h n hl hN
    show MF e h p N2 1 (f_X48_ranked_o (r_S7 (m + 4 + k)) e.Q (nI l) (nI d) h)
    unfold f_X48_ranked_o
    rw [if_pos (show nI l ≤ (9 : Int32) from nI_le (b := 9) (by omega) (by omega)), show nI l + (1 : Int32) = nI (l + 1) from nI_1 l]
    refine v46 n ?_
    exact (MF.bd (ih (l + 1) n (by omega) hN) fun v h1 n1 => vRankT (l := l) n1).le (Nat.le_refl _) (by omega)
theorem vExp {p N N2 d m : Nat} (n : PN e h p N) (hN : N ≤ N2) : MF e h p N2 1 ((r_S7 (m + 15)).2.1 e.Q (nI d) h) := by
  show MF e h p N2 1 (f_X48_expression_2_o (r_S7 (m + 14)) e.Q (nI d) h)
  unfold f_X48_expression_2_o f_X48_expression_2_b56
  refine v46 n (vK n (by decide) (by decide) ?_)
  rw [if_pos y00]
  refine v46 n (vK n (by decide) (by decide) ?_)
  rw [if_pos y00]
  refine v46 n (vK n (by decide) (by decide) ?_)
  rw [if_pos y00]
  refine v46 n (vK n (by decide) (by decide) ?_)
  rw [if_pos y00, if_pos (by decide)]
  refine v46 n ?_
  refine (MF.bd (vRank (m := m) (d := d) 10 0 n (by omega) hN) fun v h1 n1 => ?_).le (Nat.le_refl _) (show 1 + 0 ≤ 1 by omega)
  refine v46 n1 (vS n1 (by decide) (by decide) ?_)
  rw [if_pos y00]
  exact MF.ok n1 ()
/-- how much fuel an expression takes -/
def nE (d : Nat) : Nat := 16 * (31 - d) + 4
theorem n5e {l : List It} {op : Nat} {r : Nat × List Nat × Int64 × Nat × Option Ty} {P : Nat → List Nat → Prop} (h : op ≠ 5) : ∀ b s, l ++ [(op, r)] = [(5, b, s, 0, 0, none)] → P b s := fun b s z => by
  cases l with
  | nil =>
    have y : (op, r) = (5, b, s, 0, 0, none) := by simpa using z
    exact absurd (congrArg Prod.fst y) h
  | cons a l => simp at z
/-- both have read an expression -/
def POk (e : EE) (hx0 hm0 : HP) (i0 : Nat) (TY0 : List Ty) (QU0 : List (List Nat)) (IT0 : List It) (n : Nat) (hx hm : HP) (i : Nat) (ty : List Ty) (qu : List (List Nat)) (its : List It) (H d : Nat) : Prop :=
  i0 < i ∧ XS e (60 * (i - i0)) hx0 hx ∧ MS e (60 * (i - i0)) hm0 hm ∧ PX e hx i (TY0 ++ ty) (QU0 ++ qu) ∧ PM e hm i (IT0 ++ its) (TY0 ++ ty) (QU0 ++ qu) ∧ Nd e (Nw hx0) d hx n its H ∧ H ≤ i - i0 ∧ its.length ≤ 2 * (i - i0) ∧ ∀ b s, its = [(5, b, s, 0, 0, none)] → (tk e.TS i0).1 = 1 ∧ (tk e.TS i0).2.2.1 = s
def POut (e : EE) (hx hm : HP) (i : Nat) (TY : List Ty) (QU : List (List Nat)) (IT : List It) (rx : Rs Nat) (rm : Rs Unit) : Prop :=
  (∃ n hx' hm' j ty qu its H d, rx = rok n hx' ∧ rm = rok () hm' ∧ POk e hx hm i TY QU IT n hx' hm' j ty qu its H d) ∨
  Fail e hx hm (60 * (e.TS.length - i)) (IT.length + 3 * (e.TS.length - i)) (60 * (e.TS.length - i)) rx rm
/-- expressions at a depth -/
def GE (e : EE) (d : Nat) : Prop := ∀ n m hx hm i TY QU IT, nE d ≤ n → nE d ≤ m → PX e hx i TY QU → PM e hm i IT TY QU → IT.length ≤ 3 * i ∧ e.il ≠ 0 → POut e hx hm i TY QU IT ((r_S4 n).2.2.1 e.P (nI d) hx) ((r_S7 m).2.1 e.Q (nI d) hm)
def GU (e : EE) (d : Nat) : Prop := ∀ n m hx hm i TY QU IT, nE d ≤ n + 12 → nE d ≤ m + 12 → PX e hx i TY QU → PM e hm i IT TY QU → IT.length ≤ 3 * i ∧ e.il ≠ 0 → POut e hx hm i TY QU IT ((r_S4 n).2.2.2.2.2.2 e.P (nI d) hx) ((r_S7 m).2.2.2.2.2 e.Q (nI d) hm)
/-- where a tree is a name in brackets, the name is no class's -/
theorem POut.ok {n : Nat} {hx' hm' : HP} {ty : List Ty} {qu : List (List Nat)} {its : List It} {H d : Nat} (k : POk e hx hm i TY QU IT n hx' hm' j ty qu its H d) : POut e hx hm i TY QU IT (rok n hx') (rok () hm') := .inl ⟨n, hx', hm', j, ty, qu, its, H, d, rfl, rfl, k⟩
/-- an item's list keeps its bound -/
theorem it1 {w : List Nat} (hs : StrX h a w) : StrX h a w := hs
theorem str1 (w : WG h) : StrX h 1 [] := cst1 w
