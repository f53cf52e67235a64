/-! PHASE B declarations 33: all declarations so far -/
set_option maxRecDepth 100000
variable {e : EE} {Zx Zm : List Nat} {hx hm h h1 h2 h' hx0 hm0 : HP} {i j a b k X Y : Nat} {IT : List It} {TY : List Ty} {QU : List (List Nat)}
/-- the component's declarations so far -/
def DsX (e : EE) (b : Nat) (h : HP) (K kl DL : Nat) (ds : List DC) : Prop := DlX e h K kl DL ds.length ∧ ∃ B : Nat → Nat, (∀ r, B r ≤ B (r + 1)) ∧ b ≤ B 0 ∧ B ds.length ≤ nx h ∧ ∀ r, (hr : r < ds.length) → DX e (Fb (B r) (B (r + 1))) h ((ls h DL).getD r 0) (10 + r, (ls h kl).getD (10 + r) 0) ds[r]
/-- the twin's -/
def DsM (b : Nat) (h : HP) (L : Nat) (ds : List DC) : Prop := kc h L = 167 ∧ cp h L ≠ RAW ∧ (ls h L).length = ds.length ∧ ∃ B : Nat → Nat, (∀ r, B r ≤ B (r + 1)) ∧ b ≤ B 0 ∧ B ds.length ≤ nx h ∧ ∀ r, (hr : r < ds.length) → KdM (Fb (B r) (B (r + 1))) h ((ls h L).getD r 0) (10 + r) ds[r]
/-- what a declaration leaves of the others -/
theorem keepX {K kl DL n : Nat} (p : PX e hx i TY QU) (A : DlX e hx K kl DL n) (s : St [] (kl :: DL :: e.xx) X hx h') (kq : Kq e hx h') (F : Nat → Prop) : FxX e F ALLX hx h' := by
  refine ⟨_, s.fx, fun x hx => ?_, kq.1, kq.2⟩
  obtain ⟨f161, kK, f30, kkl, ckl, lkl, f162, kDL, cDL, lDL⟩ := A
  rcases List.mem_cons.mp hx with z | hx
  · rw [z, kkl]; exact ⟨by decide, fun y => absurd y (by decide)⟩
  rcases List.mem_cons.mp hx with z | hx
  · rw [z, kDL]; exact ⟨by decide, fun y => absurd y (by decide)⟩
  rcases p.ks x hx with z | z | z | z <;> rw [z] <;> exact ⟨by decide, fun y => absurd y (by decide)⟩
theorem keepM (q : PM e hm i IT TY QU) (h0 : e.il = 0) (s : St [] e.mm Y hm h') (F : Nat → Prop) : FxM F ALLM hm h' := by
  refine ⟨_, s.fx, fun x hx => ?_⟩
  rcases q.mmK h0 x hx with z | z
  · rw [z]; exact ⟨by decide, fun y => absurd y (by decide)⟩
  · exact ⟨z.1, fun y => absurd y z.2⟩
theorem gD_app {l m : List Nat} {n d : Nat} (h : n < l.length) : (l ++ m).getD n d = l.getD n d := by
  rw [List.getD_eq_getElem?_getD, List.getD_eq_getElem?_getD, List.getElem?_append_left h]
theorem gD_end {l : List Nat} {x n d : Nat} (h : n = l.length) : (l ++ [x]).getD n d = x := by
  rw [List.getD_eq_getElem?_getD, h, List.getElem?_append_right (Nat.le_refl _)]; simp
/-- one more declaration in the component -/
theorem DsX_add {K kl DL : Nat} {ds : List DC} {d : DC} (p : PX e hx i TY QU) (D : DsX e b hx K kl DL ds) (hb : b ≤ nx hx) (s : St [] (kl :: DL :: e.xx) X hx h') (kq : Kq e hx h') (A : DlX e h' K kl DL (ds.length + 1)) (l1 : ls h' DL = ls hx DL ++ [a]) (l2 : ls h' kl = ls hx kl ++ [fr h' 163 a]) (N : DX e (Fb (nx hx) (nx h')) h' a (10 + ds.length, fr h' 163 a) d) : DsX e b h' K kl DL (ds ++ [d]) := by
  obtain ⟨A0, B, b1, b2, b3, D0⟩ := D
  have len1 : (ls hx DL).length = ds.length := A0.2.2.2.2.2.2.2.2.2
  have len2 : (ls hx kl).length = 10 + ds.length := A0.2.2.2.2.2.1
  have bm : ∀ r, r ≤ ds.length → B r ≤ B ds.length := fun r hr => by
    obtain ⟨k, hk⟩ : ∃ k, ds.length = r + k := ⟨ds.length - r, by omega⟩
    rw [hk]; clear hk
    induction k with
    | zero => exact Nat.le_refl _
    | succ k ih => exact Nat.le_trans ih (b1 (r + k))
  refine ⟨by rw [List.length_append]; exact A, fun r => if r ≤ ds.length then B r else nx h', fun r => ?_, ?_, ?_, fun r hr => ?_⟩
  · show (if r ≤ ds.length then B r else nx h') ≤ (if r + 1 ≤ ds.length then B (r + 1) else nx h')
    by_cases z : r + 1 ≤ ds.length
    · rw [if_pos (by omega), if_pos z]; exact b1 r
    · rw [if_neg z]
      by_cases y : r ≤ ds.length
      · rw [if_pos y]; exact Nat.le_trans (bm r y) (Nat.le_trans b3 s.2.1)
      · rw [if_neg y]; exact Nat.le_refl _
  · show b ≤ (if 0 ≤ ds.length then B 0 else nx h')
    rw [if_pos (by omega)]; exact b2
  · show (if (ds ++ [d]).length ≤ ds.length then B (ds ++ [d]).length else nx h') ≤ nx h'
    rw [if_neg (by simp)]; exact Nat.le_refl _
  show DX e (Fb (if r ≤ ds.length then B r else nx h') (if r + 1 ≤ ds.length then B (r + 1) else nx h')) h' _ _ _
  rw [l1, l2]
  by_cases z : r < ds.length
  · rw [gD_app (by omega), gD_app (by omega), List.getElem_append_left z, if_pos (by omega), if_pos (by omega)]
    exact DX_up (keepX p A0 s kq _) (D0 r z) (fun l y => y)
  · have : r = ds.length := by rw [List.length_append] at hr; simp at hr; omega
    subst this
    rw [gD_end len1.symm, gD_end (by omega), List.getElem_append_right (Nat.le_refl _), if_pos (Nat.le_refl _), if_neg (by omega)]
    simp only [Nat.sub_self, List.getElem_cons_zero]
    exact DXg_wk (fun l y => ⟨Nat.le_trans b3 y.1, y.2⟩) N
