/-! PHASE B declarations 34: one more in the twin; what a declaration returns there -/
set_option maxRecDepth 100000
variable {e : EE} {Zx Zm : List Nat} {hx hm h h1 h2 h' hx0 hm0 : HP} {i j a b k X Y : Nat} {IT : List It} {TY : List Ty} {QU : List (List Nat)}
theorem DsM_add {L : Nat} {ds : List DC} {d : DC} {TY2 : List Ty} {QU2 : List (List Nat)} (q : PM e hm j IT TY2 QU2) (q' : PM e h' i IT TY QU) (h0 : e.il = 0) (nl : kc h' e.nl = 168) (D : DsM b hm L ds) (hb : b ≤ nx hm) (hl : ds.length ≤ 100) (s : St [] e.mm Y hm h') (kk : kc h' k = 47) (N : KdM (Fb (nx hm) (nx h')) h' k (10 + ds.length) d) :
    (∀ {β : Type} {K : HP → Rs β}, lsAdd L k h' K = K (lad h' L k)) ∧ St [] [L] 10 h' (lad h' L k) ∧ PM e (lad h' L k) i IT TY QU ∧ DsM b (lad h' L k) L (ds ++ [d]) := by
  obtain ⟨k1, c1, n1, B, b1, b2, b3, D0⟩ := D
  have bm : ∀ r, r ≤ ds.length → B r ≤ B ds.length := fun r hr => by
    obtain ⟨k, hk⟩ : ∃ k, ds.length = r + k := ⟨ds.length - r, by omega⟩
    rw [hk]; clear hk
    induction k with
    | zero => exact Nat.le_refl _
    | succ k ih => exact Nat.le_trans ih (b1 (r + k))
  obtain ⟨y1, _, y3⟩ := (q.fr0 s).at k1 (by decide) (by decide)
  have c2 : cp h' L ≠ RAW := by rw [y3.2.2.2.2.2.2.2.2]; exact c1
  have l2 : ls h' L = ls hm L := y3.2.2.2.2.2.2.1
  have KL : lsK h' L := ⟨by rw [y1]; decide, by rw [y1]; decide, c2⟩
  have len : (ls h' L).length = ds.length := by rw [l2]; exact n1
  have KK := lad_K (v := k) KL (by omega)
  have s1 : St [] [L] (0 + 10) h' (lad h' L k) := (St.refl s.1 [] [L]).ladd y1 (by decide) (.inr (.inr (by simp))) (by omega) (by omega)
  have M : ∀ F, FxM F ALLM h' (lad h' L k) := fun F => ⟨[L], s1.fx, fun x hx => by rw [List.mem_singleton.mp hx, y1]; exact ⟨by decide, fun y => absurd y (by decide)⟩⟩
  refine ⟨lsAdd_e KL (.inr (.inr (.inr (by rw [kk]; decide)))) (by omega), s1.le (by omega), q'.dec s1.1 s1.fx (fun x hx => by rw [List.mem_singleton.mp hx, y1]; decide) nl, y1, KK.2.2, by rw [lad_ls, List.length_append, List.length_append, len]; rfl, fun r => if r ≤ ds.length then B r else nx h', fun r => ?_, ?_, ?_, fun r hr => ?_⟩
  · show (if r ≤ ds.length then B r else nx h') ≤ (if r + 1 ≤ ds.length then B (r + 1) else nx h')
    by_cases z : r + 1 ≤ ds.length
    · rw [if_pos (by omega), if_pos z]; exact b1 r
    · rw [if_neg z]
      by_cases y : r ≤ ds.length
      · rw [if_pos y]; exact Nat.le_trans (bm r y) (Nat.le_trans b3 s.2.1)
      · rw [if_neg y]; exact Nat.le_refl _
  · show b ≤ (if 0 ≤ ds.length then B 0 else nx h')
    rw [if_pos (by omega)]; exact b2
  · show (if (ds ++ [d]).length ≤ ds.length then B (ds ++ [d]).length else nx h') ≤ nx h'
    rw [if_neg (by simp)]; exact Nat.le_refl _
  show KdM (Fb (if r ≤ ds.length then B r else nx h') (if r + 1 ≤ ds.length then B (r + 1) else nx h')) _ _ _ _
  rw [lad_ls, l2]
  by_cases z : r < ds.length
  · rw [gD_app (by omega), List.getElem_append_left z, if_pos (by omega), if_pos (by omega)]
    exact KdM_up (M _) (KdM_up (G := Fb (B r) (B (r + 1))) (keepM q h0 s _) (D0 r z) (fun l y => y)) (fun l y => y)
  · have : r = ds.length := by rw [List.length_append] at hr; simp at hr; omega
    subst this
    rw [gD_end n1.symm, List.getElem_append_right (Nat.le_refl _), if_pos (Nat.le_refl _), if_neg (by omega)]
    simp only [Nat.sub_self, List.getElem_cons_zero]
    exact KdM_up (M _) N (fun l y => ⟨Nat.le_trans b3 y.1, y.2⟩)
