/-! PHASE B declarations 39: all declarations: the twin's first round -/
set_option maxRecDepth 100000
variable {e : EE} {hx hm h h' hx0 hm0 : HP} {i j a k b b2 : Nat} {IT : List It} {TY : List Ty} {QU : List (List Nat)}
noncomputable def wrS (Q : Nat) : Unit ⊕ Unit → HP → Rs Unit := Sum.elim (fun _ => fun h9 => if kc h9 Q = 46 then bd (f_X48_wrong Q h9) (fun x10 h11 => if kc h11 x10 = 69 then rex h11 else none) else none) (fun _ => fun h13 => rok () h13)
theorem rdM_d {Q L N : Nat} : rdM Q L N h = bd (f_X48_all_l0 Q L N h) (wrS Q) := rfl
theorem allb_e {Q L : Nat} {v : Int32} (kQ : kc h Q = 46) (kL : lsK h L) : f_X48_all_b60 Q L v h = bd (f_X48_all_l0b60 Q L (f_X48_all_l0 Q L NN) v h) (wrS Q) := by
  unfold f_X48_all_b60 f_X48_all_l0b60
  by_cases c : v = 0
  · rw [if_pos c, if_pos c, bd_ok]; rfl
  · rw [if_neg c, if_neg c, lsSize_e kL, lsSize_e kL, lsSize_e kL]
    by_cases c6 : nI (ls h L).length = (60 : Int32)
    · rw [if_pos c6, if_pos c6, bd_ok]; rfl
    · rw [if_neg c6, if_neg c6, lsSize_e kL, if_pos kQ, if_pos kQ, bd_bd]
      simp only [bd_lsAdd]
      rfl
theorem all_eq {L : Nat} (q : PM e h i IT TY QU) (kL : lsK h L) : f_X48_all e.Q L h = rdM e.Q L (NN + 1) h := by
  obtain ⟨m1, m2, m3, m4, m5, m6⟩ := q.mt0
  have V9 := q.V.2.2.2.2.2.2.2
  have kQ := q.2.1
  obtain ⟨v, ev, hv, hw⟩ := all_e (L := L) (ih := f_X48_all_l0 e.Q L NN) q
  have v1 : dW (tk e.TS i) → v = 1 := hw.mpr
  rw [rdM_d, f_X48_all_l0_s, ev]
  unfold f_X48_all f_X48_all_b55
  rw [m46_e q, mtok_e q, ldI_e m1, m2]
  by_cases z : (tk e.TS i).1 = 0
  · rw [if_pos ((nk _ (c := 0) (C := (0 : Int32)) rfl (by omega) (by omega)).mpr z), if_pos z, bd_ok]; rfl
  rw [if_neg (fun y => z ((nk _ (c := 0) (C := (0 : Int32)) rfl (by omega) (by omega)).mp y)), if_neg z, m46_e q, misK_e q (by decide) (by decide) rfl]
  by_cases c1 : isW (tk e.TS i) (codes (cStr.getD (36 - 1) ""))
  · rw [if_pos c1, if_neg z10, allb_e kQ kL, v1 (.inl c1)]
  rw [if_neg c1, if_pos y00, m46_e q, misK_e q (by decide) (by decide) rfl]
  by_cases c2 : isW (tk e.TS i) (codes (cStr.getD (43 - 1) ""))
  · rw [if_pos c2, if_neg z10, allb_e kQ kL, v1 (.inr (.inl c2))]
  rw [if_neg c2, if_pos y00, m46_e q, misK_e q (by decide) (by decide) rfl]
  by_cases c3 : isW (tk e.TS i) (codes (cStr.getD (59 - 1) ""))
  · rw [if_pos c3, if_neg z10, allb_e kQ kL, v1 (.inr (.inr (.inl c3)))]
  rw [if_neg c3, if_pos y00, m46_e q, misK_e q (by decide) (by decide) rfl]
  by_cases c4 : isW (tk e.TS i) (codes (cStr.getD (48 - 1) ""))
  · rw [if_pos c4, if_neg z10, allb_e kQ kL, v1 (.inr (.inr (.inr (.inl c4))))]
  rw [if_neg c4, if_pos y00, m46_e q, misK_e q (by decide) (by decide) rfl]
  by_cases c5 : isW (tk e.TS i) (codes (cStr.getD (65 - 1) ""))
  · rw [if_pos c5, if_neg z10, allb_e kQ kL, v1 (.inr (.inr (.inr (.inr c5))))]
  · have v0 : v = 0 := hv.resolve_right fun y => by
      rcases hw.mp y with y | y | y | y | y
      · exact c1 y
      · exact c2 y
      · exact c3 y
      · exact c4 y
      · exact c5 y
    rw [if_neg c5, if_pos y00, allb_e kQ kL, v0]
