/-! PHASE B declarations 37: all declarations -/
set_option maxRecDepth 100000
variable {e : EE} {hx hm h h' hx0 hm0 : HP} {i j a b k X Y b2 : Nat} {TY : List Ty} {QU : List (List Nat)}
noncomputable def rdX (P N : Nat) (h : HP) : Rs Unit := bd (f_X11_read_l7 P N h) (Sum.elim (fun _ => fun h4 => ldR 12 156 P h4 fun x5 => if kc h4 x5 = 10 then bd (f_X9_wrong x5 h4) (fun x6 h7 => if kc h7 x6 = 69 then rex h7 else none) else none) (fun _ => fun h9 => rok () h9))
noncomputable def rdM (Q L N : Nat) (h : HP) : Rs Unit := bd (f_X48_all_l0 Q L N h) (Sum.elim (fun _ => fun h9 => if kc h9 Q = 46 then bd (f_X48_wrong Q h9) (fun x10 h11 => if kc h11 x10 = 69 then rex h11 else none) else none) (fun _ => fun h13 => rok () h13))
/-- both at a token where they fail -/
theorem wr_both {P0 : Nat} (p : PX e hx i TY QU) (q : PM e hm i [] TY QU) (sx : St [] (k :: a :: e.xx) X hx0 hx) (sm : St [] (b :: e.mm) Y hm0 hm) {rx rm : Rs Unit} (e1 : ∀ hx', (∀ β, (bd (f_X9_wrong e.t hx) (fun x1 h2 => if kc h2 x1 = 69 then (rex h2 : Rs β) else none)) = rex hx') → rx = rex hx') (e2 : ∀ hm', (∀ β, (bd (f_X48_wrong e.Q hm) (fun x1 h2 => if kc h2 x1 = 69 then (rex h2 : Rs β) else none)) = rex hm') → rm = rex hm') : DFx e (k :: a :: e.xx) (b :: e.mm) hx0 hm0 X (Y + 1) rx rm := by
  obtain ⟨hx7, g1, s1, f1⟩ := xwrong p
  obtain ⟨hm7, g2, s2, f2⟩ := mwrong q
  exact ⟨_, hx7, hm7, e1 _ g1, sx.cat s1 (fun _ z => z) (fun x hx => .inl (by simp only [List.mem_cons, List.not_mem_nil, or_false] at hx ⊢; rcases hx with z | z <;> simp [z])), f1, e2 _ g2, sm.cat s2 (fun _ z => z) (fun x hx => .inl (by rw [List.mem_singleton.mp hx]; simp)), f2⟩
