/-! PHASE B declarations 36: the twin's loop over declarations: one step -/
set_option maxRecDepth 100000
variable {e : EE} {h : HP} {i : Nat} {IT : List It} {TY : List Ty} {QU : List (List Nat)}
/-- a declaration's word -/
def dW (T : Tk) : Prop := isW T (codes (cStr.getD (36 - 1) "")) ∨ isW T (codes (cStr.getD (43 - 1) "")) ∨ isW T (codes (cStr.getD (59 - 1) "")) ∨ isW T (codes (cStr.getD (48 - 1) "")) ∨ isW T (codes (cStr.getD (65 - 1) ""))
theorem all_e {L : Nat} {ih : HP → Rs (Unit ⊕ Unit)} (q : PM e h i IT TY QU) : ∃ v : Int32, b_X48_all_l0 e.Q L ih h = (if (tk e.TS i).1 = 0 then rok (Sum.inr ()) h else f_X48_all_l0b60 e.Q L ih v h) ∧ (v = 0 ∨ v = 1) ∧ (v = 1 ↔ dW (tk e.TS i)) := by
  obtain ⟨m1, m2, m3, m4, m5, m6⟩ := q.mt0
  have V9 := q.V.2.2.2.2.2.2.2
  obtain ⟨v, hv, hw⟩ : ∃ v : Int32, (v = 0 ∨ v = 1) ∧ (v = 1 ↔ dW (tk e.TS i)) := by
    by_cases c : dW (tk e.TS i)
    · exact ⟨1, .inr rfl, fun _ => c, fun _ => rfl⟩
    · exact ⟨0, .inl rfl, fun y => absurd y (by decide), fun y => absurd y c⟩
  refine ⟨v, ?_, hv, hw⟩
  have v1 : dW (tk e.TS i) → v = 1 := hw.mpr
  unfold b_X48_all_l0 f_X48_all_l0b55
  rw [m46_e q, mtok_e q, ldI_e m1, m2]
  by_cases z : (tk e.TS i).1 = 0
  · rw [if_pos ((nk _ (c := 0) (C := (0 : Int32)) rfl (by omega) (by omega)).mpr z), if_pos z]
  rw [if_neg (fun y => z ((nk _ (c := 0) (C := (0 : Int32)) rfl (by omega) (by omega)).mp y)), if_neg z, m46_e q, misK_e q (by decide) (by decide) rfl]
  by_cases c1 : isW (tk e.TS i) (codes (cStr.getD (36 - 1) ""))
  · rw [if_pos c1, if_neg z10, v1 (.inl c1)]
  rw [if_neg c1, if_pos y00, m46_e q, misK_e q (by decide) (by decide) rfl]
  by_cases c2 : isW (tk e.TS i) (codes (cStr.getD (43 - 1) ""))
  · rw [if_pos c2, if_neg z10, v1 (.inr (.inl c2))]
  rw [if_neg c2, if_pos y00, m46_e q, misK_e q (by decide) (by decide) rfl]
  by_cases c3 : isW (tk e.TS i) (codes (cStr.getD (59 - 1) ""))
  · rw [if_pos c3, if_neg z10, v1 (.inr (.inr (.inl c3)))]
  rw [if_neg c3, if_pos y00, m46_e q, misK_e q (by decide) (by decide) rfl]
  by_cases c4 : isW (tk e.TS i) (codes (cStr.getD (48 - 1) ""))
  · rw [if_pos c4, if_neg z10, v1 (.inr (.inr (.inr (.inl c4))))]
  rw [if_neg c4, if_pos y00, m46_e q, misK_e q (by decide) (by decide) rfl]
  by_cases c5 : isW (tk e.TS i) (codes (cStr.getD (65 - 1) ""))
  · rw [if_pos c5, if_neg z10, v1 (.inr (.inr (.inr (.inr c5))))]
  · have v0 : v = 0 := hv.resolve_right fun y => by
      rcases hw.mp y with y | y | y | y | y
      · exact c1 y
      · exact c2 y
      · exact c3 y
      · exact c4 y
      · exact c5 y
    rw [if_neg c5, if_pos y00, v0]
/-- no word of a declaration: the component fails where it stands -/
theorem decl_no (p : PX e h i TY QU) (kP : kc h e.P = 12) (c : ¬ dW (tk e.TS i)) : ∃ h', f_X11_declaration e.P h = rex h' ∧ St [] [e.t, e.st] 0 h h' ∧ StopX e h' (tk e.TS i).2.1 := by
  have V := p.V
  have n : ∀ {s : Nat}, codes (cStr.getD (s - 1) "") ∈ KW → (isW (tk e.TS i) (codes (cStr.getD (s - 1) "")) → dW (tk e.TS i)) → ¬ isX (tk e.TS i) (codes (cStr.getD (s - 1) "")) := fun hw f z => c (f ((isX_W V hw).mp z))
  obtain ⟨h', e1, s1, f1⟩ := xexpN p (s := 43) (by decide) (by decide) rfl (n (by decide) (fun z => .inr (.inl z)))
  refine ⟨h', ?_, s1, f1⟩
  unfold f_X11_declaration
  rw [xt12_e kP p, x10_e p, xaccN p (s := 59) (by decide) (by decide) rfl (n (by decide) (fun z => .inr (.inr (.inl z)))), if_pos y00, xt12_e kP p, x10_e p, xaccN p (s := 48) (by decide) (by decide) rfl (n (by decide) (fun z => .inr (.inr (.inr (.inl z))))), if_pos y00, xt12_e kP p, x10_e p, xaccN p (s := 65) (by decide) (by decide) rfl (n (by decide) (fun z => .inr (.inr (.inr (.inr z))))), if_pos y00, xt12_e kP p, x10_e p, xaccN p (s := 36) (by decide) (by decide) rfl (n (by decide) (fun z => .inl z)), xt12_e kP p, x10_e p, e1]
