/-! PHASE B settle 13: the component: closed, and whether a kind is above itself -/
set_option maxRecDepth 100000
variable {F K : List Nat} {c : Nat} {h h' h0 : HP} {e : EE} {kx ax : Nat → Nat} {ds : List DC} {C DL kl : Nat} {as : List Nat}
abbrev KCA : List Nat := [282, 103]
theorem sxCA : Sx FC KCA := by constructor <;> decide
theorem close_e (S : SX e h C DL kx ax ds) (T : TbX h C kl kx ds.length []) (R : RX h kx (10 + ds.length) (paF ds ds.length) (faF ds ds.length)) (Rf : FX h kx (10 + ds.length) (laF ds 0)) :
    ∃ h', f_X11_close e.P h = rok () h' ∧ Ef FC KCA (ds.length + 2 * (10 + ds.length) * ds.length) h h' ∧ SX e h' C DL kx ax ds ∧ TbX h' C kl kx ds.length [] ∧ RX h' kx (10 + ds.length) (paF ds ds.length) (faF ds ds.length) ∧ AX h' kx ds.length ds.length (Wn ds) ∧ FX h' kx (10 + ds.length) (laF ds ds.length) := by
  unfold f_X11_close
  obtain ⟨h1, e1, u1, S1, R1, X1⟩ := cl10 S R (Ef.refl S.1 FC KC)
  obtain ⟨h2, e2, u2, S2, X2⟩ := cl113 S1 X1
  have T2 := TbX_ef (u1.trans u2) sxC (by decide) T
  have R2 := RX_ef S1 u2 (by decide) (by decide) (by decide) R1
  have F2 := FX_ef S (u1.trans u2) (by decide) (by decide) Rf
  obtain ⟨h3, e3, u3, F3⟩ := cl247 S2 T2 X2 F2
  rw [S.p161, if_pos S.2.2.2.2.2.2.2, size_e T, show (10 + ds.length + ([] : List Nat).length) = 10 + ds.length from rfl, show (0 : Int32) = nI 0 from rfl, e1, bd_ok, e2, bd_ok, e3, bd_ok]
  refine ⟨h3, rfl, ?_, SX_ef u3 sxA S2, TbX_ef u3 sxA (by decide) T2, RX_ef S2 u3 (by simp) (by simp) (by decide) R2, AX_ef u3 (fun t ht => S2.k4 ht) (by simp) (by decide) X2, F3⟩
  have a1 : Ef FC KCA (0 + ds.length) h h1 := u1.wk (fun _ z => z) (fun k z => by simp at z ⊢; exact .inl z) (Nat.le_refl _)
  have a2 : Ef FC KCA 0 h1 h2 := u2.wk (fun _ z => z) (fun k z => by simp at z ⊢; exact .inl z) (Nat.le_refl _)
  have a3 : Ef FC KCA (2 * (10 + ds.length) * ds.length) h2 h3 := u3.wk (fun _ z => by simp at z) (fun k z => by simp at z ⊢; exact .inr z) (Nat.le_refl _)
  exact ((a1.trans a2).trans a3).le (by omega)
theorem s3_l (S : SX e h C DL kx ax ds) (X : AX h kx ds.length ds.length (Wn ds)) :
    match frs (bad3 ds) ds.length with
    | none => f_X11_settle_l98 e.P NN (nI 0) h = rok (Sum.inr ()) h
    | some p => ∃ k, k < ds.length ∧ f_X11_settle_l98 e.P NN (nI 0) h = rok (Sum.inl (nI k)) h ∧ (dc ds k).2.1.2 = p := by
  have n60 := S.2.2.2.1.1
  refine loop_NN (n := ds.length) (F := f_X11_settle_l98 e.P) (by omega) (fun i h' => h' = h ∧ frs (bad3 ds) i = none) (fun r => match frs (bad3 ds) ds.length with | none => r = rok (Sum.inr ()) h | some p => ∃ k, k < ds.length ∧ r = rok (Sum.inl (nI k)) h ∧ (dc ds k).2.1.2 = p) ?_ ?_ (Nat.zero_le _) ⟨rfl, rfl⟩
  · rintro N i h' hi ⟨rfl, hn⟩ next
    rw [f_X11_settle_l98_s]
    unfold b_X11_settle_l98
    have k0 := S.kk (i := 10 + i) (by omega)
    rw [S.p162, S.dsz, if_neg (sz_no hi (by omega)), S.p162, S.dg hi, S.c13 hi, S.d163 hi, ldR_e k0.1, S.p162, S.dg hi, S.c13 hi, S.d163 hi, ldI_e k0.1, k0.2.1, Rw_ld (X.1 i hi) (by decide) (by omega) (by omega), zB_if]
    by_cases g : Wn ds i (10 + i) = true
    · rw [if_pos g, frs_at hn (p := (dc ds i).2.1.2) (by unfold bad3; rw [if_pos g]) hi]
      exact ⟨i, hi, rfl, rfl⟩
    · rw [if_neg g, lt3_n]
      exact next h' ⟨rfl, (frs_s hn).trans (by unfold bad3; rw [if_neg g])⟩
  · rintro N h' ⟨rfl, hn⟩
    rw [f_X11_settle_l98_s]
    unfold b_X11_settle_l98
    rw [S.p162, S.dsz, if_pos (sz_le (Nat.le_refl _) (by omega)), hn]
