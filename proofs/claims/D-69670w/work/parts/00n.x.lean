/-! PHASE B settle 43: the twin: all fields -/
set_option maxRecDepth 100000
variable {F K : List Nat} {c : Nat} {h h' h0 : HP} {mx : Nat → Nat} {ds : List DC} {W : Nat → Prop} {H tr L q a j k i p s b r : Nat} {AR : AT}
def TwF (W : Nat → Prop) (h : HP) (mx : Nat → Nat) (ds : List DC) (r : Nat) : Prop := ∀ k, k < r → LsS h (fr h 377 (mx (10 + k))) 159 (VaN W) (fds ds (10 + k))
abbrev F377 : List Nat := [377]
theorem xm377 : Xm F377 [] := ⟨by constructor <;> decide, by decide, by decide⟩
def cFd (ds : List DC) (k : Nat) : Nat := (up ds (10 + k)).length + 1 + 3 * (fds ds (10 + k)).length
theorem TwF_ef {F K : List Nat} (S : SM W h H tr mx ds) (u : Ef F K c h h') (s : Sx F K) (h1 : 377 ∉ F) (h2 : 159 ∉ K) (hr : r ≤ ds.length) (x : TwF W h mx ds r) : TwF W h' mx ds r := fun k hk => by
  have k0 := S.kk (k := 10 + k) (by omega)
  rw [u.gr k0.1 (by decide) h1]
  exact LsS_ef u (x k hk) (by decide) h2 (fun _ _ z => VaN_ef u s z)
theorem l279_e (o : ok3 ds) (x : MK W h H tr L mx ds AR) (I : TyI W h ds AR) (fl : ∀ j, (fds ds j).length ≤ 140) :
    ∃ h', f_X4_rounds_l279 H NN (0 : Int32) h = rok () h' ∧ Ef F377 [] (sm (cFd ds) ds.length) h h' ∧ MK W h' H tr L mx ds AR ∧ TyI W h' ds AR ∧ TwF W h' mx ds ds.length ∧ Cz W h h' := by
  have n60 := o.1.1.1
  refine loop_NN (n := ds.length) (F := f_X4_rounds_l279 H) (i := 0) (h := h) (by omega) (fun r h' => Ef F377 [] (sm (cFd ds) r) h h' ∧ MK W h' H tr L mx ds AR ∧ TyI W h' ds AR ∧ TwF W h' mx ds r ∧ Cz W h h')
    (fun R => ∃ h', R = rok () h' ∧ Ef F377 [] (sm (cFd ds) ds.length) h h' ∧ MK W h' H tr L mx ds AR ∧ TyI W h' ds AR ∧ TwF W h' mx ds ds.length ∧ Cz W h h') ?_ ?_ (Nat.zero_le _) ⟨(Ef.refl x.1.1 _ _).le (by omega), x, I, fun k hk => by omega, Cz.refl⟩
  · rintro N r h1 hr ⟨u1, X1, I1, T1, cz1⟩ next
    have r1 := up_rk o (10 + r)
    have r2 := rnk_le (ds := ds) (j := 10 + r)
    obtain ⟨h2, p, e2, u2, z2, k2, c2, A2'⟩ := fieldsOf_e o fl (10 + r) (by omega) 100 h1 (by omega) X1
    have e2' : f_X4_fieldsOf 100 (mx (10 + r)) h1 = rok p h2 := e2
    have X2 := MK_ef u2 xm00 X1
    have k0 := X2.1.kk (k := 10 + r) (by omega)
    have u3 : Ef F377 [] 0 h2 (sR h2 377 (mx (10 + r)) p) := (Ef.refl u2.1 _ _).sR k0.1 (by decide) (.inr (by simp))
    have u2' : Ef F377 [] (cFd ds r) h1 h2 := u2.wk (fun _ z => by simp at z) (fun _ z => z) (Nat.le_refl _)
    rw [f_X4_rounds_l279_s]
    unfold b_X4_rounds_l279
    rw [ldI_e X1.1.2.1.1, X1.1.2.1.2.2.2, if_neg (sz_no hr (by omega)), tm_e X1.1 X1.tb hr, if_pos X1.1.2.1.1, told_e X1.1 X1.tb hr, e2', bd_ok, stR_e k0.1, lt3_n]
    refine next _ ⟨((u1.trans u2').trans u3).le (Nat.le_refl _), MK_ef u3 xm377 X2, TyI_ef u3 xm377.1 (by decide) (TyI_ef u2 sx00 (by simp) I1), fun k hk => ?_, (cz1.trans (Cz_ef u2 (by simp) I1)).trans (Cz_ef u3 (by decide) (TyI_ef u2 sx00 (by simp) I1))⟩
    have T2 := TwF_ef X1.1 u2 sx00 (by simp) (by simp) (Nat.le_of_lt hr) T1
    rw [fr_sR]
    by_cases z : k = r
    · rw [z, if_pos ⟨rfl, rfl⟩]
      exact LsS_ef u3 ⟨k2, c2, A2'⟩ (by decide) (by simp) (fun _ _ z => VaN_ef u3 xm377.1 z)
    · rw [if_neg (fun w => z (by have := X2.1.inj (i := 10 + k) (j := 10 + r) (by omega) (by omega) w.2; omega))]
      exact LsS_ef u3 (T2 k (by omega)) (by decide) (by simp) (fun _ _ z => VaN_ef u3 xm377.1 z)
  · rintro N h1 ⟨u1, X1, I1, T1, cz1⟩
    rw [f_X4_rounds_l279_s]
    unfold b_X4_rounds_l279
    rw [ldI_e X1.1.2.1.1, X1.1.2.1.2.2.2, if_pos (sz_le (Nat.le_refl _) (by omega))]
    exact ⟨h1, rfl, u1, X1, I1, T1, cz1⟩
