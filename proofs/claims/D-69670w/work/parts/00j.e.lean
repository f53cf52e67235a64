/-! PHASE B declarations 5: kinds are begun in the twin; lists that are made -/
set_option maxRecDepth 100000
theorem LsX.nilc {β γ : Type} {F : Nat → Prop} {h h' : HP} {l c : Nat} {P : HP → Nat → β → Prop} {Q : HP → Nat → γ → Prop} (x : LsX F h l c P []) (h1 : kc h' l = kc h l) (h2 : cp h' l = cp h l) (h3 : ls h' l = ls h l) : LsX F h' l c Q [] := by
  obtain ⟨x0, x1, x2, x3⟩ := x
  refine ⟨x0, h1.trans x1, by rw [h2]; exact x2, ?_⟩
  rw [h3]
  cases hl : ls h l with
  | nil => exact True.intro
  | cons a m => rw [hl] at x3; exact x3.elim
theorem KdP_wI {F : Nat → Prop} {h : HP} {a num f : Nat} {v : Int32} (x : KdP F h a num) (hf : f = 363 ∨ f = 364 ∨ f = 366) : KdP F (sI h f a v) a num := by
  obtain ⟨k0, m0, m1, m2, m3, m4, m5, m6, m7, m8, m9, ma, mb, mc, md⟩ := x
  have g : ∀ g, g ≠ f → fi (sI h f a v) g a = fi h g a := fun g hg => by rw [fi_sI, if_neg (fun y => hg y.1)]
  exact ⟨k0, (g _ (by omega)).trans m0, (g _ (by omega)).trans m1, (g _ (by omega)).trans m2, m3, m4.nilc rfl rfl rfl, m5.nilc rfl rfl rfl, m6.nilc rfl rfl rfl, m7.nilc rfl rfl rfl, m8.nilc rfl rfl rfl, m9, ma.nilc rfl rfl rfl, mb, (g _ (by omega)).trans mc, md⟩
theorem KdP_wR {F : Nat → Prop} {h : HP} {a num v : Nat} (x : KdP F h a num) : KdP F (sR h 365 a v) a num := by
  obtain ⟨k0, m0, m1, m2, m3, m4, m5, m6, m7, m8, m9, ma, mb, mc, md⟩ := x
  have g : ∀ g, g ≠ 365 → fr (sR h 365 a v) g a = fr h g a := fun g hg => by rw [fr_sR, if_neg (fun y => hg y.1)]
  refine ⟨k0, m0, m1, m2, (g _ (by decide)).trans m3, ?_, ?_, ?_, ?_, ?_, (g _ (by decide)).trans m9, ?_, (g _ (by decide)).trans mb, mc, (g _ (by decide)).trans md⟩
  · rw [g _ (by decide)]; exact m4.nilc rfl rfl rfl
  · rw [g _ (by decide)]; exact m5.nilc rfl rfl rfl
  · rw [g _ (by decide)]; exact m6.nilc rfl rfl rfl
  · rw [g _ (by decide)]; exact m7.nilc rfl rfl rfl
  · rw [g _ (by decide)]; exact m8.nilc rfl rfl rfl
  · rw [g _ (by decide)]; exact ma.nilc rfl rfl rfl
theorem KdM_of {F : Nat → Prop} {h : HP} {a num form ab at' : Nat} {nm : List Nat} (x : KdP F h a num) (h1 : fi h 363 a = nI form) (h2 : fi h 364 a = nI ab) (h3 : StrX h (fr h 365 a) nm) (h4 : fi h 366 a = nI at') : KdM F h a num (form, (nm, at'), ab, none, [], [], []) := by
  obtain ⟨k0, m0, m1, m2, m3, m4, m5, m6, m7, m8, m9, ma, mb, mc, md⟩ := x
  exact ⟨k0, m0, h1, h2, h3, h4, m1, m2, m3, m4.nilc rfl rfl rfl, m5.nilc rfl rfl rfl, m6.nilc rfl rfl rfl, m7.nilc rfl rfl rfl, m8.nilc rfl rfl rfl, m9, ma.nilc rfl rfl rfl, mb, mc, md⟩
theorem kdm_new {h : HP} (w : WG h) {n : Nat} : ∃ h', (∀ {β : Type} {K : Nat → HP → Rs β}, (nwO 47 18 h fun p h2 => if kc h2 p = 47 then bd (f_X49_init p (nI n) h2) (fun _ h3 => K p h3) else none) = K (nx h) h') ∧ St [] [] 7 h h' ∧ KdP (Fb (nx h) (nx h')) h' (nx h) n ∧ fi h' 363 (nx h) = 0 ∧ fi h' 364 (nx h) = 0 := by
  have z := w.2.1 (nx h) (Nat.le_refl _)
  obtain ⟨h1, e1, s1, n1, c0, c1, c2, c3, c4, c5, c6, f367, f370, f371, f372, f373, f374, f376, f362, z363, z364, z368, z369, z375, z377, z378, z379, a1, b1, a2, b2, a3, b3, a4, b4, a5, b5, a6, b6⟩ := mk_kdm w (v := nI n)
  have fF : ∀ j, 1 ≤ j → j ≤ 6 → Fb (nx h) (nx h1) (nx h + j) := fun j h0 hj => ⟨by omega, by omega⟩
  have l1 : ∀ {f c j : Nat}, 1 ≤ j → j ≤ 6 → fr h1 f (nx h) = nx h + j → kc h1 (nx h + j) = c → cp h1 (nx h + j) ≠ RAW → ls h1 (nx h + j) = [] → LsX (Fb (nx h) (nx h1)) h1 (fr h1 f (nx h)) c StrX ([] : List (List Nat)) := by
    intro f c j h0 hj hf hk hc hl
    rw [hf]; exact list_at (fF j h0 hj) hk hc hl
  refine ⟨h1, fun {β K} => ?_, s1, ⟨c0, f362, f367, z368, z369, l1 (by omega) (by omega) f370 c1 a1 b1, l1 (by omega) (by omega) f371 c2 a2 b2, l1 (by omega) (by omega) f372 c3 a3 b3, l1 (by omega) (by omega) f373 c4 a4 b4, l1 (by omega) (by omega) f374 c5 a5 b5, z375, l1 (by omega) (by omega) f376 c6 a6 b6, z377, z378, z379⟩, z363, z364⟩
  rw [nwO_e, if_pos kc_nO_n, e1]
