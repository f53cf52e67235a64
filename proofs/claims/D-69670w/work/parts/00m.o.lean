/-! PHASE B settle 15: the twin: all relations; parents above a kind -/
set_option maxRecDepth 100000
variable {F K : List Nat} {c : Nat} {h h' h0 : HP} {mx : Nat → Nat} {ds : List DC} {W : Nat → Prop} {H tr L Q k : Nat} {as : List Nat} {pa : Nat → Option Nat} {fa : Nat → List Nat}
theorem SM.n54 {β : Type} {f : Int32 → Rs β} (S : SM W h H tr mx ds) : ldI 5 54 H h f = f (nI ds.length) := by rw [ldI_e S.2.1.1, S.2.1.2.2.2]
theorem r2_l (S : SM W h H tr mx ds) (T : TbM h H L mx ds.length as) (R : RM h mx (10 + ds.length) (paF ds 0) (faF ds 0)) (u : Ef FRm [134] c h0 h) :
    match frs (bad2 ds) ds.length with
    | none => ∃ h', f_X4_rounds_l99 H Q NN (nI 0) h = rok () h' ∧ Ef FRm [134] (c + 10 * sm (nfc ds) ds.length) h0 h' ∧ SM W h' H tr mx ds ∧ TbM h' H L mx ds.length as ∧ RM h' mx (10 + ds.length) (paF ds ds.length) (faF ds ds.length)
    | some p => ∃ h', f_X4_rounds_l99 H Q NN (nI 0) h = rex h' ∧ Ef FRm [134] (c + 10 * sm (nfc ds) ds.length + 1) h0 h' ∧ WrM h' tr p := by
  have n60 := S.2.2.1.1
  refine loop_NN (n := ds.length) (F := f_X4_rounds_l99 H Q) (by omega) (fun i h' => Ef FRm [134] (c + 10 * sm (nfc ds) i) h0 h' ∧ SM W h' H tr mx ds ∧ TbM h' H L mx ds.length as ∧ RM h' mx (10 + ds.length) (paF ds i) (faF ds i) ∧ frs (bad2 ds) i = none)
    (fun r => match frs (bad2 ds) ds.length with
    | none => ∃ h', r = rok () h' ∧ Ef FRm [134] (c + 10 * sm (nfc ds) ds.length) h0 h' ∧ SM W h' H tr mx ds ∧ TbM h' H L mx ds.length as ∧ RM h' mx (10 + ds.length) (paF ds ds.length) (faF ds ds.length)
    | some p => ∃ h', r = rex h' ∧ Ef FRm [134] (c + 10 * sm (nfc ds) ds.length + 1) h0 h' ∧ WrM h' tr p) ?_ ?_ (Nat.zero_le _) ⟨u, S, T, R, rfl⟩
  · rintro N i h1 hi ⟨u1, S1, T1, R1, hn⟩ next
    rw [f_X4_rounds_l99_s]
    unfold b_X4_rounds_l99
    have E := above_e hi (paF_no (by omega)) (faF_no (by omega)) S1 T1 R1 u1
    have le := sm_le (f := nfc ds) hi
    rw [S1.n54, if_neg (sz_no hi (by omega)), tm_e S1 T1 hi, if_pos T1.1]
    cases g : bad2 ds i with
    | none =>
      rw [g] at E
      obtain ⟨h2, e2, u2, S2, T2, R2⟩ := E
      rw [e2, bd_ok, lt3_n]
      exact next h2 ⟨u2.le (by show c + 10 * sm (nfc ds) i + 10 * nfc ds i ≤ c + 10 * (sm (nfc ds) i + nfc ds i); omega), S2, T2, RM_cg (fun j _ => paF_s i j) (fun j _ => faF_s i j) R2, (frs_s hn).trans g⟩
    | some p =>
      rw [g] at E
      obtain ⟨h2, e2, u2, w2⟩ := E
      rw [e2, bd_ex, frs_at hn g hi]
      exact ⟨h2, rfl, u2.le (by show c + 10 * sm (nfc ds) i + 10 * nfc ds i + 1 ≤ _; omega), w2⟩
  · rintro N h1 ⟨u1, S1, T1, R1, hn⟩
    rw [f_X4_rounds_l99_s]
    unfold b_X4_rounds_l99
    rw [S1.n54, if_pos (sz_le (Nat.le_refl _) (by omega)), hn]
    exact ⟨h1, rfl, u1, S1, T1, R1⟩
theorem xoM {o : Option Nat} (S : SM W h H tr mx ds) (ho : ∀ k, o = some k → k < 10 + ds.length) : (kxo mx o = 0) ↔ o = none := by
  cases o with
  | none => exact ⟨fun _ => rfl, fun _ => rfl⟩
  | some k => exact ⟨fun z => absurd z (S.k0 (ho k rfl)), fun z => by cases z⟩
theorem l21_e (hk : k < ds.length) (S : SM W h H tr mx ds) (R : RM h mx (10 + ds.length) (paF ds ds.length) fa) :
    ∃ b : Bool, f_X4_isAboveItself_l21 H (mx (10 + k)) NN (kxo mx (par ds k)) (nI 0) h = rok (if b then Sum.inl () else Sum.inr ()) h ∧ (b = true ↔ ∃ i, i < ds.length ∧ pp ds k i = some (10 + k)) := by
  have n60 := S.2.2.1.1
  exact loop_SN (σ := Nat × Int32 × HP) (n := ds.length) (G := fun N s => f_X4_isAboveItself_l21 H (mx (10 + k)) N s.1 s.2.1 s.2.2) (by omega)
    (fun i s => s.2.2 = h ∧ s.2.1 = nI i ∧ s.1 = kxo mx (pp ds k i) ∧ ∀ j, j < i → pp ds k j ≠ some (10 + k))
    (fun r => ∃ b : Bool, r = rok (if b then Sum.inl () else Sum.inr ()) h ∧ (b = true ↔ ∃ i, i < ds.length ∧ pp ds k i = some (10 + k)))
    (fun N i s hi I next => by
      obtain ⟨a, b, h1⟩ := s
      obtain ⟨e1, e2, e3, hj⟩ := I
      have e1 : h1 = h := e1
      have e2 : b = nI i := e2
      have e3 : a = kxo mx (pp ds k i) := e3
      subst e1 e2 e3
      show ∃ b : Bool, f_X4_isAboveItself_l21 H (mx (10 + k)) (N + 1) (kxo mx (pp ds k i)) (nI i) h1 = _ ∧ _
      rw [f_X4_isAboveItself_l21_s]
      unfold b_X4_isAboveItself_l21
      rw [S.n54, if_neg (sz_no hi (by omega))]
      cases g : pp ds k i with
      | none =>
        rw [if_pos (show kxo mx none = 0 from rfl)]
        refine ⟨false, rfl, ⟨fun z => (by cases z), fun ⟨j, h1, h2⟩ => ?_⟩⟩
        by_cases z : j < i
        · exact absurd h2 (hj j z)
        · obtain ⟨q, hq⟩ := pp_some h2 i (by omega)
          rw [g] at hq; cases hq
      | some p =>
        obtain ⟨_, p2, p3⟩ := pp_c g
        have kp := S.kk p2
        rw [show kxo mx (some p) = mx p from rfl, if_neg (S.k0 p2), eqR_e kp.1 (by decide)]
        by_cases z : p = 10 + k
        · rw [if_pos (by rw [z])]
          exact ⟨true, rfl, ⟨fun _ => ⟨i, hi, by rw [g, z]⟩, fun _ => rfl⟩⟩
        · rw [if_neg (fun y => z (S.inj p2 (by omega) y)), ldR_e kp.1, lt3_n]
          obtain ⟨r1, _⟩ := R p p2
          refine next (fr h1 375 (mx p), nI (i + 1), h1) ⟨rfl, rfl, ?_, fun j h1 => ?_⟩
          · show fr h1 375 (mx p) = _
            rw [r1, pp_s, g]
          · by_cases y : j = i
            · rw [y, g]; exact fun x => z (by cases x; rfl)
            · exact hj j (by omega))
    (fun N s I => by
      obtain ⟨a, b, h1⟩ := s
      obtain ⟨e1, e2, e3, hj⟩ := I
      have e1 : h1 = h := e1
      have e2 : b = nI ds.length := e2
      subst e1 e2
      show ∃ b : Bool, f_X4_isAboveItself_l21 H (mx (10 + k)) (N + 1) a (nI ds.length) h1 = _ ∧ _
      rw [f_X4_isAboveItself_l21_s]
      unfold b_X4_isAboveItself_l21
      rw [S.n54, if_pos (sz_le (Nat.le_refl _) (by omega))]
      exact ⟨false, rfl, ⟨fun z => (by cases z), fun ⟨j, h1, h2⟩ => absurd h2 (hj j h1)⟩⟩) (i := 0) (s := (kxo mx (par ds k), nI 0, h)) (Nat.zero_le _) ⟨rfl, rfl, rfl, fun j hj => by omega⟩
