/-! PHASE B declarations 30: records; what stands behind a name, by form -/
set_option maxRecDepth 100000
variable {e : EE} {Zx Zm : List Nat} {hx hm h h1 h2 h' hx0 hm0 hxA hmA : HP} {i j a b k X Y bx bm l1 l2 l3 : Nat} {IT : List It} {TY : List Ty} {QU : List (List Nat)} {F G : Nat → Prop} {KL : List Nat} {d : DC} {TY' : List Ty} {QU' : List (List Nat)} {num : Nat × Nat}
theorem met_none {d : DC} {ms : List Mb} (h0 : d.met = []) (h : ∀ m ∈ ms, m.2 = none) : (addB d ms).met = [] := by
  unfold DC.met addB at *
  rw [List.filterMap_append, h0, List.nil_append]
  induction ms with
  | nil => rfl
  | cons m ms ih =>
    rw [List.filterMap_cons_none (by rw [h m (by simp)]; rfl)]
    exact ih (fun m hm => h m (by simp [hm]))
theorem comps_pair (C : Dc e Zx Zm hx0 hm0) (Bb : Bx Zx Zm hx0 hm0 bx bm) (hdl : d.2.2.2.2.2.1.length ≤ i) (S : Dq e Zx Zm hx0 hm0 X Y hx hm i TY QU []) (Cu : Cur e bx bm hx hm a k num d) :
    (∃ hx' hm' j ms TY', f_X11_components e.P a hx = rok () hx' ∧ f_X48_components e.Q k hm = rok () hm' ∧ i < j ∧ Dq e Zx Zm hx0 hm0 (X + 88 * (j - i)) (Y + 88 * (j - i)) hx' hm' j TY' QU [] ∧ Cur e bx bm hx' hm' a k num (addB d ms) ∧ d.2.2.2.2.2.1.length + ms.length ≤ j ∧ ms.length + i ≤ j ∧ ∀ m ∈ ms, m.2 = none) ∨
    DF e Zx Zm hx0 hm0 (X + 88 * (e.TS.length - i)) (Y + 88 * (e.TS.length - i)) (f_X11_components e.P a hx) (f_X48_components e.Q k hm) := by
  have p := S.2.2.1.1
  have q := S.2.2.2
  have kP := (S.cl C).2.1
  have hi := q.jj.1
  have w9 : codes (cStr.getD (9 - 1) "") ∈ SW := by decide
  have w10 : codes (cStr.getD (10 - 1) "") ∈ SW := by decide
  unfold f_X11_components f_X48_components
  rw [xt12_e kP p, x10_e p, m46_e q]
  by_cases c : isX (tk e.TS i) (codes (cStr.getD (9 - 1) ""))
  case neg =>
    obtain ⟨hx9, e9, s9', f9⟩ := xexpN p (by decide) (by decide) rfl c
    obtain ⟨hm9, ea, sa, fa⟩ := msgnN q (by decide) (by decide) rfl (fun z => c ((isX_S p.V w9).mpr z))
    rw [e9, ea]
    exact .inr ((Dq.err C S s9' f9 sa fa).le (by omega) (by omega))
  have d1 := (isX_S p.V w9).mp c
  rw [xexpY p (by decide) (by decide) rfl c, msgnY q (by decide) (by decide) rfl d1]
  have q1 := (mfwd_s q (go_of d1)).2
  have hi1 := q1.jj.1
  have t1 : MS e 0 hm (fwd e hm i) := MS.Q (mfwd_s q (go_of d1)).1
  rw [m46_e q1, misS_e q1 (by decide) (by decide) rfl]
  rcases adv p q (go_of d1) with ⟨hx1, e1, s1, p1, _, _⟩ | ⟨hx1, P, e1, s1, f1, n1, _⟩
  case inr =>
    have N1 := PN_at n1 q1
    obtain ⟨hm7, e8, s8, f8⟩ := mtypeN q1 (fun z => by
      rcases z with z | z
      · omega
      · have := z.1; omega)
    rw [e1, if_neg (fun z => by have := z.1; omega), if_pos y00, show NN = (NN - 1) + 1 from rfl, f_X48_components_l15_s]
    unfold b_X48_components_l15
    rw [m46_e q1, e8, bd_ex]
    exact .inr ⟨P, hx1, rfl, (C.xxZ S.1 s1).le (by omega), f1, .inl ⟨hm7, rfl, (C.trZ (C.mmZ S.2.1 t1) s8).le (by omega), N1.2 ▸ f8⟩⟩
  have S1 := S.tr C s1 t1 p1 q1
  have Cu1 := Cu.st p q C.1 s1 t1
  have kP1 := (S1.cl C).2.1
  rw [e1, xt12_e kP1 p1, x10_e p1, xis_e p1 (by decide) (by decide) rfl]
  generalize fwd e hm i = hm1 at *
  by_cases c2 : isX (tk e.TS (i + 1)) (codes (cStr.getD (10 - 1) ""))
  · have d2 := (isX_S p1.V w10).mp c2
    rw [if_pos c2, if_neg z10, if_pos d2, if_neg z10]
    unfold f_X11_components_b26
    rw [show NN = (NN - 1) + 1 from rfl, f_X11_components_l27_s]
    unfold b_X11_components_l27
    rw [if_pos y00, bd_ok, xt12_e kP1 p1, x10_e p1, xexpY p1 (by decide) (by decide) rfl c2, m46_e q1, msgnY q1 (by decide) (by decide) rfl d2]
    rcases adv p1 q1 (go_of d2) with ⟨hx2, e2, s2, p2, q2, t2⟩ | ⟨hx2, P, e2, s2, f2, n2, t2⟩
    · have S2 := S1.tr C s2 t2 p2 q2
      rw [e2]
      exact .inl ⟨hx2, _, i + 1 + 1, [], TY, rfl, rfl, by omega, ⟨S2.1.le (by omega), S2.2.1.le (by omega), S2.2.2⟩, by rw [addB_nil]; exact Cu1.st p1 q1 C.1 s2 t2, by simp; omega, by simp; omega, by simp⟩
    · have := (mfwd_s q1 (go_of d2)).2.jj.1
      rw [e2]
      exact .inr ((Dq.none C S1 s2 f2 t2 (MF.ok n2 ())).le (by omega) (by omega))
  · have d2 : ¬ isS (tk e.TS (i + 1)) (codes (cStr.getD (10 - 1) "")) := fun z => c2 ((isX_S p1.V w10).mpr z)
    rw [if_neg c2, if_pos y00, if_neg d2, if_pos y00]
    unfold f_X11_components_b26
    rcases comp_l C Bb 301 hx1 hm1 (i + 1) _ _ d TY NN NN (Nat.lt_of_lt_of_le (by omega) (NN_ge (k := 400) (by omega))) (Nat.lt_of_lt_of_le (by omega) (NN_ge (k := 400) (by omega))) (by have := q.jj.2.2.2; omega) (by omega) S1 Cu1 with ⟨hx2, hm2, j, ms, TY2, e2, g2, hij, S2, Cu2, l2, hms, hn⟩ | f
    · have p2 := S2.2.2.1.1
      have q2 := S2.2.2.2
      have hj := q2.jj.1
      have kP2 := (S2.cl C).2.1
      rw [e2, g2, bd_ok, bd_ok, xt12_e kP2 p2, x10_e p2, m46_e q2]
      by_cases c3 : isX (tk e.TS j) (codes (cStr.getD (10 - 1) ""))
      · have d3 := (isX_S p2.V w10).mp c3
        rw [xexpY p2 (by decide) (by decide) rfl c3, msgnY q2 (by decide) (by decide) rfl d3]
        rcases adv p2 q2 (go_of d3) with ⟨hx3, e3, s3, p3, q3, t3⟩ | ⟨hx3, P, e3, s3, f3, n3, t3⟩
        · have S3 := S2.tr C s3 t3 p3 q3
          rw [e3]
          exact .inl ⟨hx3, _, j + 1, ms, TY2, rfl, rfl, by omega, ⟨S3.1.le (by omega), S3.2.1.le (by omega), S3.2.2⟩, Cu2.st p2 q2 C.1 s3 t3, by omega, by omega, hn⟩
        · have := (mfwd_s q2 (go_of d3)).2.jj.1
          rw [e3]
          exact .inr ((Dq.none C S2 s3 f3 t3 (MF.ok n3 ())).le (by omega) (by omega))
      · obtain ⟨hx9, e9, s9', f9⟩ := xexpN p2 (by decide) (by decide) rfl c3
        obtain ⟨hm9, ea, sa, fa⟩ := msgnN q2 (by decide) (by decide) rfl (fun z => c3 ((isX_S p2.V w10).mpr z))
        rw [e9, ea]
        exact .inr ((Dq.err C S2 s9' f9 sa fa).le (by omega) (by omega))
    · exact .inr ((DF_bd (c := 1) C f (fun P v h' il N z s n => v46 n (vSgn n (by decide) (by decide)))).le (by omega) (by omega))
/-- the twin behind a name -/
noncomputable def KMc (Q k : Nat) (h : HP) : Rs Nat := ldI 47 363 k h fun x10 => if x10 = (4 : Int32) then (if kc h Q = 46 then bd (f_X48_components Q k h) (fun _ h11 => f_X48_declaration_b138 Q k h11) else none) else f_X48_declaration_b138 Q k h
theorem b91_e {Q k : Nat} {s1 : Int32} {h : HP} : f_X48_declaration_b91 Q k k s1 h = (stI 47 363 k s1 h fun h1 => ldI 46 358 Q h1 fun x2 => stI 46 358 Q (x2 + (1 : Int32)) h1 fun h3 => nmM Q k (KMc Q k) h3) := rfl
/-- the component behind a name -/
noncomputable def TX (P form a : Nat) (h : HP) : Rs Unit := if form = 1 then exX P a h else if form = 2 then faX 50 P a h else if form = 3 then f_X11_enumeration P a h else bd (f_X11_components P a h) (fun _ h29 => faX 55 P a h29)
theorem b173_e {fm : Nat} (hf : fm ≤ 4) (k47 : kc h k = 47) (f : fi h 363 k = nI fm) : f_X48_declaration_b173 e.Q k h = f_X48_declaration_b189 e.Q k e.Q (if fm = 2 then 50 else 55) h := by
  unfold f_X48_declaration_b173
  rw [ldI_e k47, f]
  by_cases c : fm = 2
  · rw [if_pos ((nk _ (c := 2) (C := (2 : Int32)) rfl (by omega) (by omega)).mpr c), if_pos c]
  · rw [if_neg (fun z => c ((nk _ (c := 2) (C := (2 : Int32)) rfl (by omega) (by omega)).mp z)), if_neg c]
theorem b138_e {fm : Nat} (hf : fm ≤ 4) (h1 : fm ≠ 1) (k47 : kc h k = 47) (f : fi h 363 k = nI fm) : f_X48_declaration_b138 e.Q k h = f_X48_declaration_b189 e.Q k e.Q (if fm = 2 then 50 else 55) h := by
  unfold f_X48_declaration_b138
  rw [ldI_e k47, f, if_neg (fun z => h1 ((nk _ (c := 1) (C := (1 : Int32)) rfl (by omega) (by omega)).mp z)), b173_e hf k47 f]
theorem KMc_no {fm P : Nat} (hf : fm ≤ 4) (q : PM e h j IT TY QU) (n : (tk e.TS j).1 = 9 ∧ (tk e.TS j).2.1 = P) (k47 : kc h k = 47) (f : fi h 363 k = nI fm) : ∃ h5, KMc e.Q k h = rex h5 ∧ St [] [e.tr] 1 h h5 ∧ StopM e h5 P := by
  unfold KMc
  rw [ldI_e k47, f]
  by_cases c : fm = 4
  · obtain ⟨h', e1, t1, f1⟩ := msgnN q (s := 9) (by decide) (by decide) rfl (fun z => by have := z.1; omega)
    refine ⟨h', ?_, t1, n.2 ▸ f1⟩
    unfold f_X48_components
    rw [if_pos ((nk _ (c := 4) (C := (4 : Int32)) rfl (by omega) (by omega)).mpr c), m46_e q, m46_e q, e1, bd_ex]
  · rw [if_neg (fun z => c ((nk _ (c := 4) (C := (4 : Int32)) rfl (by omega) (by omega)).mp z))]
    obtain ⟨h', e1, t1, f1⟩ := b189_no (k := k) (s := if fm = 2 then 50 else 55) (by split <;> decide) (by split <;> decide) q n
    refine ⟨h', ?_, t1, f1⟩
    by_cases c1 : fm = 1
    · unfold f_X48_declaration_b138
      rw [ldI_e k47, f, if_pos ((nk _ (c := 1) (C := (1 : Int32)) rfl (by omega) (by omega)).mpr c1), m46_e q, misK_e q (by decide) (by decide) rfl, if_neg (fun z => by have := z.1; omega), if_pos y00, b173_e hf k47 f, e1]
    · rw [b138_e hf c1 k47 f, e1]
theorem b138_no {P : Nat} (q : PM e h j IT TY QU) (n : (tk e.TS j).1 = 9 ∧ (tk e.TS j).2.1 = P) (k47 : kc h k = 47) : ∃ h5, f_X48_declaration_b138 e.Q k h = rex h5 ∧ St [] [e.tr] 1 h h5 ∧ StopM e h5 P := by
  obtain ⟨h', e1, t1, f1⟩ := msgnN q (s := 72) (by decide) (by decide) rfl (fun z => by have := z.1; omega)
  refine ⟨h', ?_, t1, n.2 ▸ f1⟩
  have b189 : ∀ s, 1 ≤ s → s ≤ nStr → f_X48_declaration_b189 e.Q k e.Q s h = rex h' := fun s s1 s2 => by
    unfold f_X48_declaration_b189 f_X48_declaration_b221
    rw [m46_e q, misK_e q s1 s2 rfl, if_neg (fun z => by have := z.1; omega), if_pos y00, m46_e q, e1]
  have b173 : f_X48_declaration_b173 e.Q k h = rex h' := by
    unfold f_X48_declaration_b173
    rw [ldI_e k47]
    split
    · exact b189 50 (by decide) (by decide)
    · exact b189 55 (by decide) (by decide)
  unfold f_X48_declaration_b138
  rw [ldI_e k47]
  split
  · rw [m46_e q, misK_e q (by decide) (by decide) rfl, if_neg (fun z => by have := z.1; omega), if_pos y00]; exact b173
  · exact b173
/-- behind a name, by form -/
theorem tx_pair {form ab : Nat} {nm : Td} (hf : 1 ≤ form ∧ form ≤ 4) (C : Dc e Zx Zm hx0 hm0) (Bb : Bx Zx Zm hx0 hm0 bx bm) (a0 : a ∈ Zx ∨ kc hx0 a = 0) (k0 : k ∈ Zm) (kz : kc hm0 k = 47) (S : Dq e Zx Zm hx0 hm0 X Y hx hm i TY QU []) (Cu : Cur e bx bm hx hm a k num (form, nm, ab, none, [], [], [])) :
    BOut e Zx Zm hx0 hm0 bx bm X Y a k num i 0 (fun d' => d'.1 = form ∧ d'.2.1 = nm ∧ d'.2.2.1 = ab) (TX e.P form a hx) (KMc e.Q k hm) := by
  have q := S.2.2.2
  have hi := q.jj.1
  have w50 : codes (cStr.getD (50 - 1) "") ∈ KW := by decide
  have w55 : codes (cStr.getD (55 - 1) "") ∈ KW := by decide
  have k47 := Cu.2.1
  have f363 : fi hm 363 k = nI form := Cu.2.2.2.1
  unfold TX KMc
  rw [ldI_e k47, f363]
  have : form = 1 ∨ form = 2 ∨ form = 3 ∨ form = 4 := by omega
  rcases this with z | z | z | z
  · subst z
    rw [if_pos rfl, if_neg (show ¬ nI 1 = (4 : Int32) by decide)]
    exact BOut_le (ex_pair C Bb a0 (.inl k0) S Cu) (Nat.le_refl _) hi (by omega) (by omega) (fun d' ⟨ex, ts, ms, y⟩ => by rw [y]; exact ⟨rfl, rfl, rfl⟩) (by first | omega | (simp [sz, addB]; done) | (simp [sz, addB]; omega))
  · subst z
    rw [if_neg (by decide), if_pos rfl, if_neg (show ¬ nI 2 = (4 : Int32) by decide), b138_e (by decide) (by decide) k47 f363, if_pos rfl]
    exact BOut_le (fa_pair (by decide) (by decide) w50 C Bb (by simp) rfl rfl (show (2 : Nat) ≤ 4 ∧ (2 : Nat) ≠ 3 by decide) S Cu) (Nat.le_refl _) hi (by omega) (by omega) (fun d' ⟨ts, ms, y⟩ => by rw [y]; exact ⟨rfl, rfl, rfl⟩) (by first | omega | (simp [sz, addB]; done) | (simp [sz, addB]; omega))
  · subst z
    rw [if_neg (by decide), if_neg (by decide), if_pos rfl, if_neg (show ¬ nI 3 = (4 : Int32) by decide), b138_e (by decide) (by decide) k47 f363, if_neg (by decide)]
    have eb : f_X48_declaration_b189 e.Q k e.Q 55 hm = f_X48_declaration_b221 e.Q k hm := by
      unfold f_X48_declaration_b189
      rw [m46_e q, misK_e q (by decide) (by decide) rfl]
      split
      · rw [if_neg z10, ldI_e k47, f363, if_pos (show nI 3 = (3 : Int32) from rfl)]
      · rw [if_pos y00]
    rw [eb]
    exact BOut_le (enum_pair C Bb rfl rfl S Cu) (Nat.le_refl _) hi (by omega) (by omega) (fun d' ⟨ts, y, _⟩ => by rw [y]; exact ⟨rfl, rfl, rfl⟩) (by first | omega | (simp [sz, addB]; done) | (simp [sz, addB]; omega))
  · subst z
    rw [if_neg (by decide), if_neg (by decide), if_neg (by decide), if_pos (show nI 4 = (4 : Int32) from rfl), m46_e q]
    rcases comps_pair C Bb (by simp) S Cu with ⟨hx2, hm2, j, ms, TY2, e2, g2, hij, S2, Cu2, l2, hms, hn⟩ | f
    · have hj := S2.2.2.2.jj.1
      rw [e2, g2, bd_ok, bd_ok, b138_e (fm := 4) (by decide) (by decide) Cu2.2.1 Cu2.2.2.2.1, if_neg (by decide)]
      exact BOut_le (fa_pair (d := addB (4, nm, ab, none, [], [], []) ms) (by decide) (by decide) w55 C Bb (by unfold addB; simp at l2 ⊢; omega) (met_none rfl hn) rfl (show (4 : Nat) ≤ 4 ∧ (4 : Nat) ≠ 3 by decide) S2 Cu2) (by omega) hj (by omega) (by omega) (fun d' ⟨ts, ms, y⟩ => by rw [y]; exact ⟨rfl, rfl, rfl⟩) (by first | omega | (simp [sz, addB]; done) | (simp [sz, addB]; omega))
    · refine .inr ((DF_bd (c := 2) C f (fun P v h' il N z s n => ?_)).le (by omega) (by omega))
      obtain ⟨jn, ITn, TYn, QUn, z1, z2, z3, z4⟩ := n
      obtain ⟨h5, e5, s5, f5⟩ := b138_no z1 ⟨z2, z3⟩ (s.2.kk kz (by decide))
      exact (MF.ex (N := N) e5 s5 f5).le (Nat.le_refl _) (by omega)
