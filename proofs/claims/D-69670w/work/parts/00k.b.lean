/-! PHASE B declarations 27: what stands behind a declaration's name -/
set_option maxRecDepth 100000
variable {e : EE} {Zx Zm : List Nat} {hx hm h h1 h2 h' hx0 hm0 hxA hmA : HP} {i j a b k X Y bx bm l1 l2 l3 : Nat} {IT : List It} {TY : List Ty} {QU : List (List Nat)} {F G : Nat → Prop} {KL : List Nat} {d : DC} {TY' : List Ty} {QU' : List (List Nat)} {num : Nat × Nat}
theorem BOut_le {X0 Y0 i0 c c0 : Nat} {Q Q' : DC → Prop} {rX : Rs Unit} {rM : Rs Nat} (x : BOut e Zx Zm hx0 hm0 bx bm X Y a k num i c Q rX rM) (hi : i0 ≤ i) (hl : i < e.TS.length) (hX : X ≤ X0 + 98 * (i - i0)) (hY : Y ≤ Y0 + 98 * (i - i0)) (hQ : ∀ d, Q d → Q' d) (hc : c + i0 ≤ c0 + i) : BOut e Zx Zm hx0 hm0 bx bm X0 Y0 a k num i0 c0 Q' rX rM := by
  rcases x with ⟨hx', hm', j, d', TY', QU', e1, e2, h1, S, Cu, q, hs⟩ | f
  · exact .inl ⟨hx', hm', j, d', TY', QU', e1, e2, by omega, ⟨S.1.le (by omega), S.2.1.le (by omega), S.2.2⟩, Cu, hQ _ q, by omega⟩
  · exact .inr (f.le (by omega) (by omega))
noncomputable def faX (s a0 a2 : Nat) (h : HP) : Rs Unit :=
  ldR 12 156 a0 h fun x1 =>
  if kc h x1 = 10 then
  bd (f_X9_accept x1 s h) (fun x2 h3 =>
  if x2 = 0 then
  (if kc h3 a0 = 12 then
  bd (f_X11_body a0 a2 h3) (fun _ h4 =>
  rok () h4)
  else none)
  else
  (if kc h3 a0 = 12 then
  bd (f_X11_faces a0 a2 h3) (fun _ h5 =>
  if kc h5 a0 = 12 then
  bd (f_X11_body a0 a2 h5) (fun _ h6 =>
  rok () h6)
  else none)
  else none))
  else none
theorem b186_e {a0 a2 : Nat} {h : HP} : f_X11_declaration_b186 a0 a2 h = faX 55 a0 a2 h := rfl
/-- the faces, if a word is there, and the body -/
theorem fa_pair {s : Nat} (s1 : 1 ≤ s) (s2 : s ≤ nStr) (hw : codes (cStr.getD (s - 1) "") ∈ KW) (C : Dc e Zx Zm hx0 hm0) (Bb : Bx Zx Zm hx0 hm0 bx bm) (hdl : d.2.2.2.2.2.1.length ≤ i) (hmet : d.met = []) (hface : d.2.2.2.2.1 = []) (hform : d.1 ≤ 4 ∧ d.1 ≠ 3) (S : Dq e Zx Zm hx0 hm0 X Y hx hm i TY QU []) (Cu : Cur e bx bm hx hm a k num d) :
    BOut e Zx Zm hx0 hm0 bx bm X Y a k num i (sz d) (fun d' => ∃ ts ms, d' = addB (addI d ts) ms) (faX s e.P a hx) (f_X48_declaration_b189 e.Q k e.Q s hm) := by
  have p := S.2.2.1.1
  have q := S.2.2.2
  have kP := (S.cl C).2.1
  have hi := q.jj.1
  unfold faX f_X48_declaration_b189
  rw [xt12_e kP p, x10_e p, m46_e q, misK_e q s1 s2 rfl]
  by_cases c : isX (tk e.TS i) (codes (cStr.getD (s - 1) ""))
  · have d1 := (isX_W p.V hw).mp c
    have q1 := (mfwd_s q (go_w d1)).2
    have hi1 := q1.jj.1
    have t1 : MS e 0 hm (fwd e hm i) := MS.Q (mfwd_s q (go_w d1)).1
    have K1 : KdM (Fb bm (nx (fwd e hm i))) (fwd e hm i) k num.1 d := KdM_up (MS.fxm q C.1 t1 (by decide)) Cu.2 (fun l z => Fb_m z t1.2.1)
    have n3 : ¬ nI d.1 = (3 : Int32) := fun z => hform.2 ((nk _ (c := 3) (C := (3 : Int32)) rfl (by omega) (by omega)).mp z)
    rw [xaccY p s1 s2 rfl c, if_pos d1, if_neg z10, ldI_e Cu.2.1, Cu.2.2.2.1, if_neg n3, mfwd_e q]
    rcases adv p q (go_w d1) with ⟨hx1, e1, s1', p1, _, _⟩ | ⟨hx1, P, e1, s1', f1, n1, _⟩
    · have S1 := S.tr C s1' t1 p1 q1
      have Cu1 := Cu.st p q C.1 s1' t1
      have kP1 := (S1.cl C).2.1
      rw [e1, if_neg z10, if_pos kP1]
      exact BOut_le (faces_pair C Bb (by omega) hmet hface hform S1 Cu1) (by omega) (by omega) (by omega) (by omega) (fun _ z => z) (by omega)
    · have N1 := PN_at n1 q1
      obtain ⟨hm7, e8, s8, f8⟩ := mnameN q1 (by omega)
      rw [e1, ldR_e K1.1, m46_e q1, row_e, m46_e q1, e8, bd_ex]
      exact .inr ⟨P, hx1, rfl, (C.xxZ S.1 s1').le (by omega), f1, .inl ⟨hm7, rfl, (C.trZ (C.mmZ S.2.1 t1) s8).le (by omega), N1.2 ▸ f8⟩⟩
  · have d1 : ¬ isW (tk e.TS i) (codes (cStr.getD (s - 1) "")) := fun z => c ((isX_W p.V hw).mpr z)
    rw [xaccN p s1 s2 rfl c, if_neg d1, if_pos y00, if_pos y00, if_pos kP, bd_u]
    exact BOut_le (body_pair C Bb hdl hmet hform S Cu) (Nat.le_refl _) hi (by omega) (by omega) (fun d' ⟨ms, z⟩ => ⟨[], ms, by rw [addI_nil]; exact z⟩) (by omega)
