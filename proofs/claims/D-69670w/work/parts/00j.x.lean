/-! PHASE B declarations 23: bodies whole -/
set_option maxRecDepth 100000
variable {e : EE} {Zx Zm : List Nat} {hx hm h h1 h2 h' hx0 hm0 hxA hmA : HP} {i j a b k X Y bx bm l1 l2 l3 : Nat} {IT : List It} {TY : List Ty} {QU : List (List Nat)} {F G : Nat → Prop} {KL : List Nat} {d : DC} {TY' : List Ty} {QU' : List (List Nat)} {num : Nat × Nat}
/-- how many parts -/
def sz (d : DC) : Nat := d.2.2.2.2.1.length + d.2.2.2.2.2.1.length + d.2.2.2.2.2.2.length
theorem sz_B (d : DC) (ms : List Mb) : sz (addB d ms) = sz d + ms.length := by unfold sz addB; simp only [List.length_append]; omega
theorem sz_I (d : DC) (ts : List Td) : sz (addI d ts) = sz d + ts.length := by unfold sz addI; simp only [List.length_append]; omega
theorem sz_C (d : DC) (ts : List Td) : sz (addC d ts) = sz d + ts.length := by unfold sz addC; simp only [List.length_append]; omega
/-- what both have when the end of a declaration is read -/
def BOut (e : EE) (Zx Zm : List Nat) (hx0 hm0 : HP) (bx bm X Y a k : Nat) (num : Nat × Nat) (i c : Nat) (Q : DC → Prop) (rX : Rs Unit) (rM : Rs Nat) : Prop :=
  (∃ hx' hm' j d' TY' QU', rX = rok () hx' ∧ rM = rok k hm' ∧ i < j ∧ Dq e Zx Zm hx0 hm0 (X + 98 * (j - i)) (Y + 98 * (j - i)) hx' hm' j TY' QU' [] ∧ Cur e bx bm hx' hm' a k num d' ∧ Q d' ∧ sz d' + i ≤ c + j) ∨
  DF e Zx Zm hx0 hm0 (X + 98 * (e.TS.length - i)) (Y + 98 * (e.TS.length - i)) rX rM
theorem body_pair (C : Dc e Zx Zm hx0 hm0) (Bb : Bx Zx Zm hx0 hm0 bx bm) (hdl : d.2.2.2.2.2.1.length ≤ i) (hmet : d.met = []) (hform : d.1 ≤ 4 ∧ d.1 ≠ 3) (S : Dq e Zx Zm hx0 hm0 X Y hx hm i TY QU []) (Cu : Cur e bx bm hx hm a k num d) :
    BOut e Zx Zm hx0 hm0 bx bm X Y a k num i (sz d) (fun d' => ∃ ms, d' = addB d ms) (f_X11_body e.P a hx) (f_X48_declaration_b221 e.Q k hm) := by
  have p := S.2.2.1.1
  have q := S.2.2.2
  have kP := (S.cl C).2.1
  have hi := q.jj.1
  have w72 : codes (cStr.getD (72 - 1) "") ∈ SW := by decide
  unfold f_X11_body f_X48_declaration_b221
  rw [xt12_e kP p, x10_e p, m46_e q]
  by_cases c : isX (tk e.TS i) (codes (cStr.getD (72 - 1) ""))
  case neg =>
    obtain ⟨hx9, e9, s9', f9⟩ := xexpN p (by decide) (by decide) rfl c
    obtain ⟨hm9, ea, sa, fa⟩ := msgnN q (by decide) (by decide) rfl (fun z => c ((isX_S p.V w72).mpr z))
    rw [e9, ea]
    exact .inr ((Dq.err C S s9' f9 sa fa).le (by omega) (by omega))
  have d1 := (isX_S p.V w72).mp c
  rw [xexpY p (by decide) (by decide) rfl c, msgnY q (by decide) (by decide) rfl d1]
  have q1 := (mfwd_s q (go_of d1)).2
  have hi1 := q1.jj.1
  have t1 : MS e 0 hm (fwd e hm i) := MS.Q (mfwd_s q (go_of d1)).1
  have K1 : KdM (Fb bm (nx (fwd e hm i))) (fwd e hm i) k num.1 d := KdM_up (MS.fxm q C.1 t1 (by decide)) Cu.2 (fun l z => Fb_m z t1.2.1)
  have n3 : ¬ nI d.1 = (3 : Int32) := fun z => hform.2 ((nk _ (c := 3) (C := (3 : Int32)) rfl (by omega) (by omega)).mp z)
  rw [ldI_e K1.1, K1.2.2.1, if_neg n3]
  have NN0 : 0 < NN := Nat.lt_of_lt_of_le (by omega) (NN_ge (k := 400) (by omega))
  rcases adv p q (go_of d1) with ⟨hx1, e1, s1, p1, _, _⟩ | ⟨hx1, P, e1, s1, f1, n1, _⟩
  case inr =>
    obtain ⟨h5, e5, s5, f5⟩ := l243_no (k := k) n1 NN0
    rw [e1, e5, bd_ex]
    exact .inr ⟨P, hx1, rfl, (C.xxZ S.1 s1).le (by omega), f1, .inl ⟨h5, rfl, (C.mmZ (C.mmZ S.2.1 t1) s5).le (by omega), f5⟩⟩
  have S1 := S.tr C s1 t1 p1 q1
  have Cu1 := Cu.st p q C.1 s1 t1
  rw [e1]
  have B := body_l C Bb 301 hx1 (fwd e hm i) (i + 1) _ _ d TY QU NN NN (Nat.lt_of_lt_of_le (by omega) (NN_ge (k := 400) (by omega))) (Nat.lt_of_lt_of_le (by omega) (NN_ge (k := 400) (by omega))) (by have := q.jj.2.2.2; omega) (by omega) hform.1 S1 Cu1
  rw [show nI d.met.length = (0 : Int32) by rw [hmet]; rfl] at B
  rcases B with ⟨hx2, hm2, j, ms, TY2, QU2, e2, g2, hij, S2, Cu2, c76, hms⟩ | f
  case inr => exact .inr ((DFx_df (DFx_bd f)).le (by omega) (by omega))
  have p2 := S2.2.2.1.1
  have q2 := S2.2.2.2
  have kP2 := (S2.cl C).2.1
  have hj := q2.jj.1
  rw [e2, g2, bd_ok, bd_ok, xt12_e kP2 p2, x10_e p2, mfwd_e q2]
  rcases adv p2 q2 (go_of c76) with ⟨hx3, e3, s3, p3, q3, t3⟩ | ⟨hx3, P, e3, s3, f3, n3', t3⟩
  · have S3 := S2.tr C s3 t3 p3 q3
    rw [e3]
    exact .inl ⟨hx3, _, j + 1, _, _, _, rfl, rfl, by omega, ⟨S3.1.le (by omega), S3.2.1.le (by omega), S3.2.2⟩, Cu2.st p2 q2 C.1 s3 t3, ⟨ms, rfl⟩, by rw [sz_B]; omega⟩
  · have := (mfwd_s q2 (go_of c76)).2.jj.1
    rw [e3]
    exact .inr ((Dq.none C S2 s3 f3 t3 (MF.ok n3' k)).le (by omega) (by omega))
