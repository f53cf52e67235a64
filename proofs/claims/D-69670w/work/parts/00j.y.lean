/-! PHASE B declarations 24: constants and faces whole -/
set_option maxRecDepth 100000
variable {e : EE} {Zx Zm : List Nat} {hx hm h h1 h2 h' hx0 hm0 hxA hmA : HP} {i j a b k X Y bx bm l1 l2 l3 : Nat} {IT : List It} {TY : List Ty} {QU : List (List Nat)} {F G : Nat → Prop} {KL : List Nat} {d : DC} {TY' : List Ty} {QU' : List (List Nat)} {num : Nat × Nat}
theorem bd_bd {α β γ : Type} (r : Rs α) (K : α → HP → Rs β) (L : β → HP → Rs γ) : bd (bd r K) L = bd r (fun x h => bd (K x h) L) := by
  cases r with
  | none => rfl
  | some v => cases v <;> rfl
theorem bd_lsAdd {α β : Type} {l v : Nat} {h : HP} {K : HP → Rs α} {L : α → HP → Rs β} : bd (lsAdd l v h K) L = lsAdd l v h (fun h => bd (K h) L) := by
  unfold lsAdd
  split <;> rfl
theorem con_e (q : PM e hm i IT TY QU) (kk : kc hm k = 47) (z : lsK hm (fr hm 373 k)) (y : (ls hm (fr hm 373 k)).length = 0) : f_X48_constants e.Q k hm = enM e.Q k NN hm := by
  unfold enM f_X48_constants f_X48_constants_l12b49
  rw [ldR_e kk, m46_e q, ldR_e kk, lsSize_e z, y, if_neg (by decide), ldR_e kk, m46_e q, bd_bd]
  simp only [bd_lsAdd]
theorem enum_pair (C : Dc e Zx Zm hx0 hm0) (Bb : Bx Zx Zm hx0 hm0 bx bm) (hc : d.2.2.2.2.2.2 = []) (hform : d.1 = 3) (S : Dq e Zx Zm hx0 hm0 X Y hx hm i TY QU []) (Cu : Cur e bx bm hx hm a k num d) :
    BOut e Zx Zm hx0 hm0 bx bm X Y a k num i (sz d) (fun d' => ∃ ts, d' = addC d ts ∧ ts ≠ []) (f_X11_enumeration e.P a hx) (f_X48_declaration_b221 e.Q k hm) := by
  have p := S.2.2.1.1
  have q := S.2.2.2
  have kP := (S.cl C).2.1
  have hi := q.jj.1
  have w72 : codes (cStr.getD (72 - 1) "") ∈ SW := by decide
  have eX : ∀ h2, (bd (f_X11_enumeration_l9 e.P a NN h2) (Sum.elim (fun x3 => fun h4 => ldR 12 156 e.P h4 fun x5 => if kc h4 x5 = 10 then bd (f_X9_wrong x5 h4) (fun x6 h7 => if kc h7 x6 = 69 then rex h7 else none) else none) (fun x8 => fun h9 => ldR 12 156 e.P h9 fun x10 => if kc h9 x10 = 10 then bd (f_X9_expect x10 76 h9) (fun _ h11 => rok () h11) else none))) = enX e.P a NN h2 := fun _ => rfl
  unfold f_X11_enumeration f_X48_declaration_b221
  rw [xt12_e kP p, x10_e p, m46_e q]
  by_cases c : isX (tk e.TS i) (codes (cStr.getD (72 - 1) ""))
  case neg =>
    obtain ⟨hx9, e9, s9', f9⟩ := xexpN p (by decide) (by decide) rfl c
    obtain ⟨hm9, ea, sa, fa⟩ := msgnN q (by decide) (by decide) rfl (fun z => c ((isX_S p.V w72).mpr z))
    rw [e9, ea]
    exact .inr ((Dq.err C S s9' f9 sa fa).le (by omega) (by omega))
  have d1 := (isX_S p.V w72).mp c
  rw [xexpY p (by decide) (by decide) rfl c, msgnY q (by decide) (by decide) rfl d1]
  have q1 := (mfwd_s q (go_of d1)).2
  have hi1 := q1.jj.1
  have t1 : MS e 0 hm (fwd e hm i) := MS.Q (mfwd_s q (go_of d1)).1
  have K1 : KdM (Fb bm (nx (fwd e hm i))) (fwd e hm i) k num.1 d := KdM_up (MS.fxm q C.1 t1 (by decide)) Cu.2 (fun l z => Fb_m z t1.2.1)
  have y3 : nI d.1 = (3 : Int32) := by rw [hform]; rfl
  have L373 : LsX (Fb bm (nx (fwd e hm i))) (fwd e hm i) (fr (fwd e hm i) 373 k) 136 ToM d.2.2.2.2.2.2 := by
    obtain ⟨_, _, _, _, _, _, _, _, _, _, _, _, x, _⟩ := K1; exact x
  rw [ldI_e K1.1, K1.2.2.1, if_pos y3, m46_e q1]
  rcases adv p q (go_of d1) with ⟨hx1, e1, s1, p1, _, _⟩ | ⟨hx1, P, e1, s1, f1, n1, _⟩
  case inr =>
    have N1 := PN_at n1 q1
    obtain ⟨hm7, e8, s8, f8⟩ := mnameN q1 (by omega)
    unfold f_X48_constants
    rw [e1, ldR_e K1.1, m46_e q1, e8, bd_ex]
    exact .inr ⟨P, hx1, rfl, (C.xxZ S.1 s1).le (by omega), f1, .inl ⟨hm7, rfl, (C.trZ (C.mmZ S.2.1 t1) s8).le (by omega), N1.2 ▸ f8⟩⟩
  have S1 := S.tr C s1 t1 p1 q1
  have Cu1 := Cu.st p q C.1 s1 t1
  rw [e1, eX, con_e q1 K1.1 ⟨by rw [L373.2.1]; decide, by rw [L373.2.1]; decide, L373.2.2.1⟩ (by rw [L373.2.2.2.len, hc]; rfl)]
  rcases cons_l C Bb 301 hx1 (fwd e hm i) (i + 1) _ _ d NN NN (Nat.lt_of_lt_of_le (by omega) (NN_ge (k := 400) (by omega))) (Nat.lt_of_lt_of_le (by omega) (NN_ge (k := 400) (by omega))) (by have := q.jj.2.2.2; omega) (by rw [hc]; simp) (by rw [hc]; simp) S1 Cu1 with ⟨hx2, hm2, j, ts, e2, g2, hij, S2, Cu2, ht⟩ | f
  · rw [e2, g2, bd_ok]
    exact .inl ⟨hx2, hm2, j, _, _, _, rfl, rfl, by omega, ⟨S2.1.le (by omega), S2.2.1.le (by omega), S2.2.2⟩, Cu2, ⟨ts, rfl, ht.1⟩, by have := ht.2; rw [sz_C]; omega⟩
  · have f2 := DF_bd (c := 0) (K1 := fun (x : Unit) (h : HP) => (rok x h : Rs Unit)) (K2 := fun (_ : Unit) h7 => rok k h7) C f (fun P v h' il N z s n => MF.ok n k)
    have eu : ∀ r : Rs Unit, bd r (fun (x : Unit) (h : HP) => (rok x h : Rs Unit)) = r := fun r => by
      cases r with
      | none => rfl
      | some v => cases v <;> rfl
    rw [eu] at f2
    exact .inr (f2.le (by omega) (by omega))
theorem faces_e {P : Nat} {h : HP} : f_X11_faces P a h = f_X11_faces_l0 P a (NN + 1) h := by
  rw [f_X11_faces_l0_s]
  unfold b_X11_faces_l0 f_X11_faces
  have eu : ∀ r : Rs Unit, bd r (fun (_ : Unit) (h : HP) => (rok () h : Rs Unit)) = r := bd_u
  simp only [eu]
theorem row_e {Q l : Nat} {h : HP} : f_X48_row Q l h = (if kc h Q = 46 then bd (f_X48_name Q h) (fun x1 h2 => lsAdd l x1 h2 fun h3 => f_X48_row_l9 Q l NN h3) else none) := by
  unfold f_X48_row
  have eu : ∀ r : Rs Unit, bd r (fun (_ : Unit) (h : HP) => (rok () h : Rs Unit)) = r := bd_u
  simp only [eu]
/-- the faces, then the body -/
theorem faces_pair (C : Dc e Zx Zm hx0 hm0) (Bb : Bx Zx Zm hx0 hm0 bx bm) (hdl : d.2.2.2.2.2.1.length ≤ i) (hmet : d.met = []) (hface : d.2.2.2.2.1 = []) (hform : d.1 ≤ 4 ∧ d.1 ≠ 3) (S : Dq e Zx Zm hx0 hm0 X Y hx hm i TY QU []) (Cu : Cur e bx bm hx hm a k num d) :
    BOut e Zx Zm hx0 hm0 bx bm X Y a k num i (sz d) (fun d' => ∃ ts ms, d' = addB (addI d ts) ms) (bd (f_X11_faces e.P a hx) (fun _ h5 => if kc h5 e.P = 12 then bd (f_X11_body e.P a h5) (fun _ h6 => rok () h6) else none)) (ldR 47 370 k hm fun x6 => if kc hm e.Q = 46 then bd (f_X48_row e.Q x6 hm) (fun _ h7 => f_X48_declaration_b221 e.Q k h7) else none) := by
  have q := S.2.2.2
  have hi := q.jj.1
  rw [faces_e, ldR_e Cu.2.1, m46_e q, row_e]
  rcases row_l C Bb 301 hx hm i X Y d (NN + 1) NN (Nat.lt_of_lt_of_le (by omega) (Nat.le_succ_of_le (NN_ge (k := 400) (by omega)))) (Nat.lt_of_lt_of_le (by omega) (NN_ge (k := 400) (by omega))) (by have := q.jj.2.2.2; omega) (by rw [hface]; simp) S Cu with ⟨hx2, hm2, j, ts, e2, g2, hij, S2, Cu2, ht, ht2⟩ | f
  · have B := body_pair C Bb (d := addI d ts) (by show d.2.2.2.2.2.1.length ≤ j; omega) (by show d.met = []; exact hmet) hform S2 Cu2
    have kP2 := (S2.cl C).2.1
    have hj := S2.2.2.2.jj.1
    rw [e2, g2, bd_ok, bd_ok, if_pos kP2, bd_u]
    rcases B with ⟨hx3, hm3, j3, d3, TY3, QU3, e3, g3, h3, S3, Cu3, ⟨ms, rfl⟩, hsz⟩ | f
    · exact .inl ⟨hx3, hm3, j3, _, _, _, e3, g3, by omega, ⟨S3.1.le (by omega), S3.2.1.le (by omega), S3.2.2⟩, Cu3, ⟨ts, ms, rfl⟩, by rw [sz_I] at hsz; omega⟩
    · exact .inr (f.le (by omega) (by omega))
  · refine .inr ((DF_bd (c := 1) C f (fun P v h' il N z s n => ?_)).le (by omega) (by omega))
    unfold f_X48_declaration_b221
    exact v46 n (vSgn n (by decide) (by decide))
