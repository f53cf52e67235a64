/-! PHASE B declarations 22: a body's members -/
set_option maxRecDepth 100000
variable {e : EE} {Zx Zm : List Nat} {hx hm h h1 h2 h' hx0 hm0 hxA hmA : HP} {i j a b k X Y bx bm l1 l2 l3 : Nat} {IT : List It} {TY : List Ty} {QU : List (List Nat)} {F G : Nat → Prop} {KL : List Nat} {d : DC} {TY' : List Ty} {QU' : List (List Nat)} {num : Nat × Nat}
theorem Cur.lo (C : Cur e bx bm hx hm a k num d) : bx ≤ nx hx ∧ bm ≤ nx hm := by
  obtain ⟨⟨_, _, _, _, x, _⟩, ⟨_, _, _, _, _, _, _, _, _, y, _⟩⟩ := C
  have := x.1.1; have := x.1.2; have := y.1.1; have := y.1.2
  omega
theorem mem_no {P : Nat} (q : PM e h j IT TY QU) (n : (tk e.TS j).1 = 9 ∧ (tk e.TS j).2.1 = P) : ∃ h', f_X48_member e.Q k h = rex h' ∧ St [] [e.tr] 1 h h' ∧ StopM e h' P := by
  obtain ⟨h', e1, s1, f1⟩ := mwrong q
  refine ⟨h', ?_, s1, n.2 ▸ f1⟩
  unfold f_X48_member
  rw [m46_e q, mtok_e q, m46_e q, misK_e q (by decide) (by decide) rfl, if_neg (fun z => by have := z.1; omega), if_pos y00, m46_e q, misK_e q (by decide) (by decide) rfl, if_neg (fun z => by have := z.1; omega), if_pos y00]
  unfold f_X48_member_b28
  rw [if_pos y00, m46_e q, mbeg_e q, if_neg (fun z => by
    rcases z with z | z
    · omega
    · have := z.1; omega), if_pos y00, m46_e q, e1]
theorem l243_no {P N NM : Nat} (n : PN e h P N) (hN : 0 < NM) : ∃ h', f_X48_declaration_l243 e.Q k NM h = rex h' ∧ MS e 1 h h' ∧ StopM e h' P := by
  obtain ⟨NM, rfl⟩ : ∃ k, NM = k + 1 := ⟨NM - 1, by omega⟩
  obtain ⟨j, IT, TY, QU, q, z2, z3, z4⟩ := n
  obtain ⟨h', e1, s1, f1⟩ := mem_no (k := k) q ⟨z2, z3⟩
  rw [f_X48_declaration_l243_s]
  unfold b_X48_declaration_l243
  rw [m46_e q, misS_e q (by decide) (by decide) rfl, if_neg (fun z => by have := z.1; omega), if_pos y00, m46_e q, e1, bd_ex]
  exact ⟨h', rfl, MS.tr s1, f1⟩
/-- both have failed -/
def DFx {α β : Type} (e : EE) (Zx Zm : List Nat) (hx0 hm0 : HP) (X Y : Nat) (rx : Rs α) (rm : Rs β) : Prop := ∃ p hx' hm', rx = rex hx' ∧ St [] Zx X hx0 hx' ∧ StopX e hx' p ∧ rm = rex hm' ∧ St [] Zm Y hm0 hm' ∧ StopM e hm' p
theorem DFx_df {α β : Type} {rx : Rs α} {rm : Rs β} (f : DFx e Zx Zm hx0 hm0 X Y rx rm) : DF e Zx Zm hx0 hm0 X Y rx rm := by
  obtain ⟨p, hx', hm', a1, a2, a3, a4, a5, a6⟩ := f
  exact ⟨p, hx', a1, a2, a3, .inl ⟨hm', a4, a5, a6⟩⟩
theorem DFx_le {α β : Type} {X2 Y2 : Nat} {rx : Rs α} {rm : Rs β} (f : DFx e Zx Zm hx0 hm0 X Y rx rm) (hX : X ≤ X2) (hY : Y ≤ Y2) : DFx e Zx Zm hx0 hm0 X2 Y2 rx rm := by
  obtain ⟨p, hx', hm', a1, a2, a3, a4, a5, a6⟩ := f
  exact ⟨p, hx', hm', a1, a2.le hX, a3, a4, a5.le hY, a6⟩
theorem DFx_bd {α β γ δ : Type} {rx : Rs α} {rm : Rs β} {K1 : α → HP → Rs γ} {K2 : β → HP → Rs δ} (f : DFx e Zx Zm hx0 hm0 X Y rx rm) : DFx e Zx Zm hx0 hm0 X Y (bd rx K1) (bd rm K2) := by
  obtain ⟨p, hx', hm', a1, a2, a3, a4, a5, a6⟩ := f
  exact ⟨p, hx', hm', by rw [a1]; rfl, a2, a3, by rw [a4]; rfl, a5, a6⟩
theorem DF_bdx {α β γ δ : Type} {c : Nat} {rx : Rs α} {rm : Rs β} {K1 : α → HP → Rs γ} {K2 : β → HP → Rs δ} (C : Dc e Zx Zm hx0 hm0) (f : DF e Zx Zm hx0 hm0 X Y rx rm) (hk : ∀ P v h' il N, kc hm0 il = 0 → St [] Zm Y hm0 h' → PN (e.wil il) h' P N → ∃ h5, K2 v h' = rex h5 ∧ MS (e.wil il) c h' h5 ∧ StopM (e.wil il) h5 P) : DFx e Zx Zm hx0 hm0 X (Y + c) (bd rx K1) (bd rm K2) := by
  obtain ⟨P, hx', e1, s1, f1, m⟩ := f
  rcases m with ⟨hm', a1, a2, a3⟩ | ⟨v, hm', il, N, a1, a2, a3, a4⟩
  · exact ⟨P, hx', hm', by rw [e1]; rfl, s1, f1, by rw [a1]; rfl, a2.le (by omega), a3⟩
  · obtain ⟨h5, b1, b2, b3⟩ := hk P v hm' il N a4 a2 a3
    exact ⟨P, hx', h5, by rw [e1]; rfl, s1, f1, by rw [a1]; exact b1, a2.cat b2 (fun _ z => z) (fun x hx => by
        rcases C.mw a4 x hx with z | z
        · exact .inl z
        · exact .inr (.inl z)), b3⟩
theorem met_add (d : DC) (m : Mb) : (m.2 = none → (addB d [m]).met.length = d.met.length) ∧ (m.2 ≠ none → (addB d [m]).met.length = d.met.length + 1) := by
  obtain ⟨v, o⟩ := m
  cases o with
  | none => exact ⟨fun _ => by rw [own_v.2.1], fun z => absurd rfl z⟩
  | some t => exact ⟨fun z => (by cases z), fun _ => by rw [own_m.2.1]; simp⟩
theorem body_l (C : Dc e Zx Zm hx0 hm0) (Bb : Bx Zx Zm hx0 hm0 bx bm) (N : Nat) : ∀ (hx hm : HP) (i X Y : Nat) (d : DC) (TY : List Ty) (QU : List (List Nat)) (NX NM : Nat), N < NX → N < NM → e.TS.length - i < N → d.2.2.2.2.2.1.length ≤ i → d.1 ≤ 4 → Dq e Zx Zm hx0 hm0 X Y hx hm i TY QU [] → Cur e bx bm hx hm a k num d →
    (∃ hx' hm' j ms TY' QU', f_X11_body_l11 e.P a NX (nI d.met.length) hx = rok () hx' ∧ f_X48_declaration_l243 e.Q k NM hm = rok () hm' ∧ i ≤ j ∧ Dq e Zx Zm hx0 hm0 (X + 98 * (j - i)) (Y + 98 * (j - i)) hx' hm' j TY' QU' [] ∧ Cur e bx bm hx' hm' a k num (addB d ms) ∧ isS (tk e.TS j) (codes (cStr.getD (76 - 1) "")) ∧ ms.length + i ≤ j) ∨
    DFx e Zx Zm hx0 hm0 (X + 98 * (e.TS.length - i)) (Y + 98 * (e.TS.length - i)) (f_X11_body_l11 e.P a NX (nI d.met.length) hx) (f_X48_declaration_l243 e.Q k NM hm) := by
  induction N with
  | zero => intro hx hm i X Y d TY QU NX NM _ _ h1; omega
  | succ N ih =>
    intro hx hm i X Y d TY QU NX NM hNX hNM h1 hdl hform S Cu
    obtain ⟨NX, rfl⟩ : ∃ k, NX = k + 1 := ⟨NX - 1, by omega⟩
    obtain ⟨NM, rfl⟩ : ∃ k, NM = k + 1 := ⟨NM - 1, by omega⟩
    obtain ⟨cl, kP, nl⟩ := S.cl C
    have p := S.2.2.1.1
    have q := S.2.2.2
    have hi := q.jj.1
    have h3 := q.jj.2.2.2
    have lo := Cu.lo
    rw [f_X11_body_l11_s, f_X48_declaration_l243_s]
    unfold b_X11_body_l11 b_X48_declaration_l243
    have hw : codes (cStr.getD (76 - 1) "") ∈ SW := by decide
    rw [xt12_e kP p, x10_e p, xis_e p (by decide) (by decide) rfl, m46_e q, misS_e q (by decide) (by decide) rfl]
    by_cases c : isX (tk e.TS i) (codes (cStr.getD (76 - 1) ""))
    · have c2 := (isX_S p.V hw).mp c
      rw [if_pos c, if_neg z10, if_pos c2, if_neg z10]
      exact .inl ⟨hx, hm, i, [], TY, QU, rfl, rfl, Nat.le_refl _, ⟨S.1.le (by omega), S.2.1.le (by omega), S.2.2⟩, by rw [addB_nil]; exact Cu, c2, by simp⟩
    have c2 : ¬ isS (tk e.TS i) (codes (cStr.getD (76 - 1) "")) := fun z => c ((isX_S p.V hw).mpr z)
    rw [if_neg c, if_pos y00, if_neg c2, if_pos y00, xt12_e kP p, xplc_e p, if_pos kP, m46_e q]
    rcases member_pair C Cu (by omega) lo.1 lo.2 Bb hform S with ⟨x, hx1, hm1, j, m, TY1, QU1, nA, e1, e2, hij, S1, D1, K1, k15, f177, MB, hA1, hA2⟩ | f
    · have p1 := S1.2.2.1.1
      have q1 := S1.2.2.2
      have hj := q1.jj.1
      obtain ⟨e3, s3, p3, D3, k3, F3, f3⟩ := DXg_168 p1 (S1.cl C).1 D1 (by omega) (.inr (.inr (.inr (by rw [k15]; decide)))) MB (F' := Fb bx (nx hx1)) (fun l z => Fb_m z hA2) (fun l z => ⟨by have := z.1; omega, z.2⟩) (fun l z y => by have := z.2; have := y.1; omega)
      have S3 := S1.chX s3 (fun x hx => (by rw [List.mem_singleton.mp hx]; exact Bb.1 _ F3.1)) p3 f3
      have Cu3 : Cur e bx bm (lad hx1 (fr hx1 168 a) x) hm1 a k num (addB d [m]) := ⟨by unfold DX addB; exact D3, K1⟩
      have kx : kc (lad hx1 (fr hx1 168 a) x) x = 15 := k15
      have fx : fr (lad hx1 (fr hx1 168 a) x) 177 x = fr hx1 177 x := rfl
      rw [e1, e2, bd_ok, bd_ok, ldR_e D1.1, e3, ldR_e kx, fx]
      generalize lad hx1 (fr hx1 168 a) x = hx3 at *
      have I := ih hx3 hm1 j _ _ (addB d [m]) TY1 QU1 NX NM (by omega) (by omega) (by omega) (by rw [lenB]; omega) hform S3 Cu3
      have fin : ∀ {r : Rs Unit}, r = f_X11_body_l11 e.P a NX (nI (addB d [m]).met.length) hx3 → (∃ hx' hm' j ms TY' QU', r = rok () hx' ∧ f_X48_declaration_l243 e.Q k NM hm1 = rok () hm' ∧ i ≤ j ∧ Dq e Zx Zm hx0 hm0 (X + 98 * (j - i)) (Y + 98 * (j - i)) hx' hm' j TY' QU' [] ∧ Cur e bx bm hx' hm' a k num (addB d ms) ∧ isS (tk e.TS j) (codes (cStr.getD (76 - 1) "")) ∧ ms.length + i ≤ j) ∨ DFx e Zx Zm hx0 hm0 (X + 98 * (e.TS.length - i)) (Y + 98 * (e.TS.length - i)) r (f_X48_declaration_l243 e.Q k NM hm1) := fun {r} hr => by
        rw [hr]
        rcases I with ⟨hxa, hma, j2, ms, TY', QU', x1, x2, x3, x4, x5, x6, x7⟩ | f
        · exact .inl ⟨hxa, hma, j2, m :: ms, TY', QU', x1, x2, by omega, ⟨x4.1.le (by omega), x4.2.1.le (by omega), x4.2.2⟩, by rw [addB_add] at x5; exact x5, x6, by simp only [List.length_cons]; omega⟩
        · exact .inr (DFx_le f (by omega) (by omega))
      by_cases z : fr hx1 177 x = 0
      · rw [if_pos z]
        unfold f_X11_body_l11b61
        exact fin (by rw [(met_add d m).1 (f177.mp z)])
      · rw [if_neg z]
        simp only [lt3, nI_1]
        unfold f_X11_body_l11b61
        exact fin (by rw [(met_add d m).2 (fun y => z (f177.mpr y))])
    · exact .inr (DFx_le (DF_bdx (c := 1) C f (fun P v h' il N z s n => l243_no (e := e.wil il) n (by omega))) (by omega) (by omega))
