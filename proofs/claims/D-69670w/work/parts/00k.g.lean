/-! PHASE B declarations 32: a declaration -/
set_option maxRecDepth 100000
variable {e : EE} {Zx Zm : List Nat} {hx hm h h1 h2 h' hx0 hm0 hx1 hm1 : HP} {i j a b k X Y : Nat} {IT : List It} {TY : List Ty} {QU : List (List Nat)}
theorem declaration_pair {K kl DL n : Nat} (p : PX e hx i TY QU) (q : PM e hm i [] TY QU) (h0 : e.il = 0) (cl : kc hx e.cl = 129) (kP : kc hx e.P = 12) (nl : kc hm e.nl = 168) (A : DlX e hx K kl DL n) (hn : n ≤ 60)
    (hW : isW (tk e.TS i) (codes (cStr.getD (36 - 1) "")) ∨ isW (tk e.TS i) (codes (cStr.getD (43 - 1) "")) ∨ isW (tk e.TS i) (codes (cStr.getD (59 - 1) "")) ∨ isW (tk e.TS i) (codes (cStr.getD (48 - 1) "")) ∨ isW (tk e.TS i) (codes (cStr.getD (65 - 1) ""))) :
    ∃ hm1, St [] [] 7 hm hm1 ∧ kc hm1 (nx hm) = 47 ∧ KOut e (kl :: DL :: e.xx) (e.mm ++ List.range' (nx hm) (nx hm1 - nx hm)) hx hm1 (nx hm) K kl DL n hx 0 0 (nx hm) i (f_X11_declaration e.P hx) (f_X48_declaration e.Q (nI (10 + n)) hm) := by
  have hi := q.jj.1
  have V := p.V
  have w36 : codes (cStr.getD (36 - 1) "") ∈ KW := by decide
  have w43 : codes (cStr.getD (43 - 1) "") ∈ KW := by decide
  have w59 : codes (cStr.getD (59 - 1) "") ∈ KW := by decide
  have w48 : codes (cStr.getD (48 - 1) "") ∈ KW := by decide
  have w65 : codes (cStr.getD (65 - 1) "") ∈ KW := by decide
  obtain ⟨hm1, e1, s1, Kd, z363, z364⟩ := kdm_new q.1 (n := 10 + n)
  have q1 := q.new s1
  have C : Dc e (kl :: DL :: e.xx) (e.mm ++ List.range' (nx hm) (nx hm1 - nx hm)) hx hm1 := ⟨h0, p.1, s1.1, cl, kP, s1.2.kk nl (by decide), fun x hx => .inl (List.mem_cons_of_mem _ (List.mem_cons_of_mem _ hx)), fun x hx => .inl (List.mem_append.mpr (.inl hx))⟩
  have S : Dq e (kl :: DL :: e.xx) (e.mm ++ List.range' (nx hm) (nx hm1 - nx hm)) hx hm1 0 0 hx hm1 i TY QU [] := ⟨St.refl p.1 _ _, St.refl s1.1 _ _, ⟨p, Kq.refl⟩, q1⟩
  have hBm : ∀ l, nx hm ≤ l → l ∈ e.mm ++ List.range' (nx hm) (nx hm1 - nx hm) ∨ kc hm1 l = 0 := fun l hl => by
    by_cases z : l < nx hm1
    · exact .inl (List.mem_append.mpr (.inr (List.mem_range'_1.mpr ⟨hl, by omega⟩)))
    · exact .inr (s1.1.2.1 l (by omega)).1
  have k0 := hBm (nx hm) (Nat.le_refl _)
  have kk1 : kc hm1 (nx hm) = 47 := Kd.1
  -- its word is written
  have wr : ∀ (v : Int32), St [] [nx hm] 0 hm1 (sI hm1 364 (nx hm) v) := fun v => (St.refl q1.1 [] [nx hm]).sI kk1 (by decide) (.inr (.inr (by simp)))
  have qw : ∀ v, PM e (sI hm1 364 (nx hm) v) i [] TY QU := fun v => q1.dec (wr v).1 (wr v).fx (fun x hx => by rw [List.mem_singleton.mp hx, kk1]; decide) (s1.2.kk nl (by decide))
  have Sw : ∀ v, Dq e (kl :: DL :: e.xx) (e.mm ++ List.range' (nx hm) (nx hm1 - nx hm)) hx hm1 0 0 hx (sI hm1 364 (nx hm) v) i TY QU [] := fun v => by
    have := S.chM (wr v) (fun x hx => (by rw [List.mem_singleton.mp hx]; exact k0)) (qw v)
    exact ⟨this.1, this.2.1.le (by omega), this.2.2⟩
  have Kw : ∀ v, KdP (Fb (nx hm) (nx (sI hm1 364 (nx hm) v))) (sI hm1 364 (nx hm) v) (nx hm) (10 + n) := fun v => KdP_wI Kd (by omega)
  have fw : ∀ v, fi (sI hm1 364 (nx hm) v) 364 (nx hm) = v := fun v => by rw [fi_sI, if_pos ⟨rfl, rfl⟩]
  have xx1 : ∀ x ∈ e.xx, x ∈ kl :: DL :: e.xx := fun x hx => List.mem_cons_of_mem _ (List.mem_cons_of_mem _ hx)
  -- two words are not one
  have dis : ∀ {s t : Nat}, isW (tk e.TS i) (codes (cStr.getD (s - 1) "")) → codes (cStr.getD (s - 1) "") ≠ codes (cStr.getD (t - 1) "") → ¬ isW (tk e.TS i) (codes (cStr.getD (t - 1) "")) := fun c ne z => ne (c.2.symm.trans z.2)
  have KW1 : ∀ {form ab : Nat} {KX : Nat → HP → Rs Unit}, 1 ≤ form ∧ form ≤ 4 → (∀ a h, kc h e.P = 12 → KX a h = TX e.P form a h) → ab ≤ 1 → tkGo (tk e.TS i) → KOut e (kl :: DL :: e.xx) (e.mm ++ List.range' (nx hm) (nx hm1 - nx hm)) hx hm1 (nx hm) K kl DL n hx 0 0 (nx hm) i (bd (f_X9_next e.t hx) (fun _ h2 => if kc h2 e.P = 12 then bd (f_X11_begin e.P (900 + srt form) (nI (if form = 2 then 1 else ab)) h2) KX else none)) (f_X48_declaration_b91 e.Q (nx hm) (nx hm) (nI form) (sI hm1 364 (nx hm) (nI ab))) := fun {form ab KX} hf hK hab g =>
    kw_pair hf hK C (Sw _) A hn hab ⟨by simp, by simp⟩ xx1 (fun _ z => List.mem_append.mpr (.inl z)) g hBm k0 (Nat.le_refl _) (Kw _) (fw _)
  refine ⟨hm1, s1, kk1, ?_⟩
  unfold f_X48_declaration
  rw [e1, m46_e q1, misK_e q1 (by decide) (by decide) rfl]
  unfold f_X11_declaration
  rw [xt12_e kP p, x10_e p]
  by_cases c36 : isW (tk e.TS i) (codes (cStr.getD (36 - 1) ""))
  · have kk2 : kc (sI hm1 364 (nx hm) 1) (nx hm) = 47 := kk1
    have q2 := qw 1
    have q3 := (mfwd_s q2 (go_w c36)).2
    have hi3 := q3.jj.1
    have t3 : MS e 0 (sI hm1 364 (nx hm) 1) (fwd e (sI hm1 364 (nx hm) 1) i) := MS.Q (mfwd_s q2 (go_w c36)).1
    rw [if_pos c36, stZ_b (.inr rfl) kk1, ldI_e kk2, fw, if_neg z10, mfwd_e q2, m46_e q3, misK_e q3 (by decide) (by decide) rfl]
    rw [xaccN p (s := 59) (by decide) (by decide) rfl (fun z => dis c36 (by decide) ((isX_W V w59).mp z)), if_pos y00, xt12_e kP p, x10_e p, xaccN p (s := 48) (by decide) (by decide) rfl (fun z => dis c36 (by decide) ((isX_W V w48).mp z)), if_pos y00, xt12_e kP p, x10_e p, xaccN p (s := 65) (by decide) (by decide) rfl (fun z => dis c36 (by decide) ((isX_W V w65).mp z)), if_pos y00, xt12_e kP p, x10_e p, xaccY p (s := 36) (by decide) (by decide) rfl ((isX_W V w36).mpr c36)]
    rcases adv p q2 (go_w c36) with ⟨hx2, e2, s2, p2, _, _⟩ | ⟨hx2, P, e2, s2, f2, n2, _⟩
    case inr =>
      have N2 := PN_at n2 q3
      obtain ⟨hm7, e8, s8, f8⟩ := mwrong q3
      rw [e2, if_neg (fun z => by have := z.1; omega), if_pos y00, m46_e q3, e8]
      exact .inr ⟨P, hx2, rfl, (C.xxZ S.1 s2).le (by omega), f2, .inl ⟨hm7, rfl, (C.trZ (C.mmZ (Sw 1).2.1 t3) s8).le (by omega), N2.2 ▸ f8⟩⟩
    have S3 := (Sw 1).tr C s2 t3 p2 q3
    have kP2 := (S3.cl C).2.1
    obtain ⟨A2', ld, lk⟩ := DlX_st p s2 kP A
    rw [e2, xt12_e kP2 p2, x10_e p2]
    by_cases c43 : isW (tk e.TS (i + 1)) (codes (cStr.getD (43 - 1) ""))
    · have Z3 : FxM (Fb (nx hm) (nx (sI hm1 364 (nx hm) 1))) [139, 138, 137, 136, 135, 134] (sI hm1 364 (nx hm) 1) (fwd e (sI hm1 364 (nx hm) 1) i) := MS.fxm q2 C.1 t3 (by decide)
      have E3 := Z3.ob kk2 (by decide) (by decide)
      have Kd3 := KdP_wk (e := e) (G := Fb (nx hm) (nx (fwd e (sI hm1 364 (nx hm) 1) i))) (fun l z => Fb_m z t3.2.1) (KdP_fx (e := e) Z3 (fun _ z => z) (Kw 1))
      rw [if_pos c43, if_neg z10, xexpY p2 (by decide) (by decide) rfl ((isX_W p2.V w43).mpr c43)]
      unfold f_X48_declaration_b50
      rw [m46_e q3, misK_e q3 (by decide) (by decide) rfl, if_pos c43, if_neg z10]
      have R := kw_pair (form := 1) (ab := 1) (KX := fun x15 h16 => exX e.P x15 h16) ⟨by omega, by omega⟩ (fun a h _ => rfl) C S3 A2' hn (by omega) ⟨by simp, by simp⟩ xx1 (fun _ z => List.mem_append.mpr (.inl z)) (go_w c43) hBm k0 (Nat.le_refl _) Kd3 ((E3.2.2.1 364).trans (fw 1))
      rcases R with ⟨a, hx', hm', j, d', TY', QU', r1, r2, r3, r4, r5, r6, r7, r8, r9, r10⟩ | f
      · exact .inl ⟨a, hx', hm', j, d', TY', QU', r1, r2, by omega, ⟨r4.1.le (by omega), r4.2.1.le (by omega), r4.2.2⟩, r5, r6, r7, by rw [r8, ld], by rw [r9, lk], r10.1, r10.2.1, by have := r10.2.2.1; omega, by have := r10.2.2.2; omega⟩
      · exact .inr (f.le (by omega) (by omega))
    · obtain ⟨hx9, e9, s9', f9⟩ := xexpN p2 (by decide) (by decide) rfl (fun z => c43 ((isX_W p2.V w43).mp z))
      obtain ⟨hm9, ea, sa, fa⟩ := mwrong q3
      rw [if_neg c43, if_pos y00, m46_e q3, e9, ea]
      exact .inr ((Dq.err C S3 s9' f9 sa fa).le (by omega) (by omega))
  -- no abstract
  have kk2 : kc (sI hm1 364 (nx hm) 0) (nx hm) = 47 := kk1
  rw [if_neg c36, stZ_b (.inl rfl) kk1, ldI_e kk2, fw, if_pos y00]
  unfold f_X48_declaration_b50
  have q2 := qw 0
  rw [m46_e q2, misK_e q2 (by decide) (by decide) rfl]
  by_cases c43 : isW (tk e.TS i) (codes (cStr.getD (43 - 1) ""))
  · rw [if_pos c43, if_neg z10, xaccN p (s := 59) (by decide) (by decide) rfl (fun z => dis c43 (by decide) ((isX_W V w59).mp z)), if_pos y00, xt12_e kP p, x10_e p, xaccN p (s := 48) (by decide) (by decide) rfl (fun z => dis c43 (by decide) ((isX_W V w48).mp z)), if_pos y00, xt12_e kP p, x10_e p, xaccN p (s := 65) (by decide) (by decide) rfl (fun z => dis c43 (by decide) ((isX_W V w65).mp z)), if_pos y00, xt12_e kP p, x10_e p, xaccN p (s := 36) (by decide) (by decide) rfl (fun z => c36 ((isX_W V w36).mp z)), xt12_e kP p, x10_e p, xexpY p (by decide) (by decide) rfl ((isX_W V w43).mpr c43)]
    exact KW1 (form := 1) (ab := 0) ⟨by omega, by omega⟩ (fun a h _ => rfl) (by omega) (go_w c43)
  rw [if_neg c43, if_pos y00, m46_e q2, misK_e q2 (by decide) (by decide) rfl]
  by_cases c59 : isW (tk e.TS i) (codes (cStr.getD (59 - 1) ""))
  · rw [if_pos c59, if_neg z10, xaccY p (s := 59) (by decide) (by decide) rfl ((isX_W V w59).mpr c59)]
    simp only [if_neg z10]
    exact KW1 (form := 2) (ab := 0) ⟨by omega, by omega⟩ (fun a h _ => rfl) (by omega) (go_w c59)
  rw [if_neg c59, if_pos y00, m46_e q2, misK_e q2 (by decide) (by decide) rfl, xaccN p (s := 59) (by decide) (by decide) rfl (fun z => c59 ((isX_W V w59).mp z)), if_pos y00, xt12_e kP p, x10_e p]
  by_cases c48 : isW (tk e.TS i) (codes (cStr.getD (48 - 1) ""))
  · rw [if_pos c48, if_neg z10, xaccY p (s := 48) (by decide) (by decide) rfl ((isX_W V w48).mpr c48)]
    simp only [if_neg z10]
    exact KW1 (form := 3) (ab := 0) ⟨by omega, by omega⟩ (fun a h kp => by unfold TX; rw [if_pos kp, bd_u]; rfl) (by omega) (go_w c48)
  have c65 : isW (tk e.TS i) (codes (cStr.getD (65 - 1) "")) := by
    rcases hW with z | z | z | z | z
    · exact absurd z c36
    · exact absurd z c43
    · exact absurd z c59
    · exact absurd z c48
    · exact z
  rw [if_neg c48, if_pos y00, xaccN p (s := 48) (by decide) (by decide) rfl (fun z => c48 ((isX_W V w48).mp z)), if_pos y00, xt12_e kP p, x10_e p, xaccY p (s := 65) (by decide) (by decide) rfl ((isX_W V w65).mpr c65)]
  simp only [if_neg z10]
  exact KW1 (form := 4) (ab := 0) ⟨by omega, by omega⟩ (fun a h kp => by unfold TX; rw [if_pos kp]; rfl) (by omega) (go_w c65)
