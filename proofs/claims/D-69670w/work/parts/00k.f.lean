/-! PHASE B declarations 31: a declaration from its word on -/
set_option maxRecDepth 100000
variable {e : EE} {Zx Zm Zx2 Zm2 : List Nat} {hx hm h h1 h2 h' hx0 hm0 hx1 hm1 : HP} {i j a b k X Y X1 Y1 bx bm : Nat} {IT : List It} {TY : List Ty} {QU : List (List Nat)} {F G : Nat → Prop} {d : DC} {num : Nat × Nat}
theorem DF_reb {α β : Type} {rx : Rs α} {rm : Rs β} (sx : St [] Zx X1 hx0 hx1) (sm : St [] Zm Y1 hm0 hm1) (zx : ∀ x ∈ Zx2, x ∈ Zx ∨ kc hx0 x = 0) (zm : ∀ x ∈ Zm2, x ∈ Zm ∨ kc hm0 x = 0) (f : DF e Zx2 Zm2 hx1 hm1 X Y rx rm) : DF e Zx Zm hx0 hm0 (X1 + X) (Y1 + Y) rx rm := by
  have cx : ∀ {hB : HP}, St [] Zx2 X hx1 hB → St [] Zx (X1 + X) hx0 hB := fun t => sx.cat t (fun _ z => z) (fun x hx => (zx x hx).imp id Or.inl)
  have cm : ∀ {hB : HP}, St [] Zm2 Y hm1 hB → St [] Zm (Y1 + Y) hm0 hB := fun t => sm.cat t (fun _ z => z) (fun x hx => (zm x hx).imp id Or.inl)
  obtain ⟨P, hx', e1, s1, f1, m⟩ := f
  refine ⟨P, hx', e1, cx s1, f1, ?_⟩
  rcases m with ⟨hm', a1, a2, a3⟩ | ⟨v, hm', il, N, a1, a2, a3, a4⟩
  · exact .inl ⟨hm', a1, cm a2, a3⟩
  · exact .inr ⟨v, hm', il, N, a1, cm a2, a3, sm.zero a4⟩
/-- what both have when a declaration is read -/
def KOut (e : EE) (Zx Zm : List Nat) (hx0 hm0 : HP) (bm K kl DL n : Nat) (hxL : HP) (X Y k i : Nat) (rX : Rs Unit) (rM : Rs Nat) : Prop :=
  (∃ a hx' hm' j d' TY' QU', rX = rok () hx' ∧ rM = rok k hm' ∧ i < j ∧ Dq e Zx Zm hx0 hm0 (X + 102 * (j - i)) (Y + 102 * (j - i)) hx' hm' j TY' QU' [] ∧ DX e (Fb (nx hx0) (nx hx')) hx' a (10 + n, fr hx' 163 a) d' ∧ KdM (Fb bm (nx hm')) hm' k (10 + n) d' ∧ DlX e hx' K kl DL (n + 1) ∧ ls hx' DL = ls hxL DL ++ [a] ∧ ls hx' kl = ls hxL kl ++ [fr hx' 163 a] ∧ 1 ≤ d'.1 ∧ d'.1 ≤ 4 ∧ sz d' + i + 2 ≤ j ∧ i + 3 ≤ j) ∨
  DF e Zx Zm hx0 hm0 (X + 102 * (e.TS.length - i)) (Y + 102 * (e.TS.length - i)) rX rM
theorem kw_pair {K kl DL n form ab : Nat} {KX : Nat → HP → Rs Unit} (hf : 1 ≤ form ∧ form ≤ 4) (hKX : ∀ a h, kc h e.P = 12 → KX a h = TX e.P form a h) (C : Dc e Zx Zm hx0 hm0) (S : Dq e Zx Zm hx0 hm0 X Y hx hm i TY QU []) (A : DlX e hx K kl DL n) (hn : n ≤ 60) (hab : ab ≤ 1) (hZ : kl ∈ Zx ∧ DL ∈ Zx) (hxx : ∀ x ∈ e.xx, x ∈ Zx) (hmm : ∀ x ∈ e.mm, x ∈ Zm) (g : tkGo (tk e.TS i)) (hBm : ∀ l, bm ≤ l → l ∈ Zm ∨ kc hm0 l = 0) (k0 : k ∈ Zm ∨ kc hm0 k = 0) (hk : bm ≤ k) (Kd : KdP (Fb bm (nx hm)) hm k (10 + n)) (f364 : fi hm 364 k = nI ab) :
    KOut e Zx Zm hx0 hm0 bm K kl DL n hx X Y k i (bd (f_X9_next e.t hx) (fun _ h2 => if kc h2 e.P = 12 then bd (f_X11_begin e.P (900 + srt form) (nI (if form = 2 then 1 else ab)) h2) KX else none)) (f_X48_declaration_b91 e.Q k k (nI form) hm) := by
  have p := S.2.2.1.1
  have q := S.2.2.2
  obtain ⟨cl, kP, nl⟩ := S.cl C
  have hi := q.jj.1
  have kk : kc hm k = 47 := Kd.1
  rw [b91_e]
  have s1 : St [] [k] 0 hm (sI hm 363 k (nI form)) := (St.refl q.1 [] [k]).sI kk (by decide) (.inr (.inr (by simp)))
  have hkd : ∀ x ∈ [k], kdM (kc hm x) = true := fun x hx => by rw [List.mem_singleton.mp hx, kk]; decide
  have q1 := q.dec s1.1 s1.fx hkd nl
  have Kd1 : KdP (Fb bm (nx (sI hm 363 k (nI form)))) (sI hm 363 k (nI form)) k (10 + n) := KdP_wI Kd (by omega)
  have v363 : fi (sI hm 363 k (nI form)) 363 k = nI form := by rw [fi_sI, if_pos ⟨rfl, rfl⟩]
  have v364 : fi (sI hm 363 k (nI form)) 364 k = nI ab := by rw [fi_sI, if_neg (fun y => absurd y.1 (by decide))]; exact f364
  have S1 := S.chM s1 (fun x hx => (by rw [List.mem_singleton.mp hx]; exact k0)) q1
  rw [stI_e kk, mfwd_e q1]
  generalize sI hm 363 k (nI form) = hm1 at *
  have q2 := (mfwd_s q1 g).2
  have hi2 := q2.jj.1
  have t2 : MS e 0 hm1 (fwd e hm1 i) := MS.Q (mfwd_s q1 g).1
  have Z2 : FxM (Fb bm (nx hm1)) [139, 138, 137, 136, 135, 134] hm1 (fwd e hm1 i) := MS.fxm q1 C.1 t2 (by decide)
  have Kd2 := KdP_wk (e := e) (G := Fb bm (nx (fwd e hm1 i))) (fun l z => Fb_m z t2.2.1) (KdP_fx (e := e) Z2 (fun _ z => z) Kd1)
  have E2 := Z2.ob Kd1.1 (by decide) (by decide)
  rcases adv p q1 g with ⟨hx2, e2, s2, p2, _, _⟩ | ⟨hx2, P, e2, s2, f2, n2, _⟩
  case inr =>
    have N2 := PN_at n2 q2
    obtain ⟨hm7, e8, s8, f8⟩ := mnameN q2 (by omega)
    unfold nmM
    rw [e2, m46_e q2, e8]
    exact .inr ⟨P, hx2, rfl, (C.xxZ S.1 s2).le (by omega), f2, .inl ⟨hm7, rfl, (C.trZ (C.mmZ S1.2.1 t2) s8).le (by omega), N2.2 ▸ f8⟩⟩
  have S2 := S1.tr C s2 t2 p2 q2
  have Fx0 := p.fr0 s2.1
  obtain ⟨f161, kK, f30, kkl, ckl, lkl, f162, kDL, cDL, lDL⟩ := A
  have EP := Fx0.at kP (by decide) (by decide)
  have EK := Fx0.at kK (by decide) (by decide)
  have El := Fx0.at kkl (by decide) (by decide)
  have ED := Fx0.at kDL (by decide) (by decide)
  have A2' : DlX e hx2 K kl DL n := ⟨(EP.2.2.2.2.1 161).trans f161, EK.1, (EK.2.2.2.2.1 30).trans f30, El.1, by rw [El.2.2.2.2.2.2.2.2.2.2]; exact ckl, by rw [El.2.2.2.2.2.2.2.2.1]; exact lkl, (EP.2.2.2.2.1 162).trans f162, ED.1, by rw [ED.2.2.2.2.2.2.2.2.2.2]; exact cDL, by rw [ED.2.2.2.2.2.2.2.2.1]; exact lDL⟩
  rw [e2, if_pos EP.1]
  rcases bg_pair (KX := KX) (KM := KMc e.Q k) C S2 A2' hn hab hf hZ k0 Kd2 ((E2.2.2.1 363).trans v363) ((E2.2.2.1 364).trans v364) (fun P h' qn N kn fn => KMc_no hf.2 qn N kn fn) with ⟨a, bx, hx3, hm3, e3, g3, ⟨hbx, hbx2⟩, S3, Cu3, A3, ld, lk, hname, hba⟩ | f
  case inr => exact .inr ((DFx_df f).le (by omega) (by omega))
  have hi3 := S3.2.2.2.jj.1
  rw [e3, g3, hKX _ _ (S3.cl C).2.1]
  -- a new beginning
  have bxl : bx ≤ nx hx3 := Cu3.lo.1
  have bml : bm ≤ nx hm3 := Cu3.lo.2
  have ax : a < nx hx3 := Nat.lt_of_not_le fun z => by
    have := (S3.2.2.1.1.1.2.1 a z).1
    rw [Cu3.1.1] at this; cases this
  have kx : k < nx hm3 := Nat.lt_of_not_le fun z => by
    have := (S3.2.2.2.1.2.1 k z).1
    rw [Cu3.2.1] at this; cases this
  have C2 : Dc e (e.xx ++ List.range' bx (nx hx3 - bx)) (e.mm ++ List.range' bm (nx hm3 - bm)) hx3 hm3 := ⟨C.1, S3.1.1, S3.2.1.1, (S3.cl C).1, (S3.cl C).2.1, (S3.cl C).2.2, fun x hx => .inl (List.mem_append.mpr (.inl hx)), fun x hx => .inl (List.mem_append.mpr (.inl hx))⟩
  have B2 : Bx (e.xx ++ List.range' bx (nx hx3 - bx)) (e.mm ++ List.range' bm (nx hm3 - bm)) hx3 hm3 bx bm := by
    refine ⟨fun l hl => ?_, fun l hl => ?_⟩
    · by_cases z : l < nx hx3
      · exact .inl (List.mem_append.mpr (.inr (List.mem_range'_1.mpr ⟨hl, by omega⟩)))
      · exact .inr (S3.1.1.2.1 l (by omega)).1
    · by_cases z : l < nx hm3
      · exact .inl (List.mem_append.mpr (.inr (List.mem_range'_1.mpr ⟨hl, by omega⟩)))
      · exact .inr (S3.2.1.1.2.1 l (by omega)).1
  have S4 : Dq e (e.xx ++ List.range' bx (nx hx3 - bx)) (e.mm ++ List.range' bm (nx hm3 - bm)) hx3 hm3 0 0 hx3 hm3 (i + 1 + 1) TY QU [] := ⟨St.refl S3.1.1 _ _, St.refl S3.2.1.1 _ _, ⟨S3.2.2.1.1, Kq.refl⟩, S3.2.2.2⟩
  have zx : ∀ x ∈ e.xx ++ List.range' bx (nx hx3 - bx), x ∈ Zx ∨ kc hx0 x = 0 := fun x hx => by
    rcases List.mem_append.mp hx with z | z
    · exact .inl (hxx x z)
    · exact .inr (C.2.1.2.1 x (by have := (List.mem_range'_1.mp z).1; omega)).1
  have zm : ∀ x ∈ e.mm ++ List.range' bm (nx hm3 - bm), x ∈ Zm ∨ kc hm0 x = 0 := fun x hx => by
    rcases List.mem_append.mp hx with z | z
    · exact .inl (hmm x z)
    · exact hBm x (List.mem_range'_1.mp z).1
  rcases tx_pair hf C2 B2 (.inl (List.mem_append.mpr (.inr (List.mem_range'_1.mpr ⟨hba, by omega⟩)))) (List.mem_append.mpr (.inr (List.mem_range'_1.mpr ⟨hk, by omega⟩))) Cu3.2.1 S4 Cu3 with ⟨hx', hm', j, d', TY', QU', e5, g5, hij, S5, Cu5, ⟨hd1, hd2, hd3⟩, hsz⟩ | f
  case inr => exact .inr ((DF_reb S3.1 S3.2.1 zx zm f).le (by omega) (by omega))
  have hj := S5.2.2.2.jj.1
  -- what has stayed
  have kP3 := (S3.cl C).2.1
  obtain ⟨a161, aK, a30, akl, ackl, alkl, a162, aDL, acDL, alDL⟩ := A3
  have xkk : ∀ {x : Nat}, x ∈ e.xx → kc hx3 x = 10 ∨ kc hx3 x = 2 ∨ kc hx3 x = 105 ∨ kc hx3 x = 106 := fun hx => S3.2.2.1.1.ks _ hx
  have old : ∀ {x c : Nat}, x < bx → kc hx3 x = c → (c ≠ 10 ∧ c ≠ 2 ∧ c ≠ 105 ∧ c ≠ 106) → x ∉ e.xx ++ List.range' bx (nx hx3 - bx) := fun hlt hc hne hm => by
    rcases List.mem_append.mp hm with z | z
    · have := xkk z; omega
    · have := (List.mem_range'_1.mp z).1; omega
  have lt2 : ∀ {x c : Nat}, kc hx2 x = c → c ≠ 0 → x < bx := fun hc h0 => Nat.lt_of_lt_of_le (Nat.lt_of_not_le fun z => by
    have := (S2.2.2.1.1.1.2.1 _ z).1
    rw [hc] at this; exact h0 this) hbx2
  have EP5 := S5.1.2.eq kP3 (by decide) (by simp) (old (lt2 EP.1 (by decide)) kP3 (by decide))
  have EK5 := S5.1.2.eq aK (by decide) (by simp) (old (lt2 EK.1 (by decide)) aK (by decide))
  have El5 := S5.1.2.eq akl (by decide) (by simp) (old (lt2 El.1 (by decide)) akl (by decide))
  have ED5 := S5.1.2.eq aDL (by decide) (by simp) (old (lt2 ED.1 (by decide)) aDL (by decide))
  have l5 : ls hx' kl = ls hx3 kl := El5.2.2.2.2.2.2.1
  have l6 : ls hx' DL = ls hx3 DL := ED5.2.2.2.2.2.2.1
  have f163 : fr hx' 163 a = fr hx3 163 a := by
    obtain ⟨_, _, _, _, _, _, _, _, y⟩ := Cu5.1; exact y.1
  have D6 : DX e (Fb (nx hx0) (nx hx')) hx' a (10 + n, fr hx3 163 a) d' := DXg_wk (fun l z => ⟨by have := z.1; omega, z.2⟩) Cu5.1
  refine .inl ⟨a, hx', hm', j, d', TY', QU', e5, g5, by omega, ⟨(S3.1.cat S5.1 (fun _ z => z) (fun x hx => (zx x hx).imp id Or.inl)).le (by omega), (S3.2.1.cat S5.2.1 (fun _ z => z) (fun x hx => (zm x hx).imp id Or.inl)).le (by omega), ⟨S5.2.2.1.1, S3.2.2.1.2.trans S5.2.2.1.2⟩, S5.2.2.2⟩, by rw [f163]; exact D6, Cu5.2, ⟨(EP5.2.2.1 161).trans a161, S5.1.2.kk aK (by decide), (EK5.2.2.1 30).trans a30, S5.1.2.kk akl (by decide), by rw [El5.2.2.2.2.2.2.2.2]; exact ackl, by rw [l5]; exact alkl, (EP5.2.2.1 162).trans a162, S5.1.2.kk aDL (by decide), by rw [ED5.2.2.2.2.2.2.2.2]; exact acDL, by rw [l6]; exact alDL⟩, ?_, ?_, by omega, by omega, by omega, by omega⟩
  · rw [l6, ld, ED.2.2.2.2.2.2.2.2.1]
  · rw [l5, lk, f163, El.2.2.2.2.2.2.2.2.1]
theorem DlX_st {K kl DL n : Nat} (p : PX e h i TY QU) (s : XS e a h h') (kP : kc h e.P = 12) (A : DlX e h K kl DL n) : DlX e h' K kl DL n ∧ ls h' DL = ls h DL ∧ ls h' kl = ls h kl := by
  have Fx0 := p.fr0 s.1
  obtain ⟨f161, kK, f30, kkl, ckl, lkl, f162, kDL, cDL, lDL⟩ := A
  have EP := Fx0.at kP (by decide) (by decide)
  have EK := Fx0.at kK (by decide) (by decide)
  have El := Fx0.at kkl (by decide) (by decide)
  have ED := Fx0.at kDL (by decide) (by decide)
  exact ⟨⟨(EP.2.2.2.2.1 161).trans f161, EK.1, (EK.2.2.2.2.1 30).trans f30, El.1, by rw [El.2.2.2.2.2.2.2.2.2.2]; exact ckl, by rw [El.2.2.2.2.2.2.2.2.1]; exact lkl, (EP.2.2.2.2.1 162).trans f162, ED.1, by rw [ED.2.2.2.2.2.2.2.2.2.2]; exact cDL, by rw [ED.2.2.2.2.2.2.2.2.1]; exact lDL⟩, ED.2.2.2.2.2.2.2.2.1, El.2.2.2.2.2.2.2.2.1⟩
