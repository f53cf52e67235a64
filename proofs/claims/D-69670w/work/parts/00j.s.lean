/-! PHASE B declarations 18: a method behind its name -/
set_option maxRecDepth 100000
variable {e : EE} {Zx Zm : List Nat} {hx hm h h1 h2 h' hx0 hm0 hxA hmA : HP} {i j a b k X Y bx bm l1 l2 l3 : Nat} {IT : List It} {TY : List Ty} {QU : List (List Nat)} {F G : Nat → Prop} {KL : List Nat} {d : DC} {TY' : List Ty} {QU' : List (List Nat)} {num : Nat × Nat}
theorem Dc.mw (C : Dc e Zx Zm hx0 hm0) {il : Nat} (z : kc hm0 il = 0) : ∀ x ∈ (e.wil il).mm, x ∈ Zm ∨ kc hm0 x = 0 := fun x hx => by
  rcases wil_mm hx with y | y
  · rw [y]; exact .inr z
  · exact C.2.2.2.2.2.2.2 x y
theorem DF_bd {α β γ δ : Type} {X Y c : Nat} {rx : Rs α} {rm : Rs β} {K1 : α → HP → Rs γ} {K2 : β → HP → Rs δ} (C : Dc e Zx Zm hx0 hm0) (f : DF e Zx Zm hx0 hm0 X Y rx rm) (hk : ∀ P v h' il N, kc hm0 il = 0 → St [] Zm Y hm0 h' → PN (e.wil il) h' P N → MF (e.wil il) h' P N c (K2 v h')) : DF e Zx Zm hx0 hm0 X (Y + c) (bd rx K1) (bd rm K2) := by
  obtain ⟨P, hx', e1, s1, f1, m⟩ := f
  refine ⟨P, hx', by rw [e1]; rfl, s1, f1, ?_⟩
  rcases m with ⟨hm', a1, a2, a3⟩ | ⟨v, hm', il, N, a1, a2, a3, a4⟩
  · exact .inl ⟨hm', by rw [a1]; rfl, a2.le (by omega), a3⟩
  · rw [a1, bd_ok]
    rcases hk P v hm' il N a4 a2 a3 with ⟨h5, b1, b2, b3⟩ | ⟨v, h5, b1, b2, b3⟩
    · exact .inl ⟨h5, b1, a2.cat b2 (fun _ z => z) (fun x hx => by
        rcases C.mw a4 x hx with z | z
        · exact .inl z
        · exact .inr (.inl z)), b3⟩
    · exact .inr ⟨v, h5, il, N, b1, a2.cat b2 (fun _ z => z) (fun x hx => by
        rcases C.mw a4 x hx with z | z
        · exact .inl z
        · exact .inr (.inl z)), b3, a4⟩
/-- a list is made -/
theorem new_l (w : WG h) {c : Nat} (hc : 100 ≤ c ∧ c < 200) (ok : okc c = true) {β : Type} {K : Nat → HP → Rs β} : ∃ h', (nwC c 3 h fun p h2 => lsInitN p (4 : Int32) h2 fun h3 => K p h3) = K (nx h) h' ∧ St [] [] 2 h h' ∧ nx h' = nx h + 1 ∧ kc h' (nx h) = c ∧ cp h' (nx h) ≠ RAW ∧ ls h' (nx h) = [] := by
  have zl : kc h (nx h) = 0 := w.new
  have k1 : kc (nC h c 3) (nx h) = c := kc_nC_n
  have c1 : cp (nC h c 3) (nx h) = RAW := by rw [cp_nC, if_pos rfl]
  have lr : lrK (nC h c 3) (nx h) := ⟨by rw [k1]; exact hc.1, by rw [k1]; exact hc.2, c1⟩
  refine ⟨sLc (nC h c 3) (nx h) [] 4 1 4, ?_, (((St.refl w [] []).nC (b := 1) (by omega) (by omega)).sLc (b := 1) k1 ok (.inl zl) (by omega) (by omega)).le (by omega), rfl, k1, by rw [cp_sLc, if_pos rfl]; decide, by rw [ls_sLc, if_pos rfl]⟩
  rw [nwC_e, lsInitN_e lr (by decide) (by decide)]; rfl
theorem b266_e {a0 a1 a7 a9 a11 a12 a13 : Nat} {a3 a4 a5 a8 s0 : Int32} {h : HP} : f_X11_member_b266 a0 a1 a3 a4 a5 a7 a8 a9 a11 a12 a13 s0 h = bd (f_X11_member_l268 a0 a1 a3 a4 a5 a7 a8 a9 a11 a12 a13 NN s0 h) (Sum.elim (fun _ => fun h2 => ldR 12 156 a0 h2 fun x3 => if kc h2 x3 = 10 then bd (f_X9_wrong x3 h2) (fun x4 h5 => if kc h5 x4 = 69 then rex h5 else none) else none) (fun _ => fun h7 => tlX a0 a1 a3 a4 a5 a7 a8 a9 a11 a12 a13 h7)) := rfl
theorem b221_e {a0 a1 a2 a4 : Nat} {h : HP} : f_X48_member_b221 a0 a1 a2 a4 h = (if kc h a0 = 46 then bd (f_X48_isSign a0 9 h) (fun x1 h2 => if x1 = 0 then (if kc h2 a0 = 46 then bd (f_X48_wrong a0 h2) (fun x19 h20 => if kc h20 x19 = 69 then rex h20 else none) else none) else (ldR 47 372 a1 h2 fun x3 => lsSize x3 h2 fun x4 => if x4 = (20 : Int32) then (ldR 46 355 a0 h2 fun x15 => ldI 44 350 a2 h2 fun x16 => if kc h2 x15 = 6 then bd (f_X5_at x15 (1 : Int32) x16 h2) (fun x17 h18 => if kc h18 x17 = 69 then rex h18 else none) else none) else (ldI 46 358 a0 h2 fun x5 => stI 46 358 a0 (x5 + (1 : Int32)) h2 fun h6 => if kc h6 a0 = 46 then bd (f_X48_isSign a0 10 h6) (fun x7 h8 => if x7 = 0 then bd (f_X48_member_l279 a0 a1 a4 NN h8) (wrK a0 (fun _ h14 => f_X48_member_b341 a0 a1 a4 h14)) else f_X48_member_b341 a0 a1 a4 h8) else none))) else none) := rfl
/-- what both have when a member is read -/
def MDon (e : EE) (Zx Zm : List Nat) (hx0 hm0 : HP) (bx bm X Y : Nat) (a k : Nat) (num : Nat × Nat) (d : DC) (i : Nat) (rX : Rs Nat) (rM : Rs Unit) : Prop :=
  ∃ x hx' hm' j m TY' QU' nA, rX = rok x hx' ∧ rM = rok () hm' ∧ i < j ∧ Dq e Zx Zm hx0 hm0 (X + 88 * (j - i)) (Y + 88 * (j - i)) hx' hm' j TY' QU' [] ∧ DX e (Fb bx nA) hx' a num d ∧ KdM (Fb bm (nx hm')) hm' k num.1 (addB d [m]) ∧
    kc hx' x = 15 ∧ (fr hx' 177 x = 0 ↔ m.2 = none) ∧ MbX e (Fb nA (nx hx')) hx' x (fr hx' 163 a) m ∧ bx ≤ nA ∧ nA ≤ nx hx'
theorem MDone.don {X0 Y0 i0 wd pl : Nat} {T : Ty} {nm : Td} {vs : List Vr} {QU0 : List (List Nat)} {rX : Rs Nat} {rM : Rs Unit} (x : MDone e Zx Zm hx0 hm0 hxA hmA bx bm X Y a k num d i T nm wd pl vs QU0 rX rM) (hi : i0 ≤ i) (hX : X + 30 * vs.length ≤ X0 + 88 * (i - i0)) (hY : Y ≤ Y0 + 88 * (i - i0)) : MDon e Zx Zm hx0 hm0 bx bm X0 Y0 a k num d i0 rX rM := by
  obtain ⟨x, hx', hm', j, b, TY', QU', nA, e1, e2, h1, S, D, K, k1, f1, M⟩ := x
  exact ⟨x, hx', hm', j, _, TY', QU', nA, e1, e2, by omega, ⟨S.1.le (by omega), S.2.1.le (by omega), S.2.2⟩, D, K, k1, ⟨fun z => absurd z f1, fun z => by cases z⟩, M⟩
theorem sig_pair {p t7 s9 wd pl np iA tA : Nat} {ITA : List It} {TYA : List Ty} {QUA : List (List Nat)} {a4 a5 : Int32} {T : Ty} {nm : List Nat} (C : Dc e Zx Zm hx0 hm0) (M0 : Mb0 hx0 hm0 hxA hmA) (wA : WG hxA) (Cu : Cur e bx bm hxA hmA a k num d) (hl : d.2.2.2.2.2.1.length ≤ 300) (hbx : bx ≤ nx hxA) (hbm : bm ≤ nx hmA) (Bb : Bx Zx Zm hx0 hm0 bx bm) (qA : PM e hmA iA ITA TYA QUA) (hp0 : kc hmA p = 0)
    (W : Mw e Zx Zm hx0 hm0 hxA hmA bx bm X Y hx hm i TY QU []) (ht : TyE e hx t7 T) (hs : StrX hx s9 nm) (h4 : a4 = if wd = 1 then 1 else 0) (h5 : a5 = if wd = 2 then 1 else 0) (Mm : MeM (Fb (nx hmA) (nx hm)) hm p k ((T, (nm, np)), (wd, pl, [], none))) (kt : kc hm tA = 44) (ft : fi hm 350 tA = nI pl) :
    MDon e Zx Zm hx0 hm0 bx bm X Y a k num d i (f_X11_member_b176 e.P a (nI d.met.length) (nI pl) a4 a5 t7 (nI np) s9 hx) (f_X48_member_b221 e.Q k tA p hm) ∨
    DF e Zx Zm hx0 hm0 (X + 88 * (e.TS.length - i)) (Y + 88 * (e.TS.length - i)) (f_X11_member_b176 e.P a (nI d.met.length) (nI pl) a4 a5 t7 (nI np) s9 hx) (f_X48_member_b221 e.Q k tA p hm) := by
  have S := W.1
  have p0 := S.2.2.1.1
  have q0 := S.2.2.2
  have kP := (S.cl C).2.1
  have hi := q0.jj.1
  have Cu1 := W.cur Cu
  have kk : kc hm k = 47 := Cu1.2.1
  have L372 : LsX (Fb bm (nx hm)) hm (fr hm 372 k) 137 (fun h b v => MeM (Fb bm (nx hm)) h b k v) d.met := by
    obtain ⟨_, _, _, _, _, _, _, _, _, _, _, x, _⟩ := Cu1.2; exact x
  have z2 : lsK hm (fr hm 372 k) := ⟨by rw [L372.2.1]; decide, by rw [L372.2.1]; decide, L372.2.2.1⟩
  have y2 : (ls hm (fr hm 372 k)).length = d.met.length := L372.2.2.2.len
  have lm := (own_len d).2.1
  have w9 : codes (cStr.getD (9 - 1) "") ∈ SW := by decide
  have w10 : codes (cStr.getD (10 - 1) "") ∈ SW := by decide
  rw [b221_e]
  unfold f_X11_member_b176
  rw [xt12_e kP p0, x10_e p0, xis_e p0 (by decide) (by decide) rfl, m46_e q0, misS_e q0 (by decide) (by decide) rfl]
  by_cases c1 : isX (tk e.TS i) (codes (cStr.getD (9 - 1) ""))
  case neg =>
    rw [if_neg c1, if_pos y00, if_neg (fun z => c1 ((isX_S p0.V w9).mpr z)), if_pos y00, xt12_e kP p0, x10_e p0, m46_e q0]
    obtain ⟨hx9, e9, s9', f9⟩ := xwrong p0
    obtain ⟨hm9, ea, sa, fa⟩ := mwrong q0
    rw [e9, ea]
    exact .inr ((Dq.err C S s9' f9 sa fa).le (by omega) (by omega))
  have d1 := (isX_S p0.V w9).mp c1
  rw [if_pos c1, if_neg z10, if_pos d1, if_neg z10, ldR_e kk, lsSize_e z2, y2]
  by_cases c20 : d.met.length = 20
  · have y20 : nI d.met.length = (20 : Int32) := by rw [c20]; rfl
    rw [if_pos y20, if_pos y20, xst_e kP p0, ldR_e q0.kQ, (show fr hm 355 e.Q = e.tr from q0.2.2.1), ldI_e kt, ft, if_pos q0.2.2.2.1]
    obtain ⟨hx9, e9, s9', f9⟩ := xlim p0 (k := pl)
    obtain ⟨hm9, ea, sa, fa⟩ := mlim q0 (k := pl)
    rw [e9, ea]
    exact .inr ((Dq.err C S s9' f9 sa fa).le (by omega) (by omega))
  have n20 : ¬ nI d.met.length = (20 : Int32) := fun z => c20 ((nk _ (c := 20) (C := (20 : Int32)) rfl (by omega) (by omega)).mp z)
  rw [if_neg n20, if_neg n20, xt12_e kP p0, x10_e p0, mfwd_e q0]
  rcases adv p0 q0 (go_of d1) with ⟨hx1, e1, s1, p1, q1, t1⟩ | ⟨hx1, P, e1, s1, f1, n1, t1⟩
  case inr =>
    have q1 := (mfwd_s q0 (go_of d1)).2
    have := q1.jj.1
    have N1 := PN_at n1 q1
    rw [e1, m46_e q1, misS_e q1 (by decide) (by decide) rfl, if_neg (fun z => by have := z.1; omega), if_pos y00]
    have Mm1 := MeM_st q0 C.1 t1 Mm
    have L9 : LsX (Fb (nx hmA) (nx hm)) (fwd e hm i) (fr (fwd e hm i) 391 p) 132 (fun h a v => VarM (Fb (nx hmA) (nx hm)) h a v) [] := by
      obtain ⟨_, _, _, _, _, _, x, _⟩ := Mm1; exact x
    obtain ⟨hm7, e8, s8', f8⟩ := mtypeN q1 (fun z => by
      rcases z with z | z
      · omega
      · have := z.1; omega)
    have M : bd (f_X48_member_l279 e.Q k p NN (fwd e hm i)) (wrK e.Q (fun _ h14 => f_X48_member_b341 e.Q k p h14)) = rex hm7 := by
      rw [show NN = (NN - 1) + 1 from rfl, f_X48_member_l279_s]
      unfold b_X48_member_l279
      rw [ldR_e Mm1.1, lsSize_e ⟨by rw [L9.2.1]; decide, by rw [L9.2.1]; decide, L9.2.2.1⟩, show (ls (fwd e hm i) (fr (fwd e hm i) 391 p)).length = 0 from L9.2.2.2.len, if_neg (by decide)]
      unfold f_X48_member_l279b304
      rw [m46_e q1, e8, bd_ex]
    rw [M]
    exact .inr ((Dq.none C S s1 f1 t1 (MF.ex (N := 0) rfl s8' (N1.2 ▸ f8))).le (by omega) (by omega))
  have W1 := W.tr C s1 t1 p1 q1
  have hi1 := q1.jj.1
  have n1' : nx hm ≤ nx (fwd e hm i) := t1.2.1
  have Mm1 := MeM_wk (e := e) (G := Fb (nx hmA) (nx (fwd e hm i))) (fun l z => Fb_m z n1') (MeM_st q0 C.1 t1 Mm)
  rw [e1, m46_e q1, misS_e q1 (by decide) (by decide) rfl]
  generalize fwd e hm i = hm1 at *
  -- the lists
  obtain ⟨h2, g2, u2, n2, k2, cp2, ls2⟩ := new_l (h := hx1) p1.1 (c := 119) (by omega) (by decide) (K := fun p6 h8 => nwC 118 3 h8 fun p9 h10 => lsInitN p9 (4 : Int32) h10 fun h11 => nwC 117 3 h11 fun p12 h13 => lsInitN p12 (4 : Int32) h13 fun h14 => ldR 12 156 e.P h14 fun x15 => if kc h14 x15 = 10 then bd (f_X9_is x15 10 h14) (fun x16 h17 => if x16 = 0 then f_X11_member_b266 e.P a (nI pl) a4 a5 t7 (nI np) s9 p6 p9 p12 (1 : Int32) h17 else f_X11_member_b266 e.P a (nI pl) a4 a5 t7 (nI np) s9 p6 p9 p12 (0 : Int32) h17) else none)
  rw [g2]
  have w2 := u2.1
  obtain ⟨h3, g3, u3, n3, k3, cp3, ls3⟩ := new_l (h := h2) w2 (c := 118) (by omega) (by decide) (K := fun p9 h11 => nwC 117 3 h11 fun p12 h13 => lsInitN p12 (4 : Int32) h13 fun h14 => ldR 12 156 e.P h14 fun x15 => if kc h14 x15 = 10 then bd (f_X9_is x15 10 h14) (fun x16 h17 => if x16 = 0 then f_X11_member_b266 e.P a (nI pl) a4 a5 t7 (nI np) s9 (nx hx1) p9 p12 (1 : Int32) h17 else f_X11_member_b266 e.P a (nI pl) a4 a5 t7 (nI np) s9 (nx hx1) p9 p12 (0 : Int32) h17) else none)
  rw [g3]
  have w3 := u3.1
  obtain ⟨h4', g4, u4, n4, k4, cp4, ls4⟩ := new_l (h := h3) w3 (c := 117) (by omega) (by decide) (K := fun p12 h14 => ldR 12 156 e.P h14 fun x15 => if kc h14 x15 = 10 then bd (f_X9_is x15 10 h14) (fun x16 h17 => if x16 = 0 then f_X11_member_b266 e.P a (nI pl) a4 a5 t7 (nI np) s9 (nx hx1) (nx h2) p12 (1 : Int32) h17 else f_X11_member_b266 e.P a (nI pl) a4 a5 t7 (nI np) s9 (nx hx1) (nx h2) p12 (0 : Int32) h17) else none)
  rw [g4]
  have uu : St [] [] (2 + 2 + 2) hx1 h4' := (u2.trans u3).trans u4
  have W2 := W1.chX C M0 uu (by simp)
  have p2 := W2.1.2.2.1.1
  have kP2 := (W2.1.cl C).2.1
  have Q3 := u3.2.eq k2 (by decide) (by simp) (by simp)
  have Q4 := u4.2.eq (u3.2.kk k2 (by decide)) (by decide) (by simp) (by simp)
  have Q4b := u4.2.eq k3 (by decide) (by simp) (by simp)
  have wax : nx hxA ≤ nx hx1 := W1.2.2.2.1
  have Mx : MhV e (Fb (nx hxA) (nx h4')) h4' (nx hx1) (nx h2) (nx h3) [] := by
    refine ⟨list_at ⟨wax, by omega⟩ (u4.2.kk (u3.2.kk k2 (by decide)) (by decide)) ?_ ?_, list_at ⟨by omega, by omega⟩ (u4.2.kk k3 (by decide)) ?_ ?_, list_at ⟨by omega, by omega⟩ k4 cp4 ls4⟩
    · rw [Q4.2.2.2.2.2.2.2.2, Q3.2.2.2.2.2.2.2.2]; exact cp2
    · rw [Q4.2.2.2.2.2.2.1, Q3.2.2.2.2.2.2.1]; exact ls2
    · rw [Q4b.2.2.2.2.2.2.2.2]; exact cp3
    · rw [Q4b.2.2.2.2.2.2.1]; exact ls3
  have ht2 : TyE e h4' t7 T := TyE_fx (FxX.nw (F := Fb 0 0) (KL := []) p1 uu) (TyE_st p0 s1 ht)
  have hs2 : StrX h4' s9 nm := StrX_fx (FxX.nw (F := Fb 0 0) (KL := []) p1 uu) (StrX_st p0 s1 hs)
  rw [xt12_e kP2 p2, x10_e p2, xis_e p2 (by decide) (by decide) rfl]
  have n4' : nx hx1 ≤ nx h4' := by omega
  by_cases c2 : isX (tk e.TS (i + 1)) (codes (cStr.getD (10 - 1) ""))
  · have d2 := (isX_S p1.V w10).mp c2
    rw [if_pos c2, if_neg z10, if_pos d2, if_neg z10, b266_e, show NN = (NN - 1) + 1 from rfl, f_X11_member_l268_s]
    unfold b_X11_member_l268
    rw [if_pos y00, bd_ok, Sum.elim_inr]
    rcases tail_pair (QU0 := []) (i0 := i) (X0 := X) (Y0 := Y) (vs := []) C M0 wA Cu hl hbx hbm Bb qA hp0 W2 (by omega) (by omega) (by omega) (by simp) ht2 hs2 h4 h5 Mx Mm1 with r | r
    · exact .inl (r.don (Nat.le_refl _) (by simp) (by omega))
    · exact .inr r
  · have d2 : ¬ isS (tk e.TS (i + 1)) (codes (cStr.getD (10 - 1) "")) := fun z => c2 ((isX_S p1.V w10).mpr z)
    rw [if_neg c2, if_pos y00, if_neg d2, if_pos y00, b266_e]
    have PL := par_l (a := a) (k := k) (v3 := nI pl) (v4 := a4) (v5 := a5) (v8 := nI np) (v7 := t7) (v9 := s9) C M0 wA qA.1 hp0 300 h4' hm1 (i + 1) _ _ [] TY NN NN (Nat.lt_of_lt_of_le (by omega) (NN_ge (k := 400) (by omega))) (Nat.lt_of_lt_of_le (by omega) (NN_ge (k := 400) (by omega))) (by have := q0.jj.2.2.2; omega) (by simp) W2 Mx Mm1
    rcases PL with ⟨hx5, hm5, j, us, TY5, e5, e6, hij, W5, Mx5, Mm5, l8, l2', Y5⟩ | ⟨hx5, hm5, j, TY5, e5, e6, hij, hjl, s5, s6, p5, f6⟩ | f
    · have hj := W5.1.2.2.2.jj.1
      rw [e5, bd_ok, Sum.elim_inr, e6, bd_ok]
      unfold wrK
      rw [Sum.elim_inr]
      rw [List.nil_append] at l8 Mx5 Mm5
      rcases tail_pair (QU0 := []) (i0 := j) (X0 := _) (Y0 := _) (vs := us) C M0 wA Cu hl hbx hbm Bb qA hp0 W5 (Nat.le_refl _) (Nat.le_add_right _ _) (Nat.le_add_right _ _) l8 (TyE_fx Y5 ht2) (StrX_fx Y5 hs2) h4 h5 Mx5 Mm5 with r | r
      · exact .inl (r.don (by omega) (by omega) (by omega))
      · exact .inr (r.le (by omega) (by omega))
    · have kP5 : kc hx5 e.P = 12 := s5.2.kk C.2.2.2.2.1 (by decide)
      rw [e5, bd_ok, Sum.elim_inl, xt12_e kP5 p5, x10_e p5, e6]
      obtain ⟨hx9, e9, s9', f9⟩ := xwrong p5
      rw [e9]
      refine .inr ⟨_, hx9, rfl, (s5.cat (XS.tok p5 s9').1 (fun _ z => z) (fun x hx => ?_)).le (by omega), f9, .inl ⟨hm5, rfl, s6.le (by omega), f6⟩⟩
      rcases C.2.2.2.2.2.2.1 x hx with z | z
      · exact .inl z
      · exact .inr (.inl z)
    · refine .inr ((DF_bd (c := 1) C f (fun P v h' il N z s n => ?_)).le (by omega) (by omega))
      cases v with
      | inl u =>
        show MF (e.wil il) h' P N 1 (if kc h' e.Q = 46 then bd (f_X48_wrong e.Q h') (fun x11 h12 => if kc h12 x11 = 69 then rex h12 else none) else none)
        exact v46 n (vWr n)
      | inr u =>
        show MF (e.wil il) h' P N 1 (f_X48_member_b341 e.Q k p h')
        unfold f_X48_member_b341
        exact v46 n (vSgn n (by decide) (by decide))
