/-! PHASE B declarations 19: a member's type and name -/
set_option maxRecDepth 100000
variable {e : EE} {Zx Zm : List Nat} {hx hm h h1 h2 h' hx0 hm0 hxA hmA : HP} {i j a b k X Y bx bm l1 l2 l3 : Nat} {IT : List It} {TY : List Ty} {QU : List (List Nat)} {F G : Nat → Prop} {KL : List Nat} {d : DC} {TY' : List Ty} {QU' : List (List Nat)} {num : Nat × Nat}
/-- a method in the twin before its type and name -/
def MeP (F : Nat → Prop) (h : HP) (p kk wd pl : Nat) : Prop := kc h p = 50 ∧ fr h 386 p = kk ∧ fi h 387 p = nI pl ∧ fi h 388 p = nI wd ∧ LsX F h (fr h 391 p) 132 (fun h a v => VarM F h a v) ([] : List Vr) ∧ fr h 392 p = 0 ∧ fr h 394 p = 0
theorem MeP_fx {p kk wd pl : Nat} (f : FxM F KL h h') (hk : 132 ∈ KL) (x : MeP F h p kk wd pl) : MeP F h' p kk wd pl := by
  obtain ⟨k0, m0, m1, m2, m5, m6, m7⟩ := x
  obtain ⟨a1, _, a3⟩ := f.ob k0 (by decide) (by decide)
  exact ⟨a1, (a3.2.2.1 _).trans m0, (a3.1 _).trans m1, (a3.1 _).trans m2, by rw [a3.2.2.1]; exact LsM_fx f m5 (by decide) hk (fun _ _ z => VarM_fx (e := (0, 0, 0, 0, 0, 0, 0, 0, 0, 0, 0, 0, 0, [], [], [])) f (fun k hk' => by simp at hk') z), (a3.2.2.1 _).trans m6, (a3.2.2.1 _).trans m7⟩
theorem MeP_wk {p kk wd pl : Nat} (hG : ∀ l, F l → G l) (x : MeP F h p kk wd pl) : MeP G h p kk wd pl := by
  obtain ⟨k0, m0, m1, m2, m5, m6, m7⟩ := x
  exact ⟨k0, m0, m1, m2, (m5.nilc (Q := fun h a v => VarM G h a v) rfl rfl rfl).wk (hG _) (fun _ _ z => z), m6, m7⟩
theorem MeP_set {p kk wd pl f v : Nat} (x : MeP F h p kk wd pl) (hf : f = 389 ∨ f = 390) : MeP F (sR h f p v) p kk wd pl := by
  obtain ⟨k0, m0, m1, m2, m5, m6, m7⟩ := x
  have g : ∀ g, g ≠ f → fr (sR h f p v) g p = fr h g p := fun g hg => by rw [fr_sR, if_neg (fun y => hg y.1)]
  refine ⟨k0, (g _ (by omega)).trans m0, m1, m2, ?_, (g _ (by omega)).trans m6, (g _ (by omega)).trans m7⟩
  rw [g _ (by omega)]; exact m5.nilc rfl rfl rfl
theorem MeP_m {p kk wd pl : Nat} {T : Ty} {nm : Td} (x : MeP F h p kk wd pl) (ht : TyM h (fr h 389 p) T) (hn : ToM h (fr h 390 p) nm) : MeM F h p kk ((T, nm), (wd, pl, [], none)) := by
  obtain ⟨k0, m0, m1, m2, m5, m6, m7⟩ := x
  exact ⟨k0, m0, m1, m2, ht, hn, m5, m6, m7⟩
theorem eqS_y {β : Type} {t1 t2 : Rs β} {p r : Nat} (h1 : 900 ≤ p ∧ p < 908) (hr : 900 ≤ r ∧ r < 908) : eqS p r t1 t2 = if p = r then t1 else t2 := if_pos ⟨h1, hr⟩
theorem srt_b (f : Nat) : srt f ≤ 6 ∧ (srt f = 3 ↔ f = 1) := by
  unfold srt
  split
  · exact ⟨by omega, by omega⟩
  · split
    · exact ⟨by omega, by omega⟩
    · split <;> exact ⟨by omega, by omega⟩
theorem eqS_f {β : Type} {t1 t2 : Rs β} {f : Nat} : eqS (900 + srt f) 903 t1 t2 = if f = 1 then t1 else t2 := by
  have := srt_b f
  rw [eqS_y (by omega) (by omega)]
  by_cases c : f = 1
  · rw [if_pos c, if_pos (by omega)]
  · rw [if_neg c, if_neg (by omega)]
/-- a member whose method is not begun fails in the twin where there is no token -/
theorem b221_no {P p tA : Nat} (q : PM e h j IT TY QU) (n : (tk e.TS j).1 = 9 ∧ (tk e.TS j).2.1 = P) : ∃ h', f_X48_member_b221 e.Q k tA p h = rex h' ∧ St [] [e.tr] 1 h h' ∧ StopM e h' P := by
  obtain ⟨h', e1, s1, f1⟩ := mwrong q
  refine ⟨h', ?_, s1, n.2 ▸ f1⟩
  rw [b221_e, m46_e q, misS_e q (by decide) (by decide) rfl, if_neg (fun z => by have := z.1; omega), if_pos y00, m46_e q, e1]
theorem Dc.trZ (C : Dc e Zx Zm hx0 hm0) {hA hB : HP} (s : St [] Zm Y hm0 hA) (t : St [] [e.tr] 1 hA hB) : St [] Zm (Y + 1) hm0 hB := s.cat t (fun _ z => z) (fun x hx => by
  rcases C.2.2.2.2.2.2.2 x (by rw [List.mem_singleton.mp hx]; simp) with z | z
  · exact .inl z
  · exact .inr (.inl z))
theorem Dc.mmZ (C : Dc e Zx Zm hx0 hm0) {hA hB : HP} {c : Nat} (s : St [] Zm Y hm0 hA) (t : MS e c hA hB) : St [] Zm (Y + c) hm0 hB := s.cat t (fun _ z => z) (fun x hx => by
  rcases C.2.2.2.2.2.2.2 x hx with z | z
  · exact .inl z
  · exact .inr (.inl z))
theorem Dc.xxZ (C : Dc e Zx Zm hx0 hm0) {hA hB : HP} {c : Nat} (s : St [] Zx X hx0 hA) (t : XS e c hA hB) : St [] Zx (X + c) hx0 hB := s.cat t.1 (fun _ z => z) (fun x hx => by
  rcases C.2.2.2.2.2.2.1 x hx with z | z
  · exact .inl z
  · exact .inr (.inl z))
/-- a field in both, behind its ; -/
theorem fld_pair {p t7 s9 np i0 X0 Y0 : Nat} {T : Ty} {nm : List Nat} (C : Dc e Zx Zm hx0 hm0) (M0 : Mb0 hx0 hm0 hxA hmA) (Cu : Cur e bx bm hxA hmA a k num d) (hl : d.2.2.2.2.2.1.length ≤ 300) (hbx : bx ≤ nx hxA) (hbm : bm ≤ nx hmA) (Bb : Bx Zx Zm hx0 hm0 bx bm)
    (W : Mw e Zx Zm hx0 hm0 hxA hmA bx bm X Y hx hm i TY QU []) (hi0 : i0 < i) (hX : X + 6 ≤ X0 + 88 * (i - i0)) (hY : Y + 22 ≤ Y0 + 88 * (i - i0)) (ht : TyE e hx t7 T) (hs : StrX hx s9 nm) (kp : kc hm p = 50) (tm : TyM hm (fr hm 389 p) T) (nmM : ToM hm (fr hm 390 p) (nm, np)) (hnm : nm ∉ PW) :
    MDon e Zx Zm hx0 hm0 bx bm X0 Y0 a k num d i0 (nwO 15 8 hx fun p4 h5 => if kc h5 p4 = 15 then bd (f_X14_init p4 t7 s9 (nI np) 0 h5) (fun _ h6 => rok p4 h6) else none) (ldR 47 371 k hm fun x10 => nwO 49 2 hm fun p11 h12 => ldR 50 389 p h12 fun x13 => ldR 50 390 p h12 fun x14 => if kc h12 p11 = 49 then bd (f_X51_init p11 x13 x14 h12) (fun _ h15 => lsAdd x10 p11 h15 fun h16 => ldR 47 374 k h16 fun x17 => ivOf (0 : Int32) h16 fun x18 h19 => lsAdd x17 x18 h19 fun h20 => rok () h20) else none) := by
  have S := W.1
  have p1 := S.2.2.1.1
  have q1 := S.2.2.2
  obtain ⟨DX1, KM1⟩ := W.cur Cu
  have ka : kc hx a = 13 := DX1.1
  have kk : kc hm k = 47 := KM1.1
  have sx2 : St [] [] (0 + 1) hx (nO hx 15 8) := (St.refl p1.1 [] []).nO (by omega) (by omega)
  have sm2 : St [] [] (0 + 1) hm (nO hm 49 2) := (St.refl q1.1 [] []).nO (by omega) (by omega)
  have p2 := p1.new sx2
  have q2 := q1.new sm2
  have S2 := (S.chX sx2 (by simp) p2 (p1.keep (Z := []) sx2.fx (by simp))).chM sm2 (by simp) q2
  have c0 : kc hx (nx hx) = 0 := p1.1.new
  have d0 : kc hm (nx hm) = 0 := q1.1.new
  have zx := p1.1.2.1 (nx hx) (Nat.le_refl _)
  have c15 : kc (nO hx 15 8) (nx hx) = 15 := kc_nO_n
  have d49 : kc (nO hm 49 2) (nx hm) = 49 := kc_nO_n
  have z180 : fi (nO hx 15 8) 180 (nx hx) = 0 := by rw [fi_nO]; exact zx.2.1 180
  have z181 : fi (nO hx 15 8) 181 (nx hx) = 0 := by rw [fi_nO]; exact zx.2.1 181
  have fx2 : FxX e (Fb bx (nx hx)) ALLX hx (nO hx 15 8) := FxX.nw p1 sx2
  have fm2 : FxM (Fb bm (nx hm)) ALLM hm (nO hm 49 2) := FxM.nw sm2
  have c0' : kc hx0 (nx hx) = 0 := (C.2.1.2.1 _ S.1.2.1).1
  have d0' : kc hm0 (nx hm) = 0 := (C.2.2.1.2.1 _ S.2.1.2.1).1
  have kp2 : kc (nO hm 49 2) p = 50 := sm2.2.kk kp (by decide)
  have r389 : fr (nO hm 49 2) 389 p = fr hm 389 p := rfl
  have r390 : fr (nO hm 49 2) 390 p = fr hm 390 p := rfl
  obtain ⟨hx4, e4, s4, f4', p4, k4', n4', MB⟩ := mbF_new p2 (S2.cl C).1 c15 z180 z181 (TyE_fx fx2 ht) (StrX_fx fx2 hs) hnm (v := np)
  obtain ⟨hm4, g2, t4, f4, k4, n4, VM⟩ := varM_new q2.1 d49 (TyM_fx fm2 tm) (ToM_fx fm2 nmM)
  have q4 := q2.dec t4.1 f4 (fun x hx => by rw [List.mem_singleton.mp hx, d49]; decide) (S2.cl C).2.2
  have fm4 := fm2.newo f4 (fun x hx => by rw [List.mem_singleton.mp hx]; exact d0) (by decide)
  have nm4 : nx hm ≤ nx hm4 := by rw [n4]; exact sm2.2.1
  have KM4 := KdM_up (G := Fb bm (nx hm4)) fm4 KM1 (fun l z => Fb_m z nm4)
  have nl4 : kc hm4 e.nl = 168 := t4.2.kk (S2.cl C).2.2 (by decide)
  obtain ⟨hm5, g3, t5, q5, KM5, F371, F374, nm5⟩ := ownM_add (v := (T, (nm, np))) q4 nl4 KM4 hl k4 (VM _)
  have a371 : fr hm4 371 k = fr hm 371 k := (fm4.ob kk (by decide) (by decide)).2.2.2.2.1 371
  have fx4 := fx2.newo p2 f4' (fun x hx => by rw [List.mem_singleton.mp hx, c15]; decide) (fun x hx => by rw [List.mem_singleton.mp hx]; exact c0) (by decide)
  have nx4 : nx hx ≤ nx hx4 := by rw [n4']; show nx hx ≤ nx hx + 1 + 2; omega
  have DX4 := DX_up (G := Fb bx (nx hx)) fx4 DX1 (fun l z => z)
  rw [nwO_e, if_pos c15, e4, ldR_e kk, nwO_e, ldR_e kp2, ldR_e kp2, r389, r390, if_pos d49, g2, ← a371, g3]
  have S5 := ((S2.chX s4 (fun x hx => .inr (by rw [List.mem_singleton.mp hx]; exact c0')) p4 (p2.keep f4' (fun x hx => by rw [List.mem_singleton.mp hx, c15]; decide))).chM t4 (fun x hx => .inr (by rw [List.mem_singleton.mp hx]; exact d0')) q4).chM t5 (fun x hx => by
    rcases List.mem_cons.mp hx with z | z
    · rw [z]; exact Bb.2 _ F371.1
    · rw [List.mem_singleton.mp z]; exact Bb.2 _ F374.1) q5
  have MBx := MB (nx hx) (by show nx hx ≤ nx hx + 1; omega) (fr hx4 163 a)
  exact ⟨nx hx, hx4, hm5, i, ((T, (nm, np)), none), TY, QU, nx hx, rfl, rfl, hi0, ⟨S5.1.le (by omega), S5.2.1.le (by omega), S5.2.2⟩, DX4, KM5, k4', ⟨fun _ => rfl, fun _ => MBx.2.2.2.2.2.2.2.2.1⟩, MBx, Nat.le_trans hbx W.2.2.2.1, nx4⟩
