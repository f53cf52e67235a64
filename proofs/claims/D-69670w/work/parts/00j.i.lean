/-! PHASE B declarations 9: what stays over many steps; fields are made -/
set_option maxRecDepth 100000
variable {e : EE} {Zx Zm : List Nat} {hx hm h h1 h2 h' hx0 hm0 : HP} {i j a b k X Y bx bm : Nat} {IT : List It} {TY : List Ty} {QU : List (List Nat)} {F : Nat → Prop} {KL : List Nat} {d : DC} {TY' : List Ty} {QU' : List (List Nat)} {num : Nat × Nat}
theorem FxX.refl : FxX e F KL h h := ⟨[], fun p _ _ => ⟨rfl, rfl, Eq1.refl h p⟩, by simp, fun _ z => z, fun _ _ _ _ z => z⟩
theorem FxM.refl : FxM F KL h h := ⟨[], fun p _ _ => ⟨rfl, rfl, Eq1.refl h p⟩, by simp⟩
theorem Fx.app {X1 X2 : List Nat} (f : Fx X1 h h1) (g : Fx X2 h1 h2) : Fx (X1 ++ X2) h h2 := fun p hp hm => by
  simp only [List.mem_append, not_or] at hm
  obtain ⟨a1, a2, a3⟩ := f p hp hm.1
  obtain ⟨b1, b2, b3⟩ := g p (by rw [a1]; exact hp) hm.2
  exact ⟨b1.trans a1, b2.trans a2, a3.trans b3⟩
theorem FxX.trans (f : FxX e F KL h h1) (g : FxX e F KL h1 h2) (h0 : 0 ∉ KL) : FxX e F KL h h2 := by
  obtain ⟨X1, f1, f2, f3, f4⟩ := f
  obtain ⟨X2, g1, g2, g3, g4⟩ := g
  refine ⟨X1 ++ X2, f1.app g1, fun x hx => ?_, fun x hx => g3 x (f3 x hx), fun Q n its H y => g4 _ _ _ _ (f4 _ _ _ _ y)⟩
  by_cases m : x ∈ X1
  · exact f2 x m
  · have m2 : x ∈ X2 := (List.mem_append.mp hx).resolve_left m
    by_cases z : kc h x = 0
    · rw [z]; exact ⟨by decide, fun y => absurd y h0⟩
    · have u := g2 x m2
      rw [(f1 x z m).1] at u; exact u
theorem FxM.trans (f : FxM F KL h h1) (g : FxM F KL h1 h2) (h0 : 0 ∉ KL) : FxM F KL h h2 := by
  obtain ⟨X1, f1, f2⟩ := f
  obtain ⟨X2, g1, g2⟩ := g
  refine ⟨X1 ++ X2, f1.app g1, fun x hx => ?_⟩
  by_cases m : x ∈ X1
  · exact f2 x m
  · have m2 : x ∈ X2 := (List.mem_append.mp hx).resolve_left m
    by_cases z : kc h x = 0
    · rw [z]; exact ⟨by decide, fun y => absurd y h0⟩
    · have u := g2 x m2
      rw [(f1 x z m).1] at u; exact u
/-- what has come since has changed -/
theorem FxX.newo (f : FxX e F KL h h1) (p : PX e h1 i TY QU) {Z : List Nat} (g : Fx Z h1 h2) (hZ : ∀ x ∈ Z, kdX (kc h1 x) = true) (hn : ∀ x ∈ Z, kc h x = 0) (h0 : 0 ∉ KL) : FxX e F KL h h2 := by
  obtain ⟨g3, g4⟩ := p.keep g hZ
  obtain ⟨X1, f1, f2, f3, f4⟩ := f
  refine ⟨X1 ++ Z, f1.app g, fun x hx => ?_, fun x hx => g3 x (f3 x hx), fun Q n its H y => g4 _ _ _ _ (f4 _ _ _ _ y)⟩
  rcases List.mem_append.mp hx with m | m
  · exact f2 x m
  · rw [hn x m]; exact ⟨by decide, fun y => absurd y h0⟩
theorem FxM.newo (f : FxM F KL h h1) {Z : List Nat} (g : Fx Z h1 h2) (hn : ∀ x ∈ Z, kc h x = 0) (h0 : 0 ∉ KL) : FxM F KL h h2 := by
  obtain ⟨X1, f1, f2⟩ := f
  refine ⟨X1 ++ Z, f1.app g, fun x hx => ?_⟩
  rcases List.mem_append.mp hx with m | m
  · exact f2 x m
  · rw [hn x m]; exact ⟨by decide, fun y => absurd y h0⟩
theorem FxX.stp (f : FxX e F KL h h1) (p : PX e h1 i TY QU) (s : XS e a h1 h2) (hK : 105 ∉ KL ∧ 106 ∉ KL ∧ 10 ∉ KL ∧ 2 ∉ KL ∧ 0 ∉ KL) : FxX e F KL h h2 := f.trans (XS.fxx p s ⟨hK.1, hK.2.1, hK.2.2.1, hK.2.2.2.1⟩) hK.2.2.2.2
theorem FxM.stp (f : FxM F KL h h1) (q : PM e h1 i IT TY QU) (h0 : e.il = 0) (s : MS e a h1 h2) (hK : 46 ∉ KL ∧ 6 ∉ KL ∧ 140 ∉ KL ∧ 141 ∉ KL ∧ 0 ∉ KL) : FxM F KL h h2 := f.trans (MS.fxm q h0 s hK) hK.2.2.2.2
/-- the present declaration, later -/
theorem Cur.lat (C : Cur e bx bm hx hm a k num d) {hx' hm' : HP} (f : FxX e (Fb bx (nx hx)) ALLX hx hx') (g : FxM (Fb bm (nx hm)) ALLM hm hm') (n1 : nx hx ≤ nx hx') (n2 : nx hm ≤ nx hm') : Cur e bx bm hx' hm' a k num d :=
  ⟨DX_up f C.1 (fun l z => ⟨z.1, by have := z.2; omega⟩), KdM_up g C.2 (fun l z => ⟨z.1, by have := z.2; omega⟩)⟩
/-- a step of both -/
theorem Cur.st (C : Cur e bx bm hx hm a k num d) {hx' hm' : HP} {x y : Nat} (p : PX e hx i TY QU) (q : PM e hm j IT TY' QU') (h0 : e.il = 0) (s : XS e x hx hx') (t : MS e y hm hm') : Cur e bx bm hx' hm' a k num d :=
  C.lat (XS.fxx p s (by decide)) (MS.fxm q h0 t (by decide)) s.nx t.2.1
theorem Dq.fail {α β : Type} {N c : Nat} (C : Dc e Zx Zm hx0 hm0) (S : Dq e Zx Zm hx0 hm0 X Y hx hm i TY QU IT) {rx : Rs α} {rm : Rs β} (f : Fail e hx hm a N c rx rm) : DF e Zx Zm hx0 hm0 (X + a) (Y + c) rx rm := by
  obtain ⟨p, hx', e1, s1, f1, m⟩ := f
  have mm : ∀ {hB : HP}, MS e c hm hB → St [] Zm (Y + c) hm0 hB := fun u => S.2.1.cat u (fun _ z => z) (fun x hx => by
    rcases C.2.2.2.2.2.2.2 x hx with z | z
    · exact .inl z
    · exact .inr (.inl z))
  refine ⟨p, hx', e1, S.1.cat s1.1 (fun _ z => z) (fun x hx => ?_), f1, ?_⟩
  · rcases C.2.2.2.2.2.2.1 x hx with z | z
    · exact .inl z
    · exact .inr (.inl z)
  · rcases m with ⟨h5, a1, a2, a3⟩ | ⟨v, h5, a1, a2, a3⟩
    · exact .inl ⟨h5, a1, mm a2, a3⟩
    · exact .inr ⟨v, h5, e.il, N, a1, mm a2, a3, C.il⟩
theorem mtypeN (q : PM e h j IT TY QU) (hx : ¬ ((tk e.TS j).1 = 1 ∨ plT (tk e.TS j))) : ∃ h', (∀ (β : Type) (K : Nat → HP → Rs β), bd (f_X48_type e.Q h) K = rex h') ∧ St [] [e.tr] 1 h h' ∧ StopM e h' (tk e.TS j).2.1 := by
  obtain ⟨h', e1, s1, f1⟩ := mwrong q
  refine ⟨h', fun β K => ?_, s1, f1⟩
  unfold f_X48_type
  rw [m46_e q, mtok_e q, m46_e q, mbeg_e q, if_neg hx, if_pos y00, m46_e q, e1, bd_ex]
def addB (d : DC) (ms : List Mb) : DC := (d.1, d.2.1, d.2.2.1, d.2.2.2.1, d.2.2.2.2.1, d.2.2.2.2.2.1 ++ ms, d.2.2.2.2.2.2)
theorem addB_add (d : DC) (ts us : List Mb) : addB (addB d ts) us = addB d (ts ++ us) := by unfold addB; simp
theorem addB_nil (d : DC) : addB d [] = d := by unfold addB; rw [List.append_nil]
theorem own_v {d : DC} {v : Vr} : (addB d [(v, none)]).own = d.own ++ [v] ∧ (addB d [(v, none)]).met = d.met ∧ (addB d [(v, none)]).flg = d.flg ++ [0] := by
  unfold DC.own DC.met DC.flg addB
  simp
theorem own_m {d : DC} {v : Vr} {t : Mt} : (addB d [(v, some t)]).own = d.own ∧ (addB d [(v, some t)]).met = d.met ++ [(v, t)] ∧ (addB d [(v, some t)]).flg = d.flg ++ [1] := by
  unfold DC.own DC.met DC.flg addB
  simp
theorem own_len (d : DC) : d.own.length ≤ d.2.2.2.2.2.1.length ∧ d.met.length ≤ d.2.2.2.2.2.1.length ∧ d.flg.length = d.2.2.2.2.2.1.length :=
  ⟨List.length_filterMap_le _ _, List.length_filterMap_le _ _, List.length_map ..⟩
/-- a field in the component -/
theorem mbF_new (p : PX e h i TY QU) (hcl : kc h e.cl = 129) {q t s v : Nat} {T : Ty} {nm : List Nat} (kq : kc h q = 15) (z180 : fi h 180 q = 0) (z181 : fi h 181 q = 0) (ht : TyE e h t T) (hs : StrX h s nm) (hnm : nm ∉ PW) :
    ∃ h', (∀ {β : Type} {K : HP → Rs β}, bd (f_X14_init q t s (nI v) 0 h) (fun _ h2 => K h2) = K h') ∧ St [] [q] 5 h h' ∧ Fx [q] h h' ∧ PX e h' i TY QU ∧ kc h' q = 15 ∧ nx h' = nx h + 2 ∧ ∀ b, b ≤ nx h → ∀ k, MbX e (Fb b (nx h')) h' q k ((T, (nm, v)), none) := by
  obtain ⟨h', e1, s1, n1, c0, c1, c2, f178, f179, f174, f175, f176, f177, a1, b1, a2, b2, oth⟩ := mk_df1 p.1 kq (t := t) (s := s) (v := nI v) (m := 0)
  have f := s1.fx
  have hkd : ∀ x ∈ [q], kdX (kc h x) = true := fun x hx => by rw [List.mem_singleton.mp hx, kq]; decide
  have F1 : Fr (fun k => decide (k ≠ 15)) h h' := f.fr (fun x hx => by rw [List.mem_singleton.mp hx, kq]; decide)
  obtain ⟨tl, _⟩ := p.keep f hkd
  refine ⟨h', e1, s1.le (by omega), f, p.dec s1.1 f hkd hcl, c0, n1, fun b hb k => ⟨c0, ?_, ?_, f176, ?_, ?_, ?_, ?_, f177, fun _ => hnm, fun v hv => by simp [mps] at hv, by simp [mps]⟩⟩
  · rw [f174]; exact ⟨TyX_fr F1 ht.1 (by decide) (by decide), tl _ ht.2⟩
  · rw [f175]; exact StrX_fr F1 hs (by decide)
  · rw [f178]; exact list_at ⟨hb, by omega⟩ c1 a1 b1
  · rw [f179]; exact list_at ⟨by omega, by omega⟩ c2 a2 b2
  · exact ((oth 180 (by decide)).2.trans z180).trans rfl
  · exact ((oth 181 (by decide)).2.trans z181).trans rfl
/-- a variable in the twin -/
theorem varM_new (w : WG h) {p t n : Nat} {T : Ty} {x : Td} (kp : kc h p = 49) (ht : TyM h t T) (hn : ToM h n x) :
    ∃ h', (∀ {β : Type} {K : HP → Rs β}, bd (f_X51_init p t n h) (fun _ h2 => K h2) = K h') ∧ St [] [p] 0 h h' ∧ Fx [p] h h' ∧ kc h' p = 49 ∧ nx h' = nx h ∧ ∀ F, VarM F h' p (T, x) := by
  have p0 : p ≠ 0 := fun z => by rw [z, (w.2.2 0 (by omega)).1] at kp; exact absurd kp (by decide)
  have s1 : St [] [p] 0 h (sR (sR h 384 p t) 385 p n) := ((St.refl w [] [p]).sR kp (by decide) (.inr (.inr (by simp)))).sR kp (by decide) (.inr (.inr (by simp)))
  have F1 : Fr (fun k => decide (k ≠ 49)) h (sR (sR h 384 p t) 385 p n) := s1.fx.fr (fun x hx => by rw [List.mem_singleton.mp hx, kp]; decide)
  refine ⟨_, fun {β K} => ?_, s1, s1.fx, kp, rfl, fun F => ⟨kp, ?_, ?_⟩⟩
  · unfold f_X51_init
    have k2 : kc (sR h 384 p t) p = 49 := kp
    rw [if_neg p0, stR_e kp, stR_e k2, bd_ok]
  · rw [show fr (sR (sR h 384 p t) 385 p n) 384 p = t by simp [fr_sR]]; exact TyM_fr F1 ht (by decide) (by decide)
  · rw [show fr (sR (sR h 384 p t) 385 p n) 385 p = n by simp [fr_sR]]; exact ToM_fr F1 hn (by decide) (by decide)
/-- a field is put into the twin's declaration -/
theorem ownM_add {p : Nat} {v : Vr} (q : PM e h i IT TY QU) (hnl : kc h e.nl = 168) (x : KdM (Fb b (nx h)) h k num.1 d) (hl : d.2.2.2.2.2.1.length ≤ 300) (kp : kc h p = 49) (hv : VarM (Fb b (nx h)) h p v) :
    ∃ h', (∀ {β : Type} {K : HP → Rs β}, lsAdd (fr h 371 k) p h (fun h9 => ldR 47 374 k h9 fun x10 => ivOf (0 : Int32) h9 fun x11 h12 => lsAdd x10 x11 h12 K) = K h') ∧ St [] [fr h 371 k, fr h 374 k] 21 h h' ∧ PM e h' i IT TY QU ∧ KdM (Fb b (nx h')) h' k num.1 (addB d [(v, none)]) ∧ Fb b (nx h) (fr h 371 k) ∧ Fb b (nx h) (fr h 374 k) ∧ nx h ≤ nx h' := by
  obtain ⟨o1, o2, o3⟩ := own_v (d := d) (v := v)
  obtain ⟨l1, l2, l3⟩ := own_len d
  obtain ⟨e1, s1, q1, x1, k1, F1, f1⟩ := KdMg_371 (e := e) q hnl x (by omega) (.inr (.inr (.inr (by rw [kp]; decide)))) hv
  have kk : kc (lad h (fr h 371 k) p) k = 47 := x1.1
  have r374 : fr (lad h (fr h 371 k) p) 374 k = fr h 374 k := rfl
  obtain ⟨h2, v2, e2, s2, iv, kv⟩ := ivOf_e q1.1 (n := 0) (by omega)
  have q2 := q1.new s2
  have n2 : nx h ≤ nx h2 := s2.2.1
  have M2 : FxM (Fb b (nx h)) ALLM (lad h (fr h 371 k) p) h2 := ⟨[], s2.fx, by simp⟩
  have x2 : KdMg (Fb b (nx h2)) h2 k num.1 d.1 d.2.2.1 d.2.1.2 d.2.1.1 d.2.2.2.1 d.2.2.2.2.1 (d.own ++ [v]) d.met d.2.2.2.2.2.2 d.flg := KdMg_wk (e := e) (fun l z => ⟨z.1, by have := z.2; omega⟩) (KdMg_fx (e := e) M2 (fun k hk => by unfold ALLM; simp at hk ⊢; omega) x1)
  have E2 := M2.ob kk (by decide) (by decide)
  have hnl2 : kc h2 e.nl = 168 := s2.2.kk (s1.2.kk hnl (by decide)) (by decide)
  have g374 : fr h2 374 k = fr h 374 k := (E2.2.2.2.2.1 374).trans r374
  obtain ⟨e3, s3, q3, x3, k3, F3, f3⟩ := KdMg_374 (e := e) q2 hnl2 x2 (by omega) (.inr (.inr (.inl kv))) iv
  have F374 : Fb b (nx h) (fr h 374 k) := by
    obtain ⟨_, _, _, _, _, _, _, _, _, _, _, _, _, y, _⟩ := x; exact y.1
  refine ⟨lad h2 (fr h2 374 k) v2, fun {β K} => ?_, ?_, q3, ?_, F1, F374, n2⟩
  · have e2' : ∀ {β : Type} {K : Nat → HP → Rs β}, ivOf (0 : Int32) (lad h (fr h 371 k) p) K = K v2 h2 := e2
    rw [e1, ldR_e kk, r374, e2', ← g374, e3]
  · rw [g374] at s3 ⊢
    exact (((s1.wk (X2 := [fr h 371 k, fr h 374 k]) (fun _ z => z) (fun x hx => .inl (by rw [List.mem_singleton.mp hx]; simp)) (Nat.le_refl _)).cat s2 (fun _ z => z) (fun x hx => by simp at hx)).cat s3 (fun _ z => z) (fun x hx => .inl (by rw [List.mem_singleton.mp hx]; simp))).le (by omega)
  · unfold KdM
    rw [o1, o2, o3]; exact x3
theorem Fb_m {b x y l : Nat} (z : Fb b x l) (h : x ≤ y) : Fb b y l := ⟨z.1, by have := z.2; omega⟩
theorem lenB (d : DC) (m : Mb) : (addB d [m]).2.2.2.2.2.1.length = d.2.2.2.2.2.1.length + 1 := by unfold addB; simp
/-- components of a record -/
theorem comp_l (C : Dc e Zx Zm hx0 hm0) (B : Bx Zx Zm hx0 hm0 bx bm) (N : Nat) : ∀ (hx hm : HP) (i X Y : Nat) (d : DC) (TY : List Ty) (NX NM : Nat), N < NX → N < NM → e.TS.length - i < N → d.2.2.2.2.2.1.length ≤ i → Dq e Zx Zm hx0 hm0 X Y hx hm i TY QU IT → Cur e bx bm hx hm a k num d →
    (∃ hx' hm' j ms TY', f_X11_components_l27 e.P a NX 1 hx = rok () hx' ∧ f_X48_components_l15 e.Q k NM hm = rok () hm' ∧ i < j ∧ Dq e Zx Zm hx0 hm0 (X + 88 * (j - i)) (Y + 88 * (j - i)) hx' hm' j TY' QU IT ∧ Cur e bx bm hx' hm' a k num (addB d ms) ∧ d.2.2.2.2.2.1.length + ms.length ≤ j ∧ ms.length + i ≤ j ∧ ∀ m ∈ ms, m.2 = none) ∨
    DF e Zx Zm hx0 hm0 (X + 88 * (e.TS.length - i)) (Y + 88 * (e.TS.length - i)) (f_X11_components_l27 e.P a NX 1 hx) (f_X48_components_l15 e.Q k NM hm) := by
  induction N with
  | zero => intro hx hm i X Y d TY NX NM _ _ h1; omega
  | succ N ih =>
    intro hx hm i X Y d TY NX NM hNX hNM h1 hdl S Cu
    obtain ⟨NX, rfl⟩ : ∃ k, NX = k + 1 := ⟨NX - 1, by omega⟩
    obtain ⟨NM, rfl⟩ : ∃ k, NM = k + 1 := ⟨NM - 1, by omega⟩
    obtain ⟨cl, kP, nl⟩ := S.cl C
    have p := S.2.2.1.1
    have q := S.2.2.2
    have hi := q.jj.1
    have h3 := q.jj.2.2.2
    rw [f_X11_components_l27_s, f_X48_components_l15_s]
    unfold b_X11_components_l27 b_X48_components_l15
    rw [if_neg z10, if_pos (by rw [kP]; simp), m46_e q]
    rcases ty_pair p q with ⟨n, m, hx1, hm1, j, T, e1, e2, h4, s1, t1, p1, q1, Tn, nt, Tm, n0, n173⟩ | ⟨f, V⟩
    · have hj := q1.jj.1
      rw [e1, e2, bd_ok, bd_ok]
      have S1 := S.tr C s1 t1 p1 q1
      have Cu1 := Cu.st p q C.1 s1 t1
      obtain ⟨DX1, KM1⟩ := Cu1
      have ka : kc hx1 a = 13 := DX1.1
      have kk : kc hm1 k = 47 := KM1.1
      obtain ⟨cl1, kP1, nl1⟩ := S1.cl C
      have V1 := p1.V
      rw [xt12_e kP1 p1, xplc_e p1, ldR_e ka, nwO_e, ldR_e kk, nwO_e]
      -- the objects
      have sx2 : St [] [] (0 + 1) hx1 (nO hx1 15 8) := (St.refl p1.1 [] []).nO (by omega) (by omega)
      have sm2 : St [] [] (0 + 1) hm1 (nO hm1 49 2) := (St.refl q1.1 [] []).nO (by omega) (by omega)
      have p2 := p1.new sx2
      have q2 := q1.new sm2
      have S2 := (S1.chX sx2 (by simp) p2 (p1.keep (Z := []) sx2.fx (by simp))).chM sm2 (by simp) q2
      have c0 : kc hx1 (nx hx1) = 0 := p1.1.new
      have d0 : kc hm1 (nx hm1) = 0 := q1.1.new
      have zx := p1.1.2.1 (nx hx1) (Nat.le_refl _)
      have c15 : kc (nO hx1 15 8) (nx hx1) = 15 := kc_nO_n
      have d49 : kc (nO hm1 49 2) (nx hm1) = 49 := kc_nO_n
      have z180 : fi (nO hx1 15 8) 180 (nx hx1) = 0 := by rw [fi_nO]; exact zx.2.1 180
      have z181 : fi (nO hx1 15 8) 181 (nx hx1) = 0 := by rw [fi_nO]; exact zx.2.1 181
      have fx2 : FxX e (Fb bx (nx hx1)) ALLX hx1 (nO hx1 15 8) := FxX.refl.newo p1 (Z := []) sx2.fx (by simp) (by simp) (by decide)
      have fm2 : FxM (Fb bm (nx hm1)) ALLM hm1 (nO hm1 49 2) := FxM.refl.newo (Z := []) sm2.fx (by simp) (by decide)
      have TE2 : TyE e (nO hx1 15 8) n T := TyE_fx fx2 ⟨Tn, nt⟩
      have TM2 : TyM (nO hm1 49 2) m T := TyM_fx fm2 Tm
      have hn2 : nx (nO hx1 15 8) = nx hx1 + 1 := rfl
      have hn3 : nx (nO hm1 49 2) = nx hm1 + 1 := rfl
      have c0' : kc hx0 (nx hx1) = 0 := (C.2.1.2.1 _ S1.1.2.1).1
      have d0' : kc hm0 (nx hm1) = 0 := (C.2.2.1.2.1 _ S1.2.1.2.1).1
      have r168 : fr (nO hx1 15 8) 168 a = fr hx1 168 a := rfl
      have r371 : fr (nO hm1 49 2) 371 k = fr hm1 371 k := rfl
      have kP2 := (S2.cl C).2.1
      rw [xt12_e kP2 p2, x10_e p2, m46_e q2]
      generalize nO hx1 15 8 = hx2 at *
      generalize nO hm1 49 2 = hm2 at *
      by_cases c : (tk e.TS j).1 = 1
      · obtain ⟨n', hm3, g1, t3, To, n0', q3, r⟩ := nam p2 q2 c
        rw [xnameY p2 c, g1]
        have wd := p2.wrd
        have fm3 := fm2.stp q2 C.1 t3 (by decide)
        have k49 : kc hm3 (nx hm1) = 49 := t3.2.kk d49 (by decide)
        have TM3 : TyM hm3 m T := TyM_fx (MS.fxm (F := Fb bm 0) (KL := []) q2 C.1 t3 (by decide)) TM2
        obtain ⟨hm4, g2, t4, f4, k4, n4, VM⟩ := varM_new q3.1 k49 TM3 To
        have q4 := q3.dec t4.1 f4 (fun x hx => by rw [List.mem_singleton.mp hx, k49]; decide) (t3.2.kk (S2.cl C).2.2 (by decide))
        have fm4 := fm3.newo f4 (fun x hx => by rw [List.mem_singleton.mp hx]; exact d0) (by decide)
        have nm4 : nx hm1 ≤ nx hm4 := by have := t3.2.1; omega
        have KM4 := KdM_up (G := Fb bm (nx hm4)) fm4 KM1 (fun l z => Fb_m z nm4)
        have nl4 : kc hm4 e.nl = 168 := t4.2.kk (t3.2.kk (S2.cl C).2.2 (by decide)) (by decide)
        obtain ⟨hm5, g3, t5, q5, KM5, F371, F374, nm5⟩ := ownM_add (v := (T, ((tk e.TS j).2.2.1, (tk e.TS j).2.1))) q4 nl4 KM4 (by omega) k4 (VM _)
        have a371 : fr hm4 371 k = fr hm1 371 k := (fm4.ob kk (by decide) (by decide)).2.2.2.2.1 371
        have hz5 : ∀ x ∈ [fr hm4 371 k, fr hm4 374 k], x ∈ Zm ∨ kc hm0 x = 0 := fun x hx => by
          rcases List.mem_cons.mp hx with z | z
          · rw [z]; exact B.2 _ F371.1
          · rw [List.mem_singleton.mp z]; exact B.2 _ F374.1
        have hz4 : ∀ x ∈ [nx hm1], x ∈ Zm ∨ kc hm0 x = 0 := fun x hx => .inr (by rw [List.mem_singleton.mp hx]; exact d0')
        rw [if_pos k49, g2, ← a371, g3, m46_e q5]
        have hj3 := q3.jj.1
        rcases r with ⟨hx3, e3, s3, p3⟩ | ⟨hx3, P, e3, s3, f3, n3⟩
        · have S3 := ((S2.tr C s3 t3 p3 q3).chM t4 hz4 q4).chM t5 hz5 q5
          have k15 : kc hx3 (nx hx1) = 15 := s3.1.2.kk c15 (by decide)
          have Z3 : FxX e (Fb bx 0) [] hx2 hx3 := XS.fxx p2 s3 (by decide)
          have E3 := Z3.ob c15 (by decide) (by decide)
          have TE3 : TyE e hx3 n T := TyE_fx Z3 TE2
          have wd3 : StrX hx3 (fr hx2 154 e.t) (tk e.TS j).2.2.1 := StrX_fx Z3 wd
          obtain ⟨hx4, e4, s4, f4', p4, k4', n4', MB⟩ := mbF_new p3 (S3.cl C).1 k15 ((E3.2.2.1 180).trans z180) ((E3.2.2.1 181).trans z181) TE3 wd3 (fun z => (p2.V.2.2.1 c).1 (PWK _ z)) (v := (tk e.TS j).2.1)
          have fx3 := fx2.stp p2 s3 (by decide)
          have fx4 := fx3.newo p3 f4' (fun x hx => by rw [List.mem_singleton.mp hx, k15]; decide) (fun x hx => by rw [List.mem_singleton.mp hx]; exact c0) (by decide)
          have nx4 : nx hx1 ≤ nx hx3 := by have := s3.nx; omega
          have DX4 := DX_up (G := Fb bx (nx hx1)) fx4 DX1 (fun l z => z)
          have bxx : bx ≤ nx hx3 := by
            have : Fb bx (nx hx1) (fr hx1 166 a) := by
              obtain ⟨_, _, _, _, y, _⟩ := DX1; exact y.1
            obtain ⟨u1, u2⟩ := this
            exact Nat.le_trans u1 (by omega)
          have S4 := S3.chX s4 (fun x hx => .inr (by rw [List.mem_singleton.mp hx]; exact c0')) p4 (p3.keep f4' (fun x hx => by rw [List.mem_singleton.mp hx, k15]; decide))
          obtain ⟨e5, s5, p5, DX5, k5, F5, f5⟩ := DXg_168 p4 (S4.cl C).1 DX4 (by omega) (.inr (.inr (.inr (by rw [k4']; decide)))) (MB (nx hx3) (Nat.le_refl _) (fr hx4 163 a)) (F' := Fb bx (nx hx4)) (fun l z => Fb_m z (by omega)) (fun l z => ⟨by have := z.1; omega, z.2⟩) (fun l z y => by have := z.2; have := y.1; omega)
          have a168 : fr hx4 168 a = fr hx1 168 a := (fx4.ob ka (by decide) (by decide)).2.2.2.2.1 168
          have S5 := S4.chX s5 (fun x hx => (by rw [List.mem_singleton.mp hx]; exact B.1 _ F5.1)) p5 f5
          have nx5 : nx (lad hx4 (fr hx4 168 a) (nx hx1)) = nx hx4 := rfl
          have kP5 := (S5.cl C).2.1
          rw [e3, if_pos k15, e4, ← a168, e5, xt12_e kP5 p5, x10_e p5, mgone_e q5 (by decide) (by decide) rfl]
          have Cu5 : Cur e bx bm (lad hx4 (fr hx4 168 a) (nx hx1)) hm5 a k num (addB d [((T, ((tk e.TS j).2.2.1, (tk e.TS j).2.1)), none)]) := by
            refine ⟨?_, KM5⟩
            unfold DX addB
            rw [nx5]; exact DX5
          generalize lad hx4 (fr hx4 168 a) (nx hx1) = hx5 at *
          have hw : codes (cStr.getD (13 - 1) "") ∈ SW := by decide
          by_cases c2 : isX (tk e.TS (j + 1)) (codes (cStr.getD (13 - 1) ""))
          · have c3 := (isX_S p5.V hw).mp c2
            rw [xaccY p5 (by decide) (by decide) rfl c2, if_pos c3]
            rcases adv p5 q5 (go_of c3) with ⟨hx9, e9, s9, p9, q9, t9⟩ | ⟨hx9, P, e9, s9, f9, n9, t9⟩
            · have S9 := S5.tr C s9 t9 p9 q9
              have hi9 := q9.jj.1
              have Cu9 := Cu5.st p5 q5 C.1 s9 t9
              rw [e9, if_neg z10]
              rcases ih hx9 (fwd e hm5 (j + 1)) (j + 1 + 1) _ _ _ _ NX NM (by omega) (by omega) (by omega) (by rw [lenB]; omega) S9 Cu9 with ⟨hxa, hma, j2, ms, TY', x1, x2, x3, x4, x5, x6, x8, x7⟩ | f
              · refine .inl ⟨hxa, hma, j2, ((T, ((tk e.TS j).2.2.1, (tk e.TS j).2.1)), none) :: ms, TY', x1, x2, by omega, ⟨x4.1.le (by omega), x4.2.1.le (by omega), x4.2.2⟩, ?_, ?_, ?_, ?_⟩
                · rw [addB_add] at x5; exact x5
                · rw [lenB] at x6; simp only [List.length_cons]; omega
                · simp only [List.length_cons]; omega
                · intro m hm
                  rcases List.mem_cons.mp hm with z | z
                  · rw [z]
                  · exact x7 m z
              · exact .inr (f.le (by omega) (by omega))
            · rw [e9, if_neg z10]
              have M : MF e (fwd e hm5 (j + 1)) P 0 (50 * (e.TS.length - j) + 30) (f_X48_components_l15 e.Q k NM (fwd e hm5 (j + 1))) := by
                obtain ⟨NM', rfl⟩ : ∃ k, NM = k + 1 := ⟨NM - 1, by omega⟩
                have q9 := (mfwd_s q5 (go_of c3)).2
                have N9 := PN_at n9 q9
                obtain ⟨hm7, e8, s8, f8⟩ := mtypeN q9 (fun z => by
                  rcases z with z | z
                  · omega
                  · have := z.1; omega)
                rw [f_X48_components_l15_s]
                unfold b_X48_components_l15
                rw [m46_e q9, e8]
                exact (MF.ex rfl s8 (N9.2 ▸ f8)).le (Nat.le_refl _) (by omega)
              exact .inr ((Dq.none C S5 s9 f9 t9 M).le (by omega) (by omega))
          · rw [xaccN p5 (by decide) (by decide) rfl c2, if_neg (fun z => c2 ((isX_S p5.V hw).mpr z)), if_pos y00]
            obtain ⟨NX', rfl⟩ : ∃ k, NX = k + 1 := ⟨NX - 1, by omega⟩
            rw [f_X11_components_l27_s]
            unfold b_X11_components_l27
            rw [if_pos y00]
            exact .inl ⟨hx5, hm5, j + 1, [((T, ((tk e.TS j).2.2.1, (tk e.TS j).2.1)), none)], _, rfl, rfl, by omega, ⟨S5.1.le (by omega), S5.2.1.le (by omega), S5.2.2⟩, Cu5, by simp only [List.length_cons, List.length_nil]; omega, by simp only [List.length_cons, List.length_nil]; omega, fun m hm => by rw [List.mem_singleton.mp hm]⟩
        · have N7 : (tk e.TS (j + 1)).1 = 9 ∧ (tk e.TS (j + 1)).2.1 = P := PN_at n3 q3
          rw [e3, mgone_e q5 (by decide) (by decide) rfl, if_neg (fun z => by have := z.1; omega), if_pos y00]
          have t45 : St [] [nx hm1, fr hm4 371 k, fr hm4 374 k] (0 + 21) hm3 hm5 := (t4.wk (X2 := [nx hm1, fr hm4 371 k, fr hm4 374 k]) (fun _ z => z) (fun x hx => .inl (by rw [List.mem_singleton.mp hx]; simp)) (Nat.le_refl _)).cat t5 (fun _ z => z) (fun x hx => .inl (List.mem_cons_of_mem _ hx))
          refine .inr ((Dq.end' C S2 s3 f3 t3 t45 (fun x hx => ?_) (⟨_, _, _, _, q5, N7.1, N7.2, Nat.le_refl _⟩ : PN e hm5 P IT.length)).le (by omega) (by omega))
          rcases List.mem_cons.mp hx with z | z
          · exact hz4 x (by rw [z]; simp)
          · exact hz5 x z
      · obtain ⟨hx7, e7, s7, f7⟩ := xnameN p2 c
        obtain ⟨hm7, e8, s8, f8⟩ := mnameN q2 c
        rw [e7, e8]
        exact .inr ((Dq.err C S2 s7 f7 s8 f8).le (by omega) (by omega))
    · refine .inr (DF.le (Dq.fail C S (Fail_bdk (c := 2) (N2 := 0) f (fun P v h5 t n => ?_))) (by omega) (by omega))
      have kk : kc h5 k = 47 := t.2.kk Cu.2.1 (by decide)
      have sm2 : St [] [] (0 + 1) h5 (nO h5 49 2) := (St.refl n.w [] []).nO (by omega) (by omega)
      rw [ldR_e kk, nwO_e]
      have n2 : PN e (nO h5 49 2) P IT.length := by
        obtain ⟨j, IT', TY', QU', z, z2⟩ := n
        exact ⟨j, IT', TY', QU', z.new sm2, z2⟩
      exact (MF.pre (MS.new sm2) (v46 n2 (vName (N2 := 0) n2))).le (by omega) (by omega)
