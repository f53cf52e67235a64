/-! PHASE B declarations 10: a member under way -/
set_option maxRecDepth 100000
variable {e : EE} {Zx Zm : List Nat} {hx hm h h1 h2 h' hx0 hm0 hxA hmA : HP} {i j a b k X Y bx bm l1 l2 l3 : Nat} {IT : List It} {TY : List Ty} {QU : List (List Nat)} {F G : Nat → Prop} {KL : List Nat} {d : DC} {TY' : List Ty} {QU' : List (List Nat)} {ts : List Ty} {ns : List (List Nat)} {ps : List Nat} {num : Nat × Nat}
/-- both, from a beginning (the law's), and from another one (the member's) on -/
def Mw (e : EE) (Zx Zm : List Nat) (hx0 hm0 hxA hmA : HP) (bx bm X Y : Nat) (hx hm : HP) (i : Nat) (TY : List Ty) (QU : List (List Nat)) (IT : List It) : Prop :=
  Dq e Zx Zm hx0 hm0 X Y hx hm i TY QU IT ∧ FxX e (Fb bx (nx hxA)) ALLX hxA hx ∧ FxM (Fb bm (nx hmA)) ALLM hmA hm ∧ nx hxA ≤ nx hx ∧ nx hmA ≤ nx hm
def Mb0 (hx0 hm0 hxA hmA : HP) : Prop := (∀ x, kc hxA x = 0 → kc hx0 x = 0) ∧ ∀ x, kc hmA x = 0 → kc hm0 x = 0
theorem St.zero {X : List Nat} {a : Nat} (s : St [] X a h h') {x : Nat} (z : kc h' x = 0) : kc h x = 0 := Classical.byContradiction fun y => by
  have := (s.2.2.2.2 x y).1
  rw [z] at this; exact y this.symm
theorem Dq.mb0 (S : Dq e Zx Zm hx0 hm0 X Y hx hm i TY QU IT) : Mb0 hx0 hm0 hx hm := ⟨fun _ z => S.1.zero z, fun _ z => S.2.1.zero z⟩
theorem Mw.beg (S : Dq e Zx Zm hx0 hm0 X Y hx hm i TY QU IT) : Mw e Zx Zm hx0 hm0 hx hm bx bm X Y hx hm i TY QU IT := ⟨S, FxX.refl, FxM.refl, Nat.le_refl _, Nat.le_refl _⟩
theorem Mw.tr (C : Dc e Zx Zm hx0 hm0) (W : Mw e Zx Zm hx0 hm0 hxA hmA bx bm X Y hx hm i TY QU IT) {hx' hm' : HP} {IT' : List It} (s : XS e a hx hx') (t : MS e b hm hm') (p : PX e hx' j TY' QU') (q : PM e hm' j IT' TY' QU') : Mw e Zx Zm hx0 hm0 hxA hmA bx bm (X + a) (Y + b) hx' hm' j TY' QU' IT' :=
  ⟨W.1.tr C s t p q, W.2.1.stp W.1.2.2.1.1 s (by decide), W.2.2.1.stp W.1.2.2.2 C.1 t (by decide), Nat.le_trans W.2.2.2.1 s.nx, Nat.le_trans W.2.2.2.2 t.2.1⟩
theorem Mw.chX (C : Dc e Zx Zm hx0 hm0) (M0 : Mb0 hx0 hm0 hxA hmA) (W : Mw e Zx Zm hx0 hm0 hxA hmA bx bm X Y hx hm i TY QU IT) {hx' : HP} {Z : List Nat} (s : St [] Z a hx hx') (hZ : ∀ x ∈ Z, kc hxA x = 0 ∧ kdX (kc hx x) = true) : Mw e Zx Zm hx0 hm0 hxA hmA bx bm (X + a) Y hx' hm i TY QU IT :=
  ⟨W.1.chX s (fun x hx => .inr (M0.1 x (hZ x hx).1)) (W.1.2.2.1.1.dec s.1 s.fx (fun x hx => (hZ x hx).2) (W.1.cl C).1) (W.1.2.2.1.1.keep s.fx (fun x hx => (hZ x hx).2)), W.2.1.newo W.1.2.2.1.1 s.fx (fun x hx => (hZ x hx).2) (fun x hx => (hZ x hx).1) (by decide), W.2.2.1, Nat.le_trans W.2.2.2.1 s.2.1, W.2.2.2.2⟩
theorem Mw.chM (C : Dc e Zx Zm hx0 hm0) (M0 : Mb0 hx0 hm0 hxA hmA) (W : Mw e Zx Zm hx0 hm0 hxA hmA bx bm X Y hx hm i TY QU IT) {hm' : HP} {Z : List Nat} (s : St [] Z a hm hm') (hZ : ∀ x ∈ Z, kc hmA x = 0 ∧ kdM (kc hm x) = true) : Mw e Zx Zm hx0 hm0 hxA hmA bx bm X (Y + a) hx hm' i TY QU IT :=
  ⟨W.1.chM s (fun x hx => .inr (M0.2 x (hZ x hx).1)) (W.1.2.2.2.dec s.1 s.fx (fun x hx => (hZ x hx).2) (W.1.cl C).2.2), W.2.1, W.2.2.1.newo s.fx (fun x hx => (hZ x hx).1) (by decide), W.2.2.2.1, Nat.le_trans W.2.2.2.2 s.2.1⟩
/-- the present declaration is as it was -/
theorem Mw.cur (W : Mw e Zx Zm hx0 hm0 hxA hmA bx bm X Y hx hm i TY QU IT) (Cu : Cur e bx bm hxA hmA a k num d) : Cur e bx bm hx hm a k num d := Cu.lat W.2.1 W.2.2.1 W.2.2.2.1 W.2.2.2.2
theorem Mw.le {X2 Y2 : Nat} (W : Mw e Zx Zm hx0 hm0 hxA hmA bx bm X Y hx hm i TY QU IT) (hX : X ≤ X2) (hY : Y ≤ Y2) : Mw e Zx Zm hx0 hm0 hxA hmA bx bm X2 Y2 hx hm i TY QU IT := ⟨⟨W.1.1.le hX, W.1.2.1.le hY, W.1.2.2⟩, W.2⟩
/-- a name, no plain kind's word -/
def StrN (h : HP) (a : Nat) (s : List Nat) : Prop := StrX h a s ∧ s ∉ PW
/-- the component's lists of parameters: types, names, places -/
def MhX (e : EE) (F : Nat → Prop) (h : HP) (l1 l2 l3 : Nat) (ts : List Ty) (ns : List (List Nat)) (ps : List Nat) : Prop := LsX F h l1 119 (TyE e) ts ∧ LsX F h l2 118 StrN ns ∧ LsX F h l3 117 IvX ps
theorem MhX_fx (f : FxX e F KL h h') (hk : ∀ k ∈ [119, 118, 117], k ∈ KL) (x : MhX e F h l1 l2 l3 ts ns ps) : MhX e F h' l1 l2 l3 ts ns ps :=
  ⟨LsX_fx f x.1 (by decide) (hk _ (by decide)) (fun _ _ z => TyE_fx f z), LsX_fx f x.2.1 (by decide) (hk _ (by decide)) (fun _ _ z => ⟨StrX_fx f z.1, z.2⟩), LsX_fx f x.2.2 (by decide) (hk _ (by decide)) (fun _ _ z => IvX_fx f z)⟩
theorem MhX_wk (hG : ∀ l, F l → G l) (x : MhX e F h l1 l2 l3 ts ns ps) : MhX e G h l1 l2 l3 ts ns ps := ⟨x.1.wk (hG _) (fun _ _ z => z), x.2.1.wk (hG _) (fun _ _ z => z), x.2.2.wk (hG _) (fun _ _ z => z)⟩
/-- over a step of the parser -/
theorem MhX_st (p : PX e h i TY QU) (s : XS e a h h') (x : MhX e F h l1 l2 l3 ts ns ps) : MhX e F h' l1 l2 l3 ts ns ps := MhX_fx (XS.fxx (KL := [119, 118, 117]) p s (by decide)) (fun _ z => z) x
/-- over new things -/
theorem FxX.nw (p : PX e h i TY QU) (s : St [] [] a h h') : FxX e F KL h h' := p.decF (Z := []) s.fx (by simp) (by simp)
theorem FxM.nw (s : St [] [] a h h') : FxM F KL h h' := ⟨[], s.fx, by simp⟩
theorem MhX.a1 (p : PX e h i TY QU) (x : MhX e F h l1 l2 l3 ts ns ps) (hl : ts.length ≤ 300) {v : Nat} {y : Ty} (hv : elK h v) (hy : TyE e h v y) : (∀ {β : Type} {K : HP → Rs β}, lsAdd l1 v h K = K (lad h l1 v)) ∧ St [] [l1] 10 h (lad h l1 v) ∧ kc h l1 = 119 ∧ F l1 ∧ MhX e F (lad h l1 v) l1 l2 l3 (ts ++ [y]) ns ps := by
  obtain ⟨x1, x2, x3⟩ := x
  obtain ⟨e1, s1, f1, L⟩ := x1.add (v := v) (y := y) (by omega) (by omega) (by decide) hv p.1
  have kl := x1.2.1
  have Z : FxX e F [118, 117] h (lad h l1 v) := p.decF f1 (fun x hx => by rw [List.mem_singleton.mp hx, kl]; decide) (fun x hx => by rw [List.mem_singleton.mp hx, kl]; exact ⟨by decide, fun z => absurd z (by decide)⟩)
  exact ⟨e1, s1, kl, x1.1, L (fun _ _ z => TyE_fx Z z) (TyE_fx Z hy), LsX_fx Z x2 (by decide) (by decide) (fun _ _ z => ⟨StrX_fx Z z.1, z.2⟩), LsX_fx Z x3 (by decide) (by decide) (fun _ _ z => IvX_fx Z z)⟩
theorem MhX.a2 (p : PX e h i TY QU) (x : MhX e F h l1 l2 l3 ts ns ps) (hl : ns.length ≤ 300) {v : Nat} {y : List Nat} (hv : elK h v) (hy : StrN h v y) : (∀ {β : Type} {K : HP → Rs β}, lsAdd l2 v h K = K (lad h l2 v)) ∧ St [] [l2] 10 h (lad h l2 v) ∧ kc h l2 = 118 ∧ F l2 ∧ MhX e F (lad h l2 v) l1 l2 l3 ts (ns ++ [y]) ps := by
  obtain ⟨x1, x2, x3⟩ := x
  obtain ⟨e1, s1, f1, L⟩ := x2.add (v := v) (y := y) (by omega) (by omega) (by decide) hv p.1
  have kl := x2.2.1
  have Z : FxX e F [119, 117] h (lad h l2 v) := p.decF f1 (fun x hx => by rw [List.mem_singleton.mp hx, kl]; decide) (fun x hx => by rw [List.mem_singleton.mp hx, kl]; exact ⟨by decide, fun z => absurd z (by decide)⟩)
  exact ⟨e1, s1, kl, x2.1, LsX_fx Z x1 (by decide) (by decide) (fun _ _ z => TyE_fx Z z), L (fun _ _ z => ⟨StrX_fx Z z.1, z.2⟩) ⟨StrX_fx Z hy.1, hy.2⟩, LsX_fx Z x3 (by decide) (by decide) (fun _ _ z => IvX_fx Z z)⟩
theorem MhX.a3 (p : PX e h i TY QU) (x : MhX e F h l1 l2 l3 ts ns ps) (hl : ps.length ≤ 300) {v : Nat} {y : Nat} (hv : elK h v) (hy : IvX h v y) : (∀ {β : Type} {K : HP → Rs β}, lsAdd l3 v h K = K (lad h l3 v)) ∧ St [] [l3] 10 h (lad h l3 v) ∧ kc h l3 = 117 ∧ F l3 ∧ MhX e F (lad h l3 v) l1 l2 l3 ts ns (ps ++ [y]) := by
  obtain ⟨x1, x2, x3⟩ := x
  obtain ⟨e1, s1, f1, L⟩ := x3.add (v := v) (y := y) (by omega) (by omega) (by decide) hv p.1
  have kl := x3.2.1
  have Z : FxX e F [119, 118] h (lad h l3 v) := p.decF f1 (fun x hx => by rw [List.mem_singleton.mp hx, kl]; decide) (fun x hx => by rw [List.mem_singleton.mp hx, kl]; exact ⟨by decide, fun z => absurd z (by decide)⟩)
  exact ⟨e1, s1, kl, x3.1, LsX_fx Z x1 (by decide) (by decide) (fun _ _ z => TyE_fx Z z), LsX_fx Z x2 (by decide) (by decide) (fun _ _ z => ⟨StrX_fx Z z.1, z.2⟩), L (fun _ _ z => IvX_fx Z z) (IvX_fx Z hy)⟩
/-- a parameter is put to the twin's method -/
theorem MeM.add {p kk : Nat} {T : Ty} {nm : Td} {wd pl : Nat} {vs : List Vr} (w : WG h) (x : MeM F h p kk ((T, nm), (wd, pl, vs, none))) (hl : vs.length ≤ 300) {v : Nat} {y : Vr} (hv : elK h v) (hy : VarM F h v y) : (∀ {β : Type} {K : HP → Rs β}, lsAdd (fr h 391 p) v h K = K (lad h (fr h 391 p) v)) ∧ St [] [fr h 391 p] 10 h (lad h (fr h 391 p) v) ∧ kc h (fr h 391 p) = 132 ∧ F (fr h 391 p) ∧ MeM F (lad h (fr h 391 p) v) p kk ((T, nm), (wd, pl, vs ++ [y], none)) := by
  obtain ⟨k0, m0, m1, m2, m3, m4, m5, m6, m7⟩ := x
  obtain ⟨e1, s1, f1, L⟩ := m5.add (v := v) (y := y) (by omega) (show vs.length ≤ 400 by omega) (by decide) hv w
  have kl := m5.2.1
  have Z : FxM F [133] h (lad h (fr h 391 p) v) := ⟨_, f1, fun x hx => by rw [List.mem_singleton.mp hx, kl]; exact ⟨by decide, fun z => absurd z (by decide)⟩⟩
  exact ⟨e1, s1, kl, m5.1, k0, m0, m1, m2, TyM_fx Z m3, ToM_fx Z m4, L (fun _ _ z => VarM_fx (e := (0, 0, 0, 0, 0, 0, 0, 0, 0, 0, 0, 0, 0, [], [], [])) Z (fun k hk => by simp at hk) z) (VarM_fx (e := (0, 0, 0, 0, 0, 0, 0, 0, 0, 0, 0, 0, 0, [], [], [])) Z (fun k hk => by simp at hk) hy), m6, m7⟩
theorem MeM_st {p kk : Nat} {v : Vr × Mt} (q : PM e h i IT TY QU) (h0 : e.il = 0) (s : MS e a h h') (x : MeM F h p kk v) : MeM F h' p kk v := MeM_fx (e := e) (MS.fxm (KL := [132, 133]) q h0 s (by decide)) (fun _ z => z) x
/-- a limit is passed in the component; in the twin -/
theorem xlim (p : PX e h i TY QU) {k : Nat} : ∃ h', (∀ (β : Type), (bd (f_X1_at e.st (1 : Int32) (nI k) h) (fun x1 h2 => if kc h2 x1 = 69 then (rex h2 : Rs β) else none)) = rex h') ∧ St [] [e.t, e.st] 0 h h' ∧ StopX e h' k := by
  obtain ⟨T, X, hi, L⟩ := p.2.2.1
  have t4 := T.2.2.2.2.1
  have t5 := T.2.2.2.2.2
  have s2 : St [] [e.t, e.st] 0 h (sI (sI h 28 e.st 1) 29 e.st (nI k)) := ((St.refl p.1 [] [e.t, e.st]).sI t4 (by decide) (.inr (.inr (by simp)))).sI t4 (by decide) (.inr (.inr (by simp)))
  refine ⟨_, fun β => ?_, s2, ?_, ?_⟩
  · unfold f_X1_at
    rw [stI_e t4, stI_e (show kc (sI h 28 e.st 1) e.st = 2 from t4), ldR_e (show kc (sI (sI h 28 e.st 1) 29 e.st (nI k)) e.st = 2 from t4), bd_ok]
    exact if_pos t5
  · rw [fi_sI, if_neg (fun z => absurd z.1 (by decide)), fi_sI, if_pos ⟨rfl, rfl⟩]
  · rw [fi_sI, if_pos ⟨rfl, rfl⟩]
theorem xst_e (kP : kc h e.P = 12) (p : PX e h i TY QU) {β : Type} {K : Nat → Rs β} : (ldR 12 157 e.P h fun x => if kc h x = 2 then K x else none) = K e.st := by
  rw [ldR_e kP, p.2.1.2.2.1, if_pos p.2.2.1.1.2.2.2.2.1]
theorem mlim (p : PM e h j IT TY QU) {k : Nat} : ∃ h', (∀ (β : Type), (bd (f_X5_at e.tr (1 : Int32) (nI k) h) (fun x1 h2 => if kc h2 x1 = 69 then (rex h2 : Rs β) else none)) = rex h') ∧ St [] [e.tr] 1 h h' ∧ StopM e h' k := by
  have q := p
  obtain ⟨w, k1, f1, k2, _⟩ := q
  have s2 : St [] [e.tr] 0 h (sI (sI h 131 e.tr 1) 132 e.tr (nI k)) := ((St.refl w [] [e.tr]).sI k2 (by decide) (.inr (.inr (by simp)))).sI k2 (by decide) (.inr (.inr (by simp)))
  have s3 : St [] [e.tr] (0 + 1) h (nO (sI (sI h 131 e.tr 1) 132 e.tr (nI k)) 69 6) := s2.nO (by omega) (by omega)
  have kn : kc (nO (sI (sI h 131 e.tr 1) 132 e.tr (nI k)) 69 6) (nx (sI (sI h 131 e.tr 1) 132 e.tr (nI k))) = 69 := kc_nO_n
  refine ⟨_, fun β => ?_, s3, ?_, ?_⟩
  · unfold f_X5_at
    rw [stI_e k2, stI_e (show kc (sI h 131 e.tr 1) e.tr = 6 from k2), nwE_e, isInit_e kn, bd_ok]
    exact if_pos kn
  · show fi (sI (sI h 131 e.tr 1) 132 e.tr (nI k)) 131 e.tr = 1
    rw [fi_sI, if_neg (fun z => absurd z.1 (by decide)), fi_sI, if_pos ⟨rfl, rfl⟩]
  · show fi (sI (sI h 131 e.tr 1) 132 e.tr (nI k)) 132 e.tr = _
    rw [fi_sI, if_pos ⟨rfl, rfl⟩]
