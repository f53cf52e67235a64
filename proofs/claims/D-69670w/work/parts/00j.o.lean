/-! PHASE B declarations 14: bodies -/
set_option maxRecDepth 100000
variable {e : EE} {Zx Zm : List Nat} {hx hm h h1 h2 h' hx0 hm0 hxA hmA : HP} {i j a b k X Y bx bm l1 l2 l3 : Nat} {IT : List It} {TY : List Ty} {QU : List (List Nat)} {F G : Nat → Prop} {KL : List Nat} {d : DC} {TY' : List Ty} {QU' : List (List Nat)} {num : Nat × Nat}
/-- a method is put into the twin's declaration -/
theorem metM_add {p : Nat} {v : Vr × Mt} (q : PM e h i IT TY QU) (hnl : kc h e.nl = 168) (x : KdM (Fb b (nx h)) h k num.1 d) (hl : d.2.2.2.2.2.1.length ≤ 300) (hv : MeM (Fb b (nx h)) h p k v) :
    ∃ h', f_X48_member_b413 k p h = rok () h' ∧ St [] [fr h 372 k, fr h 374 k] 21 h h' ∧ PM e h' i IT TY QU ∧ KdM (Fb b (nx h')) h' k num.1 (addB d [(v.1, some v.2)]) ∧ Fb b (nx h) (fr h 372 k) ∧ Fb b (nx h) (fr h 374 k) ∧ nx h ≤ nx h' := by
  obtain ⟨o1, o2, o3⟩ := own_m (d := d) (v := v.1) (t := v.2)
  obtain ⟨l1, l2, l3⟩ := own_len d
  have kp := hv.1
  obtain ⟨e1, s1, q1, x1, k1, F1, f1⟩ := KdMg_372 (e := e) q hnl x (by omega) (.inr (.inr (.inr (by rw [kp]; decide)))) hv
  have kk0 : kc h k = 47 := x.1
  have kk : kc (lad h (fr h 372 k) p) k = 47 := x1.1
  have r374 : fr (lad h (fr h 372 k) p) 374 k = fr h 374 k := rfl
  obtain ⟨h2, v2, e2, s2, iv, kv⟩ := ivOf_e q1.1 (n := 1) (by omega)
  have e2' : ∀ {β : Type} {K : Nat → HP → Rs β}, ivOf (1 : Int32) (lad h (fr h 372 k) p) K = K v2 h2 := e2
  have q2 := q1.new s2
  have n2 : nx h ≤ nx h2 := s2.2.1
  have M2 : FxM (Fb b (nx h)) ALLM (lad h (fr h 372 k) p) h2 := ⟨[], s2.fx, by simp⟩
  have x2 : KdMg (Fb b (nx h2)) h2 k num.1 d.1 d.2.2.1 d.2.1.2 d.2.1.1 d.2.2.2.1 d.2.2.2.2.1 d.own (d.met ++ [v]) d.2.2.2.2.2.2 d.flg := KdMg_wk (e := e) (fun l z => ⟨z.1, by have := z.2; omega⟩) (KdMg_fx (e := e) M2 (fun k hk => by unfold ALLM; simp at hk ⊢; omega) x1)
  have E2 := M2.ob kk (by decide) (by decide)
  have hnl2 : kc h2 e.nl = 168 := s2.2.kk (s1.2.kk hnl (by decide)) (by decide)
  have g374 : fr h2 374 k = fr h 374 k := (E2.2.2.2.2.1 374).trans r374
  obtain ⟨e3, s3, q3, x3, k3, F3, f3⟩ := KdMg_374 (e := e) q2 hnl2 x2 (by omega) (.inr (.inr (.inl kv))) iv
  have F374 : Fb b (nx h) (fr h 374 k) := by
    obtain ⟨_, _, _, _, _, _, _, _, _, _, _, _, _, y, _⟩ := x; exact y.1
  refine ⟨lad h2 (fr h2 374 k) v2, ?_, ?_, q3, ?_, F1, F374, n2⟩
  · unfold f_X48_member_b413
    rw [ldR_e kk0, e1, ldR_e kk, r374, e2', ← g374, e3]
  · rw [g374] at s3 ⊢
    exact (((s1.wk (X2 := [fr h 372 k, fr h 374 k]) (fun _ z => z) (fun x hx => .inl (by rw [List.mem_singleton.mp hx]; simp)) (Nat.le_refl _)).cat s2 (fun _ z => z) (fun x hx => by simp at hx)).cat s3 (fun _ z => z) (fun x hx => .inl (by rw [List.mem_singleton.mp hx]; simp))).le (by omega)
  · unfold KdM
    rw [o1, o2, o3]; exact x3
/-- a method in the twin but for its body -/
def MeB (F : Nat → Prop) (h : HP) (p kk : Nat) (vt : Vr) (wd pl : Nat) (vs : List Vr) : Prop := kc h p = 50 ∧ fr h 386 p = kk ∧ fi h 387 p = nI pl ∧ fi h 388 p = nI wd ∧ TyM h (fr h 389 p) vt.1 ∧ ToM h (fr h 390 p) vt.2 ∧ LsX F h (fr h 391 p) 132 (fun h a v => VarM F h a v) vs ∧ fr h 394 p = 0
theorem MeM_b {p kk : Nat} {vt : Vr} {wd pl : Nat} {vs : List Vr} {o : Option Bd} (x : MeM F h p kk (vt, (wd, pl, vs, o))) : MeB F h p kk vt wd pl vs := by
  obtain ⟨k0, m0, m1, m2, m3, m4, m5, m6, m7⟩ := x
  exact ⟨k0, m0, m1, m2, m3, m4, m5, m7⟩
theorem MeB_m {p kk : Nat} {vt : Vr} {wd pl : Nat} {vs : List Vr} {o : Option Bd} (x : MeB F h p kk vt wd pl vs) (y : BdM F h p o) : MeM F h p kk (vt, (wd, pl, vs, o)) := by
  obtain ⟨k0, m0, m1, m2, m3, m4, m5, m7⟩ := x
  exact ⟨k0, m0, m1, m2, m3, m4, m5, y, m7⟩
theorem MeB_fx {p kk : Nat} {vt : Vr} {wd pl : Nat} {vs : List Vr} (f : FxM F KL h h') (hk : 132 ∈ KL) (x : MeB F h p kk vt wd pl vs) : MeB F h' p kk vt wd pl vs := by
  obtain ⟨k0, m0, m1, m2, m3, m4, m5, m7⟩ := x
  obtain ⟨a1, _, a3⟩ := f.ob k0 (by decide) (by decide)
  exact ⟨a1, (a3.2.2.1 _).trans m0, (a3.1 _).trans m1, (a3.1 _).trans m2, by rw [a3.2.2.1]; exact TyM_fx f m3, by rw [a3.2.2.1]; exact ToM_fx f m4, by rw [a3.2.2.1]; exact LsM_fx f m5 (by decide) hk (fun _ _ z => VarM_fx (e := (0, 0, 0, 0, 0, 0, 0, 0, 0, 0, 0, 0, 0, [], [], [])) f (fun k hk' => by simp at hk') z), (a3.2.2.1 _).trans m7⟩
theorem MeB_wk {p kk : Nat} {vt : Vr} {wd pl : Nat} {vs : List Vr} (hG : ∀ l, F l → G l) (x : MeB F h p kk vt wd pl vs) : MeB G h p kk vt wd pl vs := by
  obtain ⟨k0, m0, m1, m2, m3, m4, m5, m7⟩ := x
  exact ⟨k0, m0, m1, m2, m3, m4, m5.wk (hG _) (fun _ _ z => z), m7⟩
/-- its body is written -/
theorem MeB_set {p kk : Nat} {vt : Vr} {wd pl : Nat} {vs : List Vr} (x : MeB F h p kk vt wd pl vs) {Z : List Nat} (f : Fx Z h h') (hZ : ∀ z ∈ Z, kc h z = 50 ∨ kc h z = 46) (hf : ∀ f, f ≠ 392 → fr h' f p = fr h f p) (hi : ∀ f, f ≠ 393 → fi h' f p = fi h f p) (hk : kc h' p = 50) : MeB F h' p kk vt wd pl vs := by
  have Fz : Fr (fun k => decide (k ≠ 50 ∧ k ≠ 46)) h h' := f.fr (fun z hz => by rcases hZ z hz with y | y <;> rw [y] <;> decide)
  obtain ⟨k0, m0, m1, m2, m3, m4, ⟨x0, x1, x2, x3⟩, m7⟩ := x
  have L := Fz.at x1 (by decide) (by decide)
  refine ⟨hk, (hf _ (by decide)).trans m0, (hi _ (by decide)).trans m1, (hi _ (by decide)).trans m2, ?_, ?_, ?_, (hf _ (by decide)).trans m7⟩
  · rw [hf _ (by decide)]; exact TyM_fr Fz m3 (by decide) (by decide)
  · rw [hf _ (by decide)]; exact ToM_fr Fz m4 (by decide) (by decide)
  · rw [hf _ (by decide)]
    refine ⟨x0, L.1, by rw [L.2.2.2.2.2.2.2.2.2.2]; exact x2, ?_⟩
    rw [L.2.2.2.2.2.2.2.2.1]
    refine x3.imp fun a _ b z => ?_
    obtain ⟨y1, y2, y3⟩ := z
    have A := Fz.at y1 (by decide) (by decide)
    exact ⟨A.1, by rw [A.2.2.2.2.1]; exact TyM_fr Fz y2 (by decide) (by decide), by rw [A.2.2.2.2.1]; exact ToM_fr Fz y3 (by decide) (by decide)⟩
/-- the twin's parser with a list of items -/
theorem PM.il (q : PM e h j [] TY QU) {l : Nat} (kl : kc h l = 133) (cl : cp h l ≠ RAW) (ll : ls h l = []) : St [] [e.Q] 0 h (sR h 359 e.Q l) ∧ PM (e.wil l) (sR h 359 e.Q l) j [] TY QU := by
  have s : St [] [e.Q] 0 h (sR h 359 e.Q l) := (St.refl q.1 [] [e.Q]).sR q.kQ (by decide) (.inr (.inr (by simp)))
  have Fz : Fr (fun k => decide (k ≠ 46)) h (sR h 359 e.Q l) := s.fx.fr (fun x hx => by rw [List.mem_singleton.mp hx, q.kQ]; decide)
  obtain ⟨w, k1, f1, k2, f2, k3, c3, a3, f4, n4, a4, n5, f5, hj, L, k6, f7, k7, c7, a7, n7, f8, k8, c8, a8, n8⟩ := q
  have g : ∀ f, f ≠ 359 → fr (sR h 359 e.Q l) f e.Q = fr h f e.Q := fun f hf => by rw [fr_sR, if_neg (fun y => hf y.1)]
  refine ⟨s, s.1, k1, (g 355 (by decide)).trans f1, k2, (g 356 (by decide)).trans f2, k3, c3, a3.imp fun a _ b z => MT_fr Fz z (by decide) (by decide), (g 357 (by decide)).trans f4, n4, a4.imp fun a _ b z => ToM_fr Fz z (by decide) (by decide), n5, f5, hj, L, .inr ⟨?_, .inl kl, cl, ?_⟩, (g 360 (by decide)).trans f7, k7, c7, a7.imp fun a _ b z => TyM_fr Fz z (by decide) (by decide), n7, (g 361 (by decide)).trans f8, k8, c8, a8.imp fun a _ b z => z.imp fun x y => ToM_fr Fz y (by decide) (by decide), n8⟩
  · show fr (sR h 359 e.Q l) 359 e.Q = l
    rw [fr_sR, if_pos ⟨rfl, rfl⟩]
  · show A2 _ (ls h l) []
    rw [ll]; exact True.intro
theorem PM.unw {l : Nat} (q : PM (e.wil l) h j IT TY QU) (h0 : e.il = 0) : PM e h j [] TY QU := by
  obtain ⟨w, k1, f1, k2, f2, k3, c3, a3, f4, n4, a4, n5, f5, hj, L, k6, r⟩ := q
  exact ⟨w, k1, f1, k2, f2, k3, c3, a3, f4, n4, a4, n5, f5, hj, L, .inl ⟨h0, rfl⟩, r⟩
theorem PM.ilo {l : Nat} (q : PM (e.wil l) h j IT TY QU) (h0 : l ≠ 0) : cp h l ≠ RAW ∧ A2 (ItM h) (ls h l) IT := by
  obtain ⟨w, k1, f1, k2, f2, k3, c3, a3, f4, n4, a4, n5, f5, hj, L, k6, r⟩ := q
  rcases k6 with ⟨y, _⟩ | ⟨_, _, y2, y3⟩
  · exact absurd y h0
  · exact ⟨y2, y3⟩
/-- the twin's own things were there at the beginning -/
theorem PM.mmK (q : PM e h j IT TY QU) (h0 : e.il = 0) : ∀ x ∈ e.mm, kc h x = 0 ∨ (kc h x ∉ KSm ∧ kc h x ∉ ALLM) := by
  intro x hx
  obtain ⟨w, k1, f1, k2, f2, k3, c3, a3, f4, n4, a4, n5, f5, hj, L, k6, f7, k7, c7, a7, n7, f8, k8, c8, a8, n8⟩ := q
  simp only [List.mem_cons, List.not_mem_nil, or_false] at hx
  rcases hx with z | z | z | z | z
  · rw [z, k1]; exact .inr (by decide)
  · rw [z, k2]; exact .inr (by decide)
  · exact .inl (by rw [z, h0]; exact (w.2.2 0 (by omega)).1)
  · rw [z, k7]; exact .inr (by decide)
  · rw [z, k8]; exact .inr (by decide)
theorem FxM.newz (f : FxM F KL h h1) {Z : List Nat} (g : Fx Z h1 h2) (hn : ∀ x ∈ Z, kc h x = 0 ∨ (kc h x ∉ KSm ∧ kc h x ∉ KL)) (h0 : 0 ∉ KL) : FxM F KL h h2 := by
  obtain ⟨X1, f1, f2⟩ := f
  refine ⟨X1 ++ Z, f1.app g, fun x hx => ?_⟩
  rcases List.mem_append.mp hx with m | m
  · exact f2 x m
  · rcases hn x m with z | z
    · rw [z]; exact ⟨by decide, fun y => absurd y h0⟩
    · exact ⟨z.1, fun y => absurd y z.2⟩
theorem wil_mm {l x : Nat} (hx : x ∈ (e.wil l).mm) : x = l ∨ x ∈ e.mm := by
  simp only [List.mem_cons, List.not_mem_nil, or_false] at hx ⊢
  rcases hx with z | z | z | z | z
  · exact .inr (.inl z)
  · exact .inr (.inr (.inl z))
  · exact .inl z
  · exact .inr (.inr (.inr (.inr (.inl z))))
  · exact .inr (.inr (.inr (.inr (.inr z))))
