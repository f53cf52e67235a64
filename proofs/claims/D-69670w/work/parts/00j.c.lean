/-! PHASE B declarations 3: steps of both -/
set_option maxRecDepth 100000
theorem Fx.fr {X : List Nat} {h h' : HP} (f : Fx X h h') {S : Nat → Bool} (hX : ∀ x ∈ X, S (kc h x) = false) : Fr S h h' := fun p h0 hS => f p h0 (fun m => by rw [hX p m] at hS; cases hS)
/-- kinds of the component's declarations; of the twin's -/
def kdX (k : Nat) : Bool := decide (k = 4 ∨ k = 13 ∨ k = 15 ∨ k = 30 ∨ (100 ≤ k ∧ k ≤ 104) ∨ (108 ≤ k ∧ k ≤ 120))
def kdM (k : Nat) : Bool := decide (k = 47 ∨ k = 49 ∨ k = 50 ∨ k = 132 ∨ (134 ≤ k ∧ k ≤ 139) ∨ k = 167)
variable {e : EE} {hx hm h h' hx0 hm0 : HP} {i j a b X Y : Nat} {IT : List It} {TY : List Ty} {QU : List (List Nat)}
/-- the component's parser, where declarations have changed -/
theorem PX.dec (p : PX e h i TY QU) (w' : WG h') {Z : List Nat} (f : Fx Z h h') (hZ : ∀ x ∈ Z, kdX (kc h x) = true) (hcl : kc h e.cl = 129) : PX e h' i TY QU := by
  have F : Fr (fun k => !kdX k) h h' := f.fr (fun x hx => by rw [hZ x hx]; rfl)
  obtain ⟨w, ⟨k1, f1, f2, f3, f4, f5, k2, k3, c1, c2, c3, c4, c5, c6, c7⟩, ⟨T, X, hi, L⟩, l1, l2, l3, l4, l5, l6⟩ := p
  have kP0 : kc h e.P ≠ 0 := by rcases k1 with z | z <;> rw [z] <;> decide
  have kPs : (!kdX (kc h e.P)) = true := by rcases k1 with z | z <;> rw [z] <;> decide
  obtain ⟨q1, q2, q3⟩ := F.at rfl kP0 kPs
  obtain ⟨r1, r2, r3⟩ := F.at hcl (by decide) (by decide)
  obtain ⟨a1, _, a3⟩ := F.at T.1 (by decide) (by decide)
  obtain ⟨b1, b2, b3⟩ := F.at k2 (by decide) (by decide)
  obtain ⟨d1, d2, d3⟩ := F.at k3 (by decide) (by decide)
  refine ⟨w', ⟨by rw [q1]; exact k1, (q3.2.2.1 156).trans f1, (q3.2.2.1 157).trans f2, (q3.2.2.1 158).trans f3, (q3.2.2.1 159).trans f4, (q3.2.2.1 160).trans f5, b1, d1, by rw [r1]; decide, by rw [r1]; decide, by rw [r1]; decide, by rw [r1]; decide, by rw [r3.2.2.2.2.2.2.2.2]; exact c5, ?_, c7⟩, ⟨?_, ?_, hi, L⟩, by rw [b3.2.2.2.2.2.2.2.2]; exact l1, ?_, by rw [d3.2.2.2.2.2.2.2.2]; exact l3, ?_, l5, l6⟩
  · rw [r3.2.2.2.2.2.2.1]; exact c6.imp fun a _ b z => StrX_fr F z (by decide)
  · obtain ⟨t1, t2, t3, t4, t5, t6⟩ := T
    obtain ⟨s1, _, s3⟩ := F.at t5 (by decide) (by decide)
    refine ⟨a1, (a3.1 149).trans t2, ?_, (a3.2.2.1 150).trans t4, s1, ?_⟩
    · rw [a3.2.2.1 148]
      have k200 : 200 ≤ kc h (fr h 148 e.t) := Nat.le_of_not_lt fun z => by
        have := t3.1; unfold tiK at this; rw [if_pos z] at this; omega
      exact ByA_fr F t3 (by
        show (!kdX (kc h (fr h 148 e.t))) = true
        have : kdX (kc h (fr h 148 e.t)) = false := by unfold kdX; exact decide_eq_false (by omega)
        rw [this]; rfl)
    · rw [s3.2.2.1 27]; exact (F.at t6 (by decide) (by decide)).1
  · obtain ⟨x1, x2, x3, x4, x5, x6⟩ := X
    have hs := StrX_fr F (⟨x4, x5⟩ : StrX h (fr h 154 e.t) _) (by decide)
    exact ⟨(a3.1 151).trans x1, (a3.1 152).trans x2, (a3.1 153).trans x3, by rw [a3.2.2.1 154]; exact hs.1, by rw [a3.2.2.1 154]; exact hs.2, fun y z => (a3.2.1 155).trans (x6 y z)⟩
  · rw [b3.2.2.2.2.2.2.1]; exact l2.imp fun a _ b z => TyX_fr F z (by decide) (by decide)
  · rw [d3.2.2.2.2.2.2.1]; exact l4.imp fun a _ b z => QtX_fr F z (by decide) (by decide)
theorem Nx_fr {S : Nat → Bool} (F : Fr S h h') (h1 : ∀ k, sNd k = true → S k = true) (h2 : S 107 = true) (hq : ls h' e.ql = ls h e.ql) (ht : ls h' e.tl = ls h e.tl) {n H : Nat} {its : List It} {Q : Nat → Prop} (x : Nx e Q h n its H) : Nx e Q h' n its H := by
  obtain ⟨d, y⟩ := x
  refine ⟨d, Nd_fr F (fun q _ hk => ?_) h1 (fun x hx => by rw [hq]; exact hx) (fun x hx => by rw [ht]; exact hx) y⟩
  obtain ⟨a1, _, a3⟩ := F.at hk (by decide) h2
  exact ⟨a1, a3.2.2.2.2.2.2.1, a3.2.2.2.2.2.2.2.2⟩
/-- declarations have changed: what stays -/
theorem PX.decF (p : PX e h i TY QU) {Z : List Nat} (f : Fx Z h h') (hZ : ∀ x ∈ Z, kdX (kc h x) = true) {F : Nat → Prop} {KL : List Nat} (hF : ∀ x ∈ Z, kc h x ∉ KSx ∧ (kc h x ∈ KL → ¬ F x)) : FxX e F KL h h' := by
  have Fz : Fr (fun k => !kdX k) h h' := f.fr (fun x hx => by rw [hZ x hx]; rfl)
  obtain ⟨w, ⟨k1, f1, f2, f3, f4, f5, k2, k3, _⟩, _⟩ := p
  obtain ⟨b1, b2, b3⟩ := Fz.at k2 (by decide) (by decide)
  obtain ⟨d1, d2, d3⟩ := Fz.at k3 (by decide) (by decide)
  refine ⟨Z, f, hF, fun x hx => by rw [b3.2.2.2.2.2.2.1]; exact hx, fun Q n its H x => Nx_fr Fz (fun k hk => ?_) (by decide) d3.2.2.2.2.2.2.1 b3.2.2.2.2.2.2.1 x⟩
  have := of_decide_eq_true (show decide ((16 ≤ k ∧ k ≤ 29) ∨ k = 14 ∨ k = 71) = true from hk)
  have : kdX k = false := by unfold kdX; exact decide_eq_false (by omega)
  rw [this]; rfl
/-- a step of the parser: what stays -/
theorem XS.fxx (p : PX e h i TY QU) (s : XS e a h h') {F : Nat → Prop} {KL : List Nat} (hK : 105 ∉ KL ∧ 106 ∉ KL ∧ 10 ∉ KL ∧ 2 ∉ KL) : FxX e F KL h h' := by
  refine ⟨e.xx, s.1.fx, fun x hx => ?_, s.2.1, fun Q n its H ⟨d, y⟩ => ⟨d, XS.nd p s y⟩⟩
  rcases p.ks x hx with z | z | z | z <;> rw [z]
  · exact ⟨by decide, fun y => absurd y hK.2.2.1⟩
  · exact ⟨by decide, fun y => absurd y hK.2.2.2⟩
  · exact ⟨by decide, fun y => absurd y hK.1⟩
  · exact ⟨by decide, fun y => absurd y hK.2.1⟩
theorem MS.fxm (q : PM e h j IT TY QU) (h0 : e.il = 0) (s : MS e a h h') {F : Nat → Prop} {KL : List Nat} (hK : 46 ∉ KL ∧ 6 ∉ KL ∧ 140 ∉ KL ∧ 141 ∉ KL ∧ 0 ∉ KL) : FxM F KL h h' := by
  refine ⟨e.mm, s.fx, fun x hx => ?_⟩
  obtain ⟨w, k1, f1, k2, f2, k3, c3, a3, f4, n4, a4, n5, f5, hj, L, k6, f7, k7, c7, a7, n7, f8, k8, c8, a8, n8⟩ := q
  simp only [List.mem_cons, List.not_mem_nil, or_false] at hx
  rcases hx with z | z | z | z | z
  · rw [z, k1]; exact ⟨by decide, fun y => absurd y hK.1⟩
  · rw [z, k2]; exact ⟨by decide, fun y => absurd y hK.2.1⟩
  · rw [z, h0, (w.2.2 0 (by omega)).1]; exact ⟨by decide, fun y => absurd y hK.2.2.2.2⟩
  · rw [z, k7]; exact ⟨by decide, fun y => absurd y hK.2.2.2.1⟩
  · rw [z, k8]; exact ⟨by decide, fun y => absurd y hK.2.2.1⟩
/-- the twin's parser, where declarations have changed -/
theorem PM.dec (q : PM e h j IT TY QU) (w' : WG h') {Z : List Nat} (f : Fx Z h h') (hZ : ∀ x ∈ Z, kdM (kc h x) = true) (hnl : kc h e.nl = 168) : PM e h' j IT TY QU := by
  have F : Fr (fun k => !kdM k) h h' := f.fr (fun x hx => by rw [hZ x hx]; rfl)
  obtain ⟨w, k1, f1, k2, f2, k3, c3, a3, f4, n4, a4, n5, f5, hj, L, k6, f7, k7, c7, a7, n7, f8, k8, c8, a8, n8⟩ := q
  have eQ := F.at k1 (by decide) (by decide)
  have ep := F.at k3 (by decide) (by decide)
  have en := F.at hnl (by decide) (by decide)
  have ey := F.at k7 (by decide) (by decide)
  have ex := F.at k8 (by decide) (by decide)
  refine ⟨w', eQ.1, (eQ.2.2.2.2.1 355).trans f1, (F.at k2 (by decide) (by decide)).1, (eQ.2.2.2.2.1 356).trans f2, ep.1, by rw [ep.2.2.2.2.2.2.2.2.2.2]; exact c3, ?_, (eQ.2.2.2.2.1 357).trans f4, by rw [en.1, en.2.2.2.2.2.2.2.2.2.2]; refine ⟨by decide, by decide, by decide, by decide, by decide, by decide, n4.2.2.2.2.2.2⟩, ?_, n5, (eQ.2.2.1 358).trans f5, hj, L, ILp_fr F (eQ.2.2.2.2.1 359) k6 (by decide) (by decide) (by decide) (by decide) (by decide), (eQ.2.2.2.2.1 360).trans f7, ey.1, by rw [ey.2.2.2.2.2.2.2.2.2.2]; exact c7, ?_, n7, (eQ.2.2.2.2.1 361).trans f8, ex.1, by rw [ex.2.2.2.2.2.2.2.2.2.2]; exact c8, ?_, n8⟩
  · rw [ep.2.2.2.2.2.2.2.2.1]; exact a3.imp fun a _ b z => MT_fr F z (by decide) (by decide)
  · rw [en.2.2.2.2.2.2.2.2.1]; exact a4.imp fun a _ b z => ToM_fr F z (by decide) (by decide)
  · rw [ey.2.2.2.2.2.2.2.2.1]; exact a7.imp fun a _ b z => TyM_fr F z (by decide) (by decide)
  · rw [ex.2.2.2.2.2.2.2.2.1]; exact a8.imp fun a _ b z => z.imp fun x y => ToM_fr F y (by decide) (by decide)
/-- one more on a list -/
theorem LsX.add {β : Type} {F : Nat → Prop} {l c v : Nat} {P : HP → Nat → β → Prop} {xs : List β} {y : β} (x : LsX F h l c P xs) (hc : 100 ≤ c ∧ c < 200) (hl : xs.length ≤ 400) (ok : okc c = true) (hv : elK h v) (w : WG h) :
    (∀ {β : Type} {K : HP → Rs β}, lsAdd l v h K = K (lad h l v)) ∧ St [] [l] 10 h (lad h l v) ∧ Fx [l] h (lad h l v) ∧ ((∀ a b, P h a b → P (lad h l v) a b) → P (lad h l v) v y → LsX F (lad h l v) l c P (xs ++ [y])) := by
  obtain ⟨x0, x1, x2, x3⟩ := x
  have K1 : lsK h l := ⟨by omega, by omega, x2⟩
  have len : (ls h l).length = xs.length := x3.len
  have s0 : St [] [l] (0 + 10) h (lad h l v) := (St.refl w [] [l]).ladd x1 ok (.inr (.inr (by simp))) (by omega) (by omega)
  have KK := lad_K (v := v) K1 (by omega)
  refine ⟨lsAdd_e K1 hv (by omega), s0.le (by omega), (s0.le (by omega) : St [] [l] 10 h (lad h l v)).fx, fun hP hy => ⟨x0, x1, KK.2.2, ?_⟩⟩
  rw [lad_ls]
  exact (x3.imp fun a _ b z => hP a b z).app (A2.one hy)
/-- an Integer -/
theorem ivOf_e (w : WG h) {n : Nat} (hn : n ≤ 1000) : ∃ h' v, (∀ {β : Type} {K : Nat → HP → Rs β}, ivOf (nI n) h K = K v h') ∧ St [] [] 1 h h' ∧ IvX h' v n ∧ kc h' v = 73 := by
  have hle : ∀ (x : Nat), x ≤ 1000 → ((-128 : Int32) ≤ nI x) := fun x hx => by
    have h1 : (nI x).toInt = x := nI_toInt (by omega)
    exact Int32.le_iff_toInt_le.mpr (by rw [h1]; show (-128 : Int) ≤ _; omega)
  by_cases c : n ≤ 127
  · refine ⟨h, (nI n + 428).toNatClampNeg, fun {β K} => if_pos ⟨hle n hn, (nI_leI (a := n) (b := 127) (by omega) (by omega)).mpr c⟩, (St.refl w [] []).le (by omega), ?_⟩
    have e1 : (nI n + 428).toNatClampNeg = n + 428 := by
      rw [show nI n + (428 : Int32) = nI (n + 428) from nI_add n 428]; exact nI_clamp (by omega)
    have k1 : kc h (n + 428) = 73 := by
      rw [(w.2.2 _ (by omega)).1]
      unfold kc0
      rw [if_neg (by show ¬ (1 ≤ n + 428 ∧ n + 428 ≤ 77); omega), if_pos (by omega)]
    rw [e1]
    refine ⟨⟨k1, ?_⟩, k1⟩
    rw [(w.2.2 _ (by omega)).2.2 491]
    unfold fi0
    rw [if_pos ⟨rfl, by omega, by omega⟩, show n + 428 - 300 = n + 128 by omega, show nI (n + 128) = nI n + 128 from (nI_add n 128).symm]
    exact Int32.add_sub_cancel _ _
  · have s1 : St [] [] (0 + 1) h (nI3 h (nI n)) := (St.refl w [] []).nI3 (by omega) (by omega)
    have k1 : kc (nI3 h (nI n)) (nx h) = 73 := kc_nI3_n
    refine ⟨nI3 h (nI n), nx h, fun {β K} => if_neg (fun z => c ((nI_leI (a := n) (b := 127) (by omega) (by omega)).mp z.2)), s1.le (by omega), ⟨k1, ?_⟩, k1⟩
    rw [fi_nI3, if_pos ⟨rfl, rfl⟩]
/-- types and nodes are kept -/
def Kq (e : EE) (h h' : HP) : Prop := (∀ x ∈ ls h e.tl, x ∈ ls h' e.tl) ∧ ∀ Q n its H, Nx e Q h n its H → Nx e Q h' n its H
theorem Kq.refl {e : EE} {h : HP} : Kq e h h := ⟨fun _ z => z, fun _ _ _ _ z => z⟩
theorem Kq.trans {e : EE} {h h1 h2 : HP} (a : Kq e h h1) (b : Kq e h1 h2) : Kq e h h2 := ⟨fun x z => b.1 x (a.1 x z), fun Q n its H z => b.2 _ _ _ _ (a.2 _ _ _ _ z)⟩
theorem XS.kq (p : PX e h i TY QU) (s : XS e a h h') : Kq e h h' := ⟨s.2.1, fun Q n its H ⟨d, y⟩ => ⟨d, XS.nd p s y⟩⟩
/-- declarations have changed: nodes stay -/
theorem PX.keep (p : PX e h i TY QU) {Z : List Nat} (f : Fx Z h h') (hZ : ∀ x ∈ Z, kdX (kc h x) = true) : Kq e h h' := by
  have Fz : Fr (fun k => !kdX k) h h' := f.fr (fun x hx => by rw [hZ x hx]; rfl)
  obtain ⟨w, ⟨k1, f1, f2, f3, f4, f5, k2, k3, _⟩, _⟩ := p
  obtain ⟨b1, b2, b3⟩ := Fz.at k2 (by decide) (by decide)
  obtain ⟨d1, d2, d3⟩ := Fz.at k3 (by decide) (by decide)
  refine ⟨fun x hx => by rw [b3.2.2.2.2.2.2.1]; exact hx, fun Q n its H x => Nx_fr Fz (fun k hk => ?_) (by decide) d3.2.2.2.2.2.2.1 b3.2.2.2.2.2.2.1 x⟩
  have := of_decide_eq_true (show decide ((16 ≤ k ∧ k ≤ 29) ∨ k = 14 ∨ k = 71) = true from hk)
  have : kdX k = false := by unfold kdX; exact decide_eq_false (by omega)
  rw [this]; rfl
