/-! PHASE B parser 8: both go on; types -/
set_option maxRecDepth 100000
theorem z10 : ¬ (1 : Int32) = 0 := by decide
theorem y00 : (0 : Int32) = 0 := rfl
/-- a step of the component's parser -/
def XS (e : EE) (a : Nat) (h h' : HP) : Prop := St [] e.xx a h h' ∧ (∀ x ∈ ls h e.tl, x ∈ ls h' e.tl) ∧ ∀ x ∈ ls h e.ql, x ∈ ls h' e.ql
abbrev MS (e : EE) (a : Nat) (h h' : HP) : Prop := St [] e.mm a h h'
theorem XS.trans {e : EE} {a b : Nat} {h h1 h2 : HP} (s : XS e a h h1) (t : XS e b h1 h2) : XS e (a + b) h h2 := ⟨s.1.trans t.1, fun x hx => t.2.1 x (s.2.1 x hx), fun x hx => t.2.2 x (s.2.2 x hx)⟩
theorem XS.le {e : EE} {a b : Nat} {h h1 : HP} (s : XS e a h h1) (hab : a ≤ b) : XS e b h h1 := ⟨s.1.le hab, s.2⟩
variable {e : EE} {hx hm h h' : HP} {i j a : Nat} {IT : List It} {TY : List Ty} {QU : List (List Nat)}
theorem XS.refl (p : PX e h i TY QU) : XS e 0 h h := ⟨St.refl p.1 _ _, fun _ z => z, fun _ z => z⟩
theorem XS.new (p : PX e h i TY QU) (s : St [] [] a h h') : XS e a h h' := by
  have b := s.2.eq p.2.1.2.2.2.2.2.2.1 (by decide) (by simp) (by simp)
  have c := s.2.eq p.2.1.2.2.2.2.2.2.2.1 (by decide) (by simp) (by simp)
  exact ⟨s.wk (fun _ z => z) (fun x hx => by simp at hx) (Nat.le_refl _), fun x hx => by rw [b.2.2.2.2.2.2.1]; exact hx, fun x hx => by rw [c.2.2.2.2.2.2.1]; exact hx⟩
theorem XS.tok (p : PX e h i TY QU) (s : St [] [e.t, e.st] a h h') : XS e a h h' := by
  have kt := p.2.2.1.1.1
  have kst := p.2.2.1.1.2.2.2.2.1
  have k1 := p.2.1.2.2.2.2.2.2.1
  have k2 := p.2.1.2.2.2.2.2.2.2.1
  have b := s.2.eq k1 (by decide) (by simp) (by simp; exact ⟨fun z => by rw [z, kt] at k1; omega, fun z => by rw [z, kst] at k1; omega⟩)
  have c := s.2.eq k2 (by decide) (by simp) (by simp; exact ⟨fun z => by rw [z, kt] at k2; omega, fun z => by rw [z, kst] at k2; omega⟩)
  exact ⟨s.wk (fun _ z => z) (fun x hx => .inl (by simp at hx; rcases hx with z | z <;> simp [z])) (Nat.le_refl _), fun x hx => by rw [b.2.2.2.2.2.2.1]; exact hx, fun x hx => by rw [c.2.2.2.2.2.2.1]; exact hx⟩
theorem XS.nd {F : Nat → Prop} (p : PX e h i TY QU) (s : XS e a h h') {d n H : Nat} {its : List It} (x : Nd e F d h n its H) : Nd e F d h' n its H := by
  have f := p.fr0 s.1
  refine Nd_fr f (fun q _ hq => ?_) (fun k hk => ?_) s.2.2 s.2.1 x
  · obtain ⟨a1, a2, a3⟩ := f.at hq (by decide) (by decide)
    exact ⟨a1, a3.2.2.2.2.2.2.1, a3.2.2.2.2.2.2.2.2⟩
  · unfold sNd at hk
    unfold sX0
    have := of_decide_eq_true hk
    exact decide_eq_true (by omega)
theorem MS.Q {h1 : HP} (s : St [] [e.Q] a h h1) : MS e a h h1 := s.wk (fun _ z => z) (fun x hx => .inl (by rw [List.mem_singleton.mp hx]; simp)) (Nat.le_refl _)
theorem MS.tr {h1 : HP} (s : St [] [e.tr] a h h1) : MS e a h h1 := s.wk (fun _ z => z) (fun x hx => .inl (by rw [List.mem_singleton.mp hx]; simp)) (Nat.le_refl _)
theorem MS.il {h1 : HP} (s : St [] [e.il] a h h1) : MS e a h h1 := s.wk (fun _ z => z) (fun x hx => .inl (by rw [List.mem_singleton.mp hx]; simp)) (Nat.le_refl _)
theorem MS.new {h1 : HP} (s : St [] [] a h h1) : MS e a h h1 := s.wk (fun _ z => z) (fun x hx => by simp at hx) (Nat.le_refl _)
theorem PN_at {P N : Nat} (n : PN e h P N) (q : PM e h j IT TY QU) : (tk e.TS j).1 = 9 ∧ (tk e.TS j).2.1 = P := by
  obtain ⟨k, IT', TY', QU', z1, z2, z3, z4⟩ := n
  have : k = j := by
    have a1 := z1.jj.2.2.1
    have a2 := q.jj.2.2.1
    have a3 := z1.jj.1
    have a4 := q.jj.1
    have a5 := q.jj.2.2.2
    rw [a1] at a2
    exact (nI_eq (by omega) (by omega)).mp a2
  rw [← this]; exact ⟨z2, z3⟩
/-- both go over a token -/
theorem adv (p : PX e hx i TY QU) (q : PM e hm i IT TY QU) (g : tkGo (tk e.TS i)) :
    (∃ hx', (∀ (β : Type) (K : HP → Rs β), bd (f_X9_next e.t hx) (fun _ h2 => K h2) = K hx') ∧ XS e 20 hx hx' ∧ PX e hx' (i + 1) TY QU ∧ PM e (fwd e hm i) (i + 1) IT TY QU ∧ MS e 0 hm (fwd e hm i)) ∨
    (∃ hx' P, (∀ (β : Type) (K : HP → Rs β), bd (f_X9_next e.t hx) (fun _ h2 => K h2) = rex hx') ∧ XS e 20 hx hx' ∧ StopX e hx' P ∧ PN e (fwd e hm i) P IT.length ∧ MS e 0 hm (fwd e hm i)) := by
  obtain ⟨s1, p1⟩ := mfwd_s q g
  rcases xnext p g with ⟨c, hx', e1, s2, p2⟩ | ⟨c, hx', e1, s2, f2⟩
  · exact .inl ⟨hx', e1, XS.tok p s2, p2, p1, MS.Q s1⟩
  · exact .inr ⟨hx', _, e1, XS.tok p s2, f2, ⟨_, _, _, _, p1, c, rfl, Nat.le_refl _⟩, MS.Q s1⟩
/-- the component has failed; the twin too, or it stands where there is no token -/
def Fail {α β : Type} (e : EE) (hx hm : HP) (a N b : Nat) (rx : Rs α) (rm : Rs β) : Prop := ∃ p hx', rx = rex hx' ∧ XS e a hx hx' ∧ StopX e hx' p ∧ MF e hm p N b rm
theorem Fail.le {α β : Type} {N b a2 N2 b2 : Nat} {rx : Rs α} {rm : Rs β} (f : Fail e hx hm a N b rx rm) (ha : a ≤ a2) (hN : N ≤ N2) (hb : b ≤ b2) : Fail e hx hm a2 N2 b2 rx rm := by
  obtain ⟨p, hx', e1, s1, f1, m1⟩ := f; exact ⟨p, hx', e1, s1.le ha, f1, m1.le hN hb⟩
theorem Fail.pre {α β : Type} {N b a1 b1 : Nat} {hx1 hm1 : HP} {rx : Rs α} {rm : Rs β} (sx : XS e a1 hx hx1) (sm : MS e b1 hm hm1) (f : Fail e hx1 hm1 a N b rx rm) : Fail e hx hm (a1 + a) N (b1 + b) rx rm := by
  obtain ⟨p, hx', e1, s1, f1, m1⟩ := f; exact ⟨p, hx', e1, sx.trans s1, f1, m1.pre sm⟩
/-- the twin goes on behind a failure of both -/
theorem Fail.bd {α β γ δ : Type} {N N2 b c : Nat} {rx : Rs α} {rm : Rs β} {K1 : α → HP → Rs γ} {K2 : β → HP → Rs δ} (f : Fail e hx hm a N b rx rm) (hk : ∀ p v h', PN e h' p N → MF e h' p N2 c (K2 v h')) : Fail e hx hm a N2 (b + c) (bd rx K1) (bd rm K2) := by
  obtain ⟨p, hx', e1, s1, f1, m1⟩ := f
  exact ⟨p, hx', by rw [e1]; rfl, s1, f1, m1.bd (fun v h' q => hk p v h' q)⟩
/-- at the present token both fail -/
theorem Fail.at' {α β : Type} (p : PX e hx i TY QU) {hx' hm' : HP} {rx : Rs α} {rm : Rs β} {P N : Nat} (e1 : rx = rex hx') (s1 : St [] [e.t, e.st] 0 hx hx') (f1 : StopX e hx' P) (e2 : rm = rex hm') (s2 : St [] [e.tr] 1 hm hm') (f2 : StopM e hm' P) : Fail e hx hm 0 N 1 rx rm :=
  ⟨_, hx', e1, XS.tok p s1, f1, MF.ex e2 s2 f2⟩
/-- behind a step onto no token -/
theorem Fail.adv {α β : Type} {hx' : HP} {rx : Rs α} {rm : Rs β} {P N b : Nat} (e1 : rx = rex hx') (s1 : XS e 20 hx hx') (f1 : StopX e hx' P) (sm : MS e 0 hm (fwd e hm i)) (m : MF e (fwd e hm i) P N b rm) : Fail e hx hm 20 N b rx rm :=
  ⟨_, hx', e1, s1, f1, (m.pre sm).le (Nat.le_refl _) (by omega)⟩
/-- a type is read: what both have then -/
def TOk (e : EE) (hx hm : HP) (i : Nat) (TY : List Ty) (QU : List (List Nat)) (IT : List It) (n m : Nat) (hx' hm' : HP) (j : Nat) (T : Ty) : Prop :=
  i < j ∧ XS e (50 * (j - i)) hx hx' ∧ MS e (50 * (j - i)) hm hm' ∧ PX e hx' j (TY ++ [T]) QU ∧ PM e hm' j IT (TY ++ [T]) QU ∧ TyX hx' n T ∧ n ∈ ls hx' e.tl ∧ TyM hm' m T ∧ kc hx n = 0 ∧ fr hx' 173 n = 0
def TOut (e : EE) (hx hm : HP) (i : Nat) (TY : List Ty) (QU : List (List Nat)) (IT : List It) (rx : Rs Nat) (rm : Rs Nat) : Prop :=
  (∃ n m hx' hm' j T, rx = rok n hx' ∧ rm = rok m hm' ∧ TOk e hx hm i TY QU IT n m hx' hm' j T) ∨ (Fail e hx hm (50 * (e.TS.length - i)) IT.length (50 * (e.TS.length - i)) rx rm ∧ ∀ v h', rm = rok v h' → ∃ T, TyM h' v T)
/-- the row of [ ] ends so: the component has failed; the twin too, or it has so many [ ] and stands where there is no token -/
def TyF {α : Type} (e : EE) (hx hm : HP) (i : Nat) (IT : List It) (TY : List Ty) (QU : List (List Nat)) (a : Nat) (rx : Rs α) (rm : Rs (Unit ⊕ Int32)) : Prop :=
  ∃ p hx', rx = rex hx' ∧ XS e a hx hx' ∧ StopX e hx' p ∧ ((∃ hm', rm = rex hm' ∧ MS e a hm hm' ∧ StopM e hm' p) ∨ (∃ hm' j k, rm = rok (Sum.inr (nI k)) hm' ∧ k ≤ 8 ∧ MS e a hm hm' ∧ PM e hm' j IT TY QU ∧ i < j ∧ (tk e.TS j).1 = 9 ∧ (tk e.TS j).2.1 = p))
/-- the row of [ ] behind a type's name -/
theorem ty_l {P0 : Nat} (v1 : Int32) (v2 : Nat) (t0 : Nat) (n : Nat) : ∀ (hx hm : HP) (i d : Nat), e.TS.length - i < n → d ≤ 8 → PX e hx i TY QU → PM e hm i IT TY QU →
    (∃ hx' hm' j k, f_X10_type_l51 e.P v1 v2 n (nI d) hx = rok (Sum.inr (nI k)) hx' ∧ f_X48_type_l29 e.Q t0 n (nI d) hm = rok (Sum.inr (nI k)) hm' ∧ i ≤ j ∧ k ≤ 8 ∧ XS e (40 * (j - i)) hx hx' ∧ MS e (40 * (j - i)) hm hm' ∧ PX e hx' j TY QU ∧ PM e hm' j IT TY QU) ∨
    (∃ hx' hm' j, f_X10_type_l51 e.P v1 v2 n (nI d) hx = rok (Sum.inl ()) hx' ∧ f_X48_type_l29 e.Q t0 n (nI d) hm = rok (Sum.inl ()) hm' ∧ i ≤ j ∧ XS e (40 * (j - i)) hx hx' ∧ MS e (40 * (j - i)) hm hm' ∧ PX e hx' j TY QU ∧ PM e hm' j IT TY QU) ∨
    TyF e hx hm i IT TY QU (40 * (e.TS.length - i)) (f_X10_type_l51 e.P v1 v2 n (nI d) hx) (f_X48_type_l29 e.Q t0 n (nI d) hm) := by
  induction n with
  | zero => intro hx hm i d h1; omega
  | succ n ih =>
    intro hx hm i d h1 hd p q
    have hj := q.jj.1
    rw [f_X10_type_l51_s, f_X48_type_l29_s]
    unfold b_X10_type_l51 b_X48_type_l29
    rw [xt_e p, x10_e p, xis_e p (by decide) (by decide) rfl, m46_e q, misS_e q (by decide) (by decide) rfl]
    have hw : codes (cStr.getD (33 - 1) "") ∈ SW := by decide
    by_cases c : isX (tk e.TS i) (codes (cStr.getD (33 - 1) ""))
    · have c2 := (isX_S p.V hw).mp c
      rw [if_pos c, if_pos c2, if_neg z10, if_neg z10]
      by_cases d8 : d = 8
      · have y8 : nI d = (8 : Int32) := by rw [d8]; rfl
        rw [if_pos y8, if_pos y8]
        exact .inr (.inl ⟨hx, hm, i, rfl, rfl, Nat.le_refl _, (XS.refl p).le (by omega), (St.refl q.1 _ _).le (by omega), p, q⟩)
      · have n8 : ¬ nI d = (8 : Int32) := fun z => d8 ((nk d (c := 8) rfl (by omega) (by omega)).mp z)
        have g : tkGo (tk e.TS i) := ⟨by have := c2.1; omega, by have := c2.1; omega⟩
        rw [if_neg n8, if_neg n8, xt_e p, x10_e p, mfwd_e q]
        rcases adv p q g with ⟨hx1, e1, s1, p1, q1, t1⟩ | ⟨hx1, P, e1, s1, f1, n1, t1⟩
        · rw [e1, xt_e p1, x10_e p1, m46_e q1]
          have hw2 : codes (cStr.getD (34 - 1) "") ∈ SW := by decide
          by_cases c3 : isX (tk e.TS (i + 1)) (codes (cStr.getD (34 - 1) ""))
          · have c4 := (isX_S p1.V hw2).mp c3
            have g1 : tkGo (tk e.TS (i + 1)) := ⟨by have := c4.1; omega, by have := c4.1; omega⟩
            rw [xexpY p1 (by decide) (by decide) rfl c3, msgnY q1 (by decide) (by decide) rfl c4]
            rcases adv p1 q1 g1 with ⟨hx2, e2, s2, p2, q2, t2⟩ | ⟨hx2, P, e2, s2, f2, n2, t2⟩
            · rw [e2]
              simp only [lt3, nI_1]
              rcases ih hx2 _ (i + 1 + 1) (d + 1) (by omega) (by omega) p2 q2 with ⟨hx3, hm3, j, k, a1, a2, a3, a4, a5, a6, a7, a8⟩ | ⟨hx3, hm3, j, a1, a2, a3, a5, a6, a7, a8⟩ | f
              · exact .inl ⟨hx3, hm3, j, k, a1, a2, by omega, a4, ((s1.trans s2).trans a5).le (by omega), ((t1.trans t2).trans a6).le (by omega), a7, a8⟩
              · exact .inr (.inl ⟨hx3, hm3, j, a1, a2, by omega, ((s1.trans s2).trans a5).le (by omega), ((t1.trans t2).trans a6).le (by omega), a7, a8⟩)
              · have hj2 := q2.jj.1
                obtain ⟨P, hx4, g1, g2, g3, g4⟩ := f
                refine .inr (.inr ⟨P, hx4, g1, ((s1.trans s2).trans g2).le (by omega), g3, ?_⟩)
                rcases g4 with ⟨hm4, u1, u2, u3⟩ | ⟨hm4, j, k, u1, u2, u3, u4, u5, u6⟩
                · exact .inl ⟨hm4, u1, ((t1.trans t2).trans u2).le (by omega), u3⟩
                · exact .inr ⟨hm4, j, k, u1, u2, ((t1.trans t2).trans u3).le (by omega), u4, by omega, u6⟩
            · have hj1 := q1.jj.1
              obtain ⟨n, rfl⟩ : ∃ m, n = m + 1 := ⟨n - 1, by omega⟩
              rw [e2]
              simp only [lt3, nI_1]
              rw [f_X48_type_l29_s]
              unfold b_X48_type_l29
              obtain ⟨t3, q3⟩ := mfwd_s q1 g1
              have k9 := PN_at n2 q3
              refine .inr (.inr ⟨P, hx2, rfl, (s1.trans s2).le (by omega), f2, .inr ⟨_, i + 1 + 1, d + 1, ?_, by omega, (t1.trans t2).le (by omega), q3, by omega, k9⟩⟩)
              rw [m46_e q3, misS_e q3 (by decide) (by decide) rfl, if_neg (fun z => by have := z.1; have := k9.1; omega), if_pos y00]
          · obtain ⟨hx2, e2, s2, f2⟩ := xexpN p1 (by decide) (by decide) rfl c3
            obtain ⟨hm2, e3, s3, f3⟩ := msgnN q1 (by decide) (by decide) rfl (fun z => c3 ((isX_S p1.V hw2).mpr z))
            have hj1 := q1.jj.1
            exact .inr (.inr ⟨_, hx2, e2 _ _, (s1.trans (XS.tok p1 s2)).le (by omega), f2, .inl ⟨hm2, e3 _ _, (t1.trans (MS.tr s3)).le (by omega), f3⟩⟩)
        · rw [e1]
          obtain ⟨t3, q3⟩ := mfwd_s q g
          have k9 := PN_at n1 q3
          obtain ⟨hm2, e3, s3, f3⟩ := msgnN q3 (s := 34) (by decide) (by decide) rfl (fun z => by have := z.1; have := k9.1; omega)
          rw [m46_e q3]
          exact .inr (.inr ⟨P, hx1, rfl, s1.le (by omega), f1, .inl ⟨hm2, e3 _ _, (t1.trans (MS.tr s3)).le (by omega), k9.2 ▸ f3⟩⟩)
    · rw [if_neg c, if_neg (fun z => c ((isX_S p.V hw).mpr z)), if_pos y00, if_pos y00]
      exact .inl ⟨hx, hm, i, d, rfl, rfl, Nat.le_refl _, hd, (XS.refl p).le (by omega), (St.refl q.1 _ _).le (by omega), p, q⟩
