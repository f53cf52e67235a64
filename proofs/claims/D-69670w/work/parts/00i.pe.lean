/-! PHASE B parser 14: both parsers so far: steps -/
set_option maxRecDepth 100000
variable {e : EE} {hx hm h h' hx0 hm0 : HP} {i j a X Y : Nat} {IT IT0 its : List It} {TY TY0 ty : List Ty} {QU QU0 qu : List (List Nat)}
/-- what the component's steps keep -/
def Kp (e : EE) (h h' : HP) : Prop := (∀ {F d n its H}, Nd e F d h n its H → Nd e F d h' n its H) ∧ (∀ {s w}, StrX h s w → StrX h' s w) ∧ (∀ {a T}, TyX h a T → TyX h' a T) ∧ (∀ x ∈ ls h e.tl, x ∈ ls h' e.tl) ∧ (∀ x ∈ ls h e.ql, x ∈ ls h' e.ql) ∧ (∀ q, kc h' q = 0 → kc h q = 0) ∧ nx h ≤ nx h'
theorem Kp.nw {q : Nat} (K : Kp e h h') (z : Nw h' q) : Nw h q := ⟨K.2.2.2.2.2.1 q z.1, Nat.le_trans K.2.2.2.2.2.2 z.2⟩
theorem XS.kp (p : PX e h i TY QU) (s : XS e a h h') : Kp e h h' := ⟨fun x => XS.nd p s x, fun m => StrX_fr (p.fr0 s.1) m (by decide), fun m => TyX_fr (p.fr0 s.1) m (by decide) (by decide), s.2.1, s.2.2, fun _ => kc_back s.1, s.1.2.1⟩
/-- what the twin's steps keep -/
def Km (h h' : HP) : Prop := (∀ {s w}, StrX h s w → StrX h' s w) ∧ (∀ {a T}, TyM h a T → TyM h' a T) ∧ (∀ {a s}, ToM h a s → ToM h' a s) ∧ ∀ {a T}, MT h a T → MT h' a T
theorem PM.km (q : PM e h j IT TY QU) (s : MS e a h h') : Km h h' := ⟨fun m => StrX_fr (q.fr0 s) m (by decide), fun m => TyM_fr (q.fr0 s) m (by decide) (by decide), fun m => ToM_fr (q.fr0 s) m (by decide) (by decide), fun m => MT_fr (q.fr0 s) m (by decide) (by decide)⟩
/-- both parsers so far -/
def Sq (e : EE) (hx0 hm0 : HP) (TY0 : List Ty) (QU0 : List (List Nat)) (IT0 : List It) (X Y : Nat) (hx hm : HP) (i : Nat) (ty : List Ty) (qu : List (List Nat)) (its : List It) : Prop :=
  XS e X hx0 hx ∧ MS e Y hm0 hm ∧ PX e hx i (TY0 ++ ty) (QU0 ++ qu) ∧ PM e hm i (IT0 ++ its) (TY0 ++ ty) (QU0 ++ qu)
theorem Sq.start (p : PX e hx i TY QU) (q : PM e hm i IT TY QU) : Sq e hx hm TY QU IT 0 0 hx hm i [] [] [] := ⟨XS.refl p, St.refl q.1 _ _, by rw [List.append_nil, List.append_nil]; exact p, by rw [List.append_nil, List.append_nil, List.append_nil]; exact q⟩
theorem Sq.go (S : Sq e hx0 hm0 TY0 QU0 IT0 X Y hx hm i ty qu its) (g : tkGo (tk e.TS i)) :
    (∃ hx', (∀ (β : Type) (K : HP → Rs β), bd (f_X9_next e.t hx) (fun _ h2 => K h2) = K hx') ∧ Sq e hx0 hm0 TY0 QU0 IT0 (X + 20) Y hx' (fwd e hm i) (i + 1) ty qu its ∧ Kp e hx hx' ∧ Km hm (fwd e hm i)) ∨
    (∃ hx' P, (∀ (β : Type) (K : HP → Rs β), bd (f_X9_next e.t hx) (fun _ h2 => K h2) = rex hx') ∧ PN e (fwd e hm i) P (IT0 ++ its).length ∧ Km hm (fwd e hm i) ∧ ∀ {α β : Type} {rm : Rs β} {N b : Nat}, MF e (fwd e hm i) P N b rm → Fail e hx0 hm0 (X + 20) N (Y + b) (rex hx' : Rs α) rm) := by
  obtain ⟨s1, s2, p, q⟩ := S
  rcases adv p q g with ⟨hx', e1, x1, p1, q1, m1⟩ | ⟨hx', P, e1, x1, f1, n1, m1⟩
  · exact .inl ⟨hx', e1, ⟨s1.trans x1, s2.trans m1, p1, q1⟩, XS.kp p x1, q.km m1⟩
  · exact .inr ⟨hx', P, e1, n1, q.km m1, fun m => (Fail.pre s1 s2 (Fail.adv rfl x1 f1 m1 m))⟩
theorem Sq.goN (S : Sq e hx0 hm0 TY0 QU0 IT0 X Y hx hm i ty qu its) (c : (tk e.TS i).1 = 1) :
    ∃ n hm', (∀ (β : Type) (K : Nat → HP → Rs β), bd (f_X48_name e.Q hm) K = K n hm') ∧ Km hm hm' ∧ ToM hm' n ((tk e.TS i).2.2.1, (tk e.TS i).2.1) ∧ kc hm n = 0 ∧
    ((∃ hx', (∀ (β : Type) (K : HP → Rs β), bd (f_X9_next e.t hx) (fun _ h2 => K h2) = K hx') ∧ Sq e hx0 hm0 TY0 QU0 IT0 (X + 20) (Y + 1) hx' hm' (i + 1) ty qu its ∧ Kp e hx hx') ∨
     (∃ hx' P, (∀ (β : Type) (K : HP → Rs β), bd (f_X9_next e.t hx) (fun _ h2 => K h2) = rex hx') ∧ PN e hm' P (IT0 ++ its).length ∧ ∀ {α β : Type} {rm : Rs β} {N b : Nat}, MF e hm' P N b rm → Fail e hx0 hm0 (X + 20) N (Y + 1 + b) (rex hx' : Rs α) rm)) := by
  obtain ⟨s1, s2, p, q⟩ := S
  obtain ⟨n, hm', e1, t1, q1, tm, n0⟩ := mnameY q c
  refine ⟨n, hm', e1, q.km (MS.Q t1), tm, n0, ?_⟩
  rcases xnext p ⟨by omega, by omega⟩ with ⟨c, hx', e2, u2, p2⟩ | ⟨c, hx', e2, u2, f2⟩
  · exact .inl ⟨hx', e2, ⟨s1.trans (XS.tok p u2), s2.trans (MS.Q t1), p2, q1⟩, XS.kp p (XS.tok p u2)⟩
  · refine .inr ⟨hx', _, e2, ⟨_, _, _, _, q1, c, rfl, Nat.le_refl _⟩, fun m => ?_⟩
    exact ⟨_, hx', rfl, s1.trans (XS.tok p u2), f2, m.pre (s2.trans (MS.Q t1))⟩
theorem Sq.sub {n d H : Nat} {hx1 hm1 : HP} {ty1 : List Ty} {qu1 : List (List Nat)} {its1 : List It} (S : Sq e hx0 hm0 TY0 QU0 IT0 X Y hx hm i ty qu its) (k : POk e hx hm i (TY0 ++ ty) (QU0 ++ qu) (IT0 ++ its) n hx1 hm1 j ty1 qu1 its1 H d) :
    i < j ∧ Sq e hx0 hm0 TY0 QU0 IT0 (X + 60 * (j - i)) (Y + 60 * (j - i)) hx1 hm1 j (ty ++ ty1) (qu ++ qu1) (its ++ its1) ∧ Kp e hx hx1 ∧ Km hm hm1 ∧ Nd e (Nw hx0) d hx1 n its1 H ∧ H ≤ j - i ∧ its1.length ≤ 2 * (j - i) ∧ ∀ b s, its1 = [(5, b, s, 0, 0, none)] → (tk e.TS i).1 = 1 ∧ (tk e.TS i).2.2.1 = s := by
  obtain ⟨s1, s2, p, q⟩ := S
  obtain ⟨k1, k2, k3, k4, k5, k6, k7, k8⟩ := k
  refine ⟨k1, ⟨s1.trans k2, s2.trans k3, ?_, ?_⟩, XS.kp p k2, q.km k3, Nd_F (fun _ hq => s1.1.nwb hq) k6, k7, k8⟩
  · rw [← List.append_assoc, ← List.append_assoc]; exact k4
  · rw [← List.append_assoc, ← List.append_assoc, ← List.append_assoc]; exact k5
theorem Sq.fail {α β : Type} {N b : Nat} {rx : Rs α} {rm : Rs β} (S : Sq e hx0 hm0 TY0 QU0 IT0 X Y hx hm i ty qu its) (f : Fail e hx hm a N b rx rm) : Fail e hx0 hm0 (X + a) N (Y + b) rx rm := Fail.pre S.1 S.2.1 f
theorem Sq.err {α β : Type} {N P : Nat} (S : Sq e hx0 hm0 TY0 QU0 IT0 X Y hx hm i ty qu its) {hx' hm' : HP} (s1 : St [] [e.t, e.st] 0 hx hx') (f1 : StopX e hx' P) (s2 : St [] [e.tr] 1 hm hm') (f2 : StopM e hm' P) : Fail e hx0 hm0 X N (Y + 1) (rex hx' : Rs α) (rex hm' : Rs β) := Fail.pre S.1 S.2.1 (Fail.at' S.2.2.1 rfl s1 f1 rfl s2 f2)
theorem Sq.nod {b : Nat} (S : Sq e hx0 hm0 TY0 QU0 IT0 X Y hx hm i ty qu its) (s : St [] [] b hx h') : Sq e hx0 hm0 TY0 QU0 IT0 (X + b) Y h' hm i ty qu its ∧ Kp e hx h' := by
  obtain ⟨s1, s2, p, q⟩ := S
  exact ⟨⟨s1.trans (XS.new p s), s2, p.new s, q⟩, XS.kp p (XS.new p s)⟩
theorem Sq.itm (S : Sq e hx0 hm0 TY0 QU0 IT0 X Y hx hm i ty qu its) (hl : (IT0 ++ its).length ≤ 900 ∧ e.il ≠ 0) {op at' s n ty' : Nat} {OP NN' : Int32} {bits : Int64} {w : List Nat} {o : Option Ty} (h1 : OP = nI op) (h2 : NN' = nI n) (hs : StrX hm s w) (ho : TyO hm ty' o) :
    ∃ hm', (∀ {β : Type} {K : HP → Rs β}, bd (f_X48_item e.Q OP (nI at') s bits NN' ty' hm) (fun _ h2 => K h2) = K hm') ∧ Sq e hx0 hm0 TY0 QU0 IT0 X (Y + 22) hx hm' i ty qu (its ++ [(op, at', w, bits, n, o)]) ∧ Km hm hm' := by
  obtain ⟨s1, s2, p, q⟩ := S
  obtain ⟨hm', e1, t1, q1⟩ := mitm q hl (op := op) (at' := at') (n := n) (bits := bits) hs ho
  subst h1 h2
  exact ⟨hm', fun {β K} => e1 β K, ⟨s1, s2.trans (MS.il t1), p, by rw [← List.append_assoc]; exact q1⟩, q.km (MS.il t1)⟩
theorem Sq.pok {n d H i0 : Nat} (S : Sq e hx0 hm0 TY0 QU0 IT0 X Y hx hm i ty qu its) (h0 : i0 < i) (hX : X ≤ 60 * (i - i0)) (hY : Y ≤ 60 * (i - i0)) (N : Nd e (Nw hx0) d hx n its H) (hH : H ≤ i - i0) (hl : its.length ≤ 2 * (i - i0)) (h9 : ∀ b s, its = [(5, b, s, 0, 0, none)] → (tk e.TS i0).1 = 1 ∧ (tk e.TS i0).2.2.1 = s) : POk e hx0 hm0 i0 TY0 QU0 IT0 n hx hm i ty qu its H d :=
  ⟨h0, S.1.le hX, S.2.1.le hY, S.2.2.1, S.2.2.2, N, hH, hl, h9⟩
theorem POk.sq {n d H i0 : Nat} (k : POk e hx0 hm0 i0 TY0 QU0 IT0 n hx hm i ty qu its H d) : Sq e hx0 hm0 TY0 QU0 IT0 (60 * (i - i0)) (60 * (i - i0)) hx hm i ty qu its := ⟨k.2.1, k.2.2.1, k.2.2.2.1, k.2.2.2.2.1⟩
theorem PWK : ∀ w ∈ PW, w ∈ KW := by decide +kernel
/-- a tree below a new node -/
theorem sgl {h0 : HP} {d n nb H : Nat} {x : List It} (N : Nd e (Nw h0) d h nb x H) (hn : kc h n = 0) : Nd e (fun q => Nw h0 q ∧ q ≠ n) d h nb x H := Nd_F' (fun q y y0 => ⟨y, fun w => y0 (by rw [w]; exact hn)⟩) N
/-- two trees below a new node -/
theorem dbl {h0 h1 h2 : HP} {a b dl dr Ha Hb : Nat} {x y : List It} (NL : Nd e (Nw h0) dl h1 a x Ha) (NR : Nd e (Nw h1) dr h2 b y Hb) (hb : ∀ q, Nw h1 q → Nw h0 q) (he : ∀ q, Nw h2 q → Nw h1 q) :
    (Dj (B2 a b h1 h2) ∧ a ≠ b ∧ ∀ n, Nw h2 n → ∀ c, ¬ B2 a b h1 h2 c n) ∧ Nd e (fun q => Nw h0 q ∧ B2 a b h1 h2 a q) dl h1 a x Ha ∧ Nd e (fun q => Nw h0 q ∧ B2 a b h1 h2 b q) dr h2 b y Hb := by
  have ka := (Nd_k NL).1
  have kb := Nd_at NR
  refine ⟨⟨B2_dj _ _ _ _, fun z => ?_, fun n hn c z => ?_⟩, Nd_F' (fun q y y0 => ⟨y, .inl ⟨rfl, y0⟩⟩) NL, Nd_F' (fun q y y0 => ⟨hb q y, .inr ⟨rfl, y.1, y0⟩⟩) NR⟩
  · have kb' : kc h1 b = 0 := kb.1
    rw [z, kb'] at ka; exact absurd ka (by decide)
  · rcases z with ⟨_, z⟩ | ⟨_, _, z⟩
    · exact z (he n hn).1
    · exact z hn.1
/-- three trees below a new node -/
theorem trp {h0 h1 h2 h3 : HP} {a b c da db dc Ha Hb Hc : Nat} {x y z : List It} (NA : Nd e (Nw h0) da h1 a x Ha) (NB : Nd e (Nw h1) db h2 b y Hb) (NC : Nd e (Nw h2) dc h3 c z Hc) (hb : ∀ q, Nw h1 q → Nw h0 q) (he : ∀ q, Nw h2 q → Nw h1 q) (he2 : ∀ q, Nw h3 q → Nw h2 q) :
    (Dj (B3 a b c h1 h2 h3) ∧ a ≠ b ∧ a ≠ c ∧ b ≠ c ∧ ∀ n, Nw h3 n → ∀ q, ¬ B3 a b c h1 h2 h3 q n) ∧ Nd e (fun q => Nw h0 q ∧ B3 a b c h1 h2 h3 a q) da h1 a x Ha ∧ Nd e (fun q => Nw h0 q ∧ B3 a b c h1 h2 h3 b q) db h2 b y Hb ∧ Nd e (fun q => Nw h0 q ∧ B3 a b c h1 h2 h3 c q) dc h3 c z Hc := by
  have ka := (Nd_k NA).1
  have kb := (Nd_k NB).1
  have fb : kc h1 b = 0 := (Nd_at NB).1
  have fc : Nw h2 c := Nd_at NC
  refine ⟨⟨B3_dj _ _ _ _ _ _, fun z => ?_, fun z => ?_, fun z => ?_, fun n hn c z => ?_⟩, Nd_F' (fun q y y0 => ⟨y, .inl ⟨rfl, y0⟩⟩) NA, Nd_F' (fun q y y0 => ⟨hb q y, .inr (.inl ⟨rfl, y.1, y0⟩)⟩) NB, Nd_F' (fun q y y0 => ⟨hb q (he q y), .inr (.inr ⟨rfl, (he q y).1, y.1, y0⟩)⟩) NC⟩
  · rw [z, fb] at ka; exact absurd ka (by decide)
  · rw [z, (he _ fc).1] at ka; exact absurd ka (by decide)
  · rw [z, fc.1] at kb; exact absurd kb (by decide)
  · rcases z with ⟨_, z⟩ | ⟨_, _, z⟩ | ⟨_, _, _, z⟩
    · exact z (he n (he2 n hn)).1
    · exact z (he2 n hn).1
    · exact z hn.1
/-- the twin's own item where there is no token: then it goes on -/
theorem vIt {β : Type} {p N N2 b : Nat} (q : PN e h p N) (hN : N ≤ 900 ∧ e.il ≠ 0) {op at' s n ty : Nat} {OP NN' : Int32} {bits : Int64} {w : List Nat} {o : Option Ty} (h1 : OP = nI op) (h2 : NN' = nI n) (hs : StrX h s w) (ho : TyO h ty o) {K : HP → Rs β} (m : ∀ h', Km h h' → PN e h' p (N + 1) → MF e h' p N2 b (K h')) : MF e h p N2 (22 + b) (bd (f_X48_item e.Q OP (nI at') s bits NN' ty h) (fun _ h2 => K h2)) := by
  subst h1 h2
  obtain ⟨j, IT, TY, QU, c, d1, d2, d3⟩ := q
  obtain ⟨h', e1, s1, p1⟩ := mitm c (by omega) (op := op) (at' := at') (n := n) (bits := bits) hs ho
  rw [e1]
  exact (m h' (c.km (MS.il s1)) ⟨j, _, TY, QU, p1, d1, d2, by rw [List.length_append, List.length_singleton]; omega⟩).pre (MS.il s1)
theorem vPostK {p N : Nat} {R : TY_S7} {d : Int32} (k : Nat) (n : PN e h p N) : MF e h p N 0 (f_X48_postfix_l5 R e.Q d (k + 1) h) := by
  rw [f_X48_postfix_l5_s]
  unfold b_X48_postfix_l5
  refine v46 n (vS n (by decide) (by decide) ?_)
  rw [if_pos y00]
  refine v46 n (vS n (by decide) (by decide) ?_)
  rw [if_pos y00]
  exact MF.ok n ()
theorem vRankK {p N : Nat} {R : TY_S7} {l d : Int32} (k : Nat) (n : PN e h p N) : MF e h p N 0 (f_X48_ranked_l75 R e.Q l d (k + 1) h) := by
  rw [f_X48_ranked_l75_s]
  unfold b_X48_ranked_l75
  refine v46 n (vT n fun t T mt k9 => ?_)
  obtain ⟨m1, m2, m3, m4, m5, m6⟩ := mt
  rw [k9] at m2
  rw [ldI_e m1, m2, if_neg (by decide)]
  exact MF.ok n ()
theorem go_of {w : List Nat} {T : Tk} (c : isS T w) : tkGo T := ⟨by have := c.1; omega, by have := c.1; omega⟩
theorem goW_of {w : List Nat} {T : Tk} (c : isW T w) : tkGo T := ⟨by have := c.1; omega, by have := c.1; omega⟩
theorem isS_ne {w u : List Nat} {T : Tk} (c : isS T w) (n : w ≠ u) : ¬ isS T u := fun z => n (c.2.symm.trans z.2)
theorem Nd_kn {F : Nat → Prop} {d n H : Nat} (k : Nd e F d h n its H) : kc h n ∈ ksNode := (Nd_k k).1
/-- the bounds of a failure -/
theorem POut.fail {i0 a N b : Nat} {rx : Rs Nat} {rm : Rs Unit} (f : Fail e hx0 hm0 a N b rx rm) (ha : a ≤ 60 * (e.TS.length - i0)) (hN : N ≤ IT0.length + 3 * (e.TS.length - i0)) (hb : b ≤ 60 * (e.TS.length - i0)) : POut e hx0 hm0 i0 TY0 QU0 IT0 rx rm := .inr (f.le ha hN hb)
theorem MF_bdk {α β : Type} {p N N2 b : Nat} {r : Rs α} {K : α → HP → Rs β} (m : MF e h p N a r) (hk : ∀ v h', MS e a h h' → PN e h' p N → MF e h' p N2 b (K v h')) : MF e h p N2 (a + b) (bd r K) := by
  rcases m with ⟨h', a1, b1, c⟩ | ⟨v, h', a1, b1, c⟩
  · exact .inl ⟨h', by rw [a1]; rfl, b1.le (by omega), c⟩
  · rw [a1]; exact (hk v h' b1 c).pre b1
theorem Fail_bdk {α β γ δ : Type} {N N2 b c : Nat} {rx : Rs α} {rm : Rs β} {K1 : α → HP → Rs γ} {K2 : β → HP → Rs δ} (f : Fail e hx hm a N b rx rm) (hk : ∀ p v h', MS e b hm h' → PN e h' p N → MF e h' p N2 c (K2 v h')) : Fail e hx hm a N2 (b + c) (bd rx K1) (bd rm K2) := by
  obtain ⟨p, hx', e1, s1, f1, m1⟩ := f
  exact ⟨p, hx', by rw [e1]; rfl, s1, f1, MF_bdk m1 (fun v h5 s q => hk p v h5 s q)⟩
theorem PN.km {P N : Nat} (n : PN e h P N) (s : MS e a h h') : Km h h' := by
  obtain ⟨j, IT, TY, QU, z, _⟩ := n; exact z.km s
theorem PN.w {P N : Nat} (n : PN e h P N) : WG h := by
  obtain ⟨j, IT, TY, QU, z, _⟩ := n; exact z.1
theorem Sq.typ {n m : Nat} {hx1 hm1 : HP} {T : Ty} (S : Sq e hx0 hm0 TY0 QU0 IT0 X Y hx hm i ty qu its) (k : TOk e hx hm i (TY0 ++ ty) (QU0 ++ qu) (IT0 ++ its) n m hx1 hm1 j T) :
    i < j ∧ Sq e hx0 hm0 TY0 QU0 IT0 (X + 50 * (j - i)) (Y + 50 * (j - i)) hx1 hm1 j (ty ++ [T]) qu its ∧ Kp e hx hx1 ∧ Km hm hm1 ∧ TyX hx1 n T ∧ n ∈ ls hx1 e.tl ∧ TyM hm1 m T := by
  obtain ⟨s1, s2, p, q⟩ := S
  obtain ⟨k1, k2, k3, k4, k5, k6, k7, k8, _⟩ := k
  exact ⟨k1, ⟨s1.trans k2, s2.trans k3, by rw [← List.append_assoc]; exact k4, by rw [← List.append_assoc]; exact k5⟩, XS.kp p k2, q.km k3, k6, k7, k8⟩
