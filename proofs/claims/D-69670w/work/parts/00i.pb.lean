/-! PHASE B parser 11: arguments -/
set_option maxRecDepth 100000
variable {e : EE} {hx hm h h' : HP} {i j a : Nat} {IT : List It} {TY : List Ty} {QU : List (List Nat)}
theorem flat_snoc (L : List (List It × Nat)) (p : List It × Nat) : flat (L ++ [p]) = flat L ++ p.1 := by unfold flat; simp
theorem hMax_snoc (L : List (List It × Nat)) (p : List It × Nat) (m : Nat) : hMax (L ++ [p]) m = max (hMax L m) (p.2 + 1) := by unfold hMax; rw [List.foldl_append]; rfl
theorem hMax_le {L : List (List It × Nat)} {m k : Nat} (h : ∀ p ∈ L, p.2 + 1 ≤ k) (hm : m ≤ k) : hMax L m ≤ k := by
  unfold hMax
  induction L generalizing m with
  | nil => exact hm
  | cons p L ih =>
    rw [List.foldl_cons]
    exact ih (fun q hq => h q (List.mem_cons_of_mem _ hq)) (Nat.max_le.mpr ⟨hm, h p (List.mem_cons_self ..)⟩)
theorem ksNode_ob {k : Nat} (hk : k ∈ ksNode) : obK k = true := by
  have : ∀ k ∈ ksNode, obK k = true := by decide
  exact this k hk
/-- arguments' trees, each with places of its own -/
def AsL (e : EE) (hx0 hx : HP) (l dd : Nat) (L : List (List It × Nat)) : Prop := ∃ B, Dj B ∧ (ls hx l).Nodup ∧ A2 (fun a p => Nd e (fun q => (Nw hx0 q ∧ q ≠ l) ∧ B a q) dd hx a p.1 p.2) (ls hx l) L
theorem AsL.nil {hx0 hx : HP} {l dd : Nat} (hl : ls hx l = []) : AsL e hx0 hx l dd [] := ⟨fun _ _ => False, fun _ _ _ z => z.elim, by rw [hl]; exact List.nodup_nil, by rw [hl]; exact True.intro⟩
theorem AsL.mv {hx0 hx' : HP} {l dd : Nat} {L : List (List It × Nat)} (x : AsL e hx0 hx l dd L) (hl : ls hx' l = ls hx l) (hm : ∀ {F : Nat → Prop} {d n : Nat} {its : List It} {H : Nat}, Nd e F d hx n its H → Nd e F d hx' n its H) : AsL e hx0 hx' l dd L := by
  obtain ⟨B, b1, b2, b3⟩ := x
  exact ⟨B, b1, by rw [hl]; exact b2, by rw [hl]; exact b3.imp fun a _ b z => hm z⟩
/-- arguments so far -/
def AS (e : EE) (hx0 hm0 : HP) (i0 : Nat) (TY0 : List Ty) (QU0 : List (List Nat)) (IT0 : List It) (c : Nat) (hx hm : HP) (i : Nat) (ty : List Ty) (qu : List (List Nat)) (L : List (List It × Nat)) (l dd : Nat) : Prop :=
  i0 ≤ i ∧ XS e (60 * (i - i0) + c) hx0 hx ∧ MS e (60 * (i - i0)) hm0 hm ∧ PX e hx i (TY0 ++ ty) (QU0 ++ qu) ∧ PM e hm i (IT0 ++ flat L) (TY0 ++ ty) (QU0 ++ qu) ∧
  (kc hx l = 107 ∧ cp hx l ≠ RAW ∧ kc hx0 l = 0) ∧ AsL e hx0 hx l dd L ∧ L.length ≤ i - i0 ∧ (flat L).length ≤ 2 * (i - i0) ∧ ∀ p ∈ L, p.2 ≤ i - i0
theorem kc_back {K X : List Nat} {a p : Nat} {h h1 : HP} (s : St K X a h h1) (hp : kc h1 p = 0) : kc h p = 0 := Classical.byContradiction fun z => z ((s.2.2.2.2 p z).1.symm.trans hp)
theorem AS.add {hx0 hm0 hx1 hm1 : HP} {i0 l dd x d H c : Nat} {TY0 : List Ty} {QU0 : List (List Nat)} {IT0 its : List It} {ty ty1 : List Ty} {qu qu1 : List (List Nat)} {L : List (List It × Nat)} (A : AS e hx0 hm0 i0 TY0 QU0 IT0 c hx hm i ty qu L l dd) (k : POk e hx hm i (TY0 ++ ty) (QU0 ++ qu) (IT0 ++ flat L) x hx1 hm1 j ty1 qu1 its H d) :
    (∀ {β : Type} {K : HP → Rs β}, lsAdd l x hx1 K = K (lad hx1 l x)) ∧ i0 < j ∧ AS e hx0 hm0 i0 TY0 QU0 IT0 (c + 7) (lad hx1 l x) hm1 j (ty ++ ty1) (qu ++ qu1) (L ++ [(its, H)]) l (dd + d) := by
  obtain ⟨a1, a2, a3, a4, a5, ⟨b1, b2, b3⟩, ⟨B, hB, hN, a6⟩, a7, a8, a9⟩ := A
  obtain ⟨k1, k2, k3, k4, k5, k6, k7, k8, _⟩ := k
  have h3 := a5.jj.2.2.2
  have hj := k5.jj.1
  -- the list at the end of the argument
  have E1 := (a4.fr0 k2.1).at b1 (by decide) (by decide)
  have l1 : ls hx1 l = ls hx l := E1.2.2.2.2.2.2.2.2.1
  have kl1 : kc hx1 l = 107 := E1.1
  have cl1 : cp hx1 l ≠ RAW := by rw [E1.2.2.2.2.2.2.2.2.2.2]; exact b2
  have K1 : lsK hx1 l := ⟨by rw [kl1]; decide, by rw [kl1]; decide, cl1⟩
  have len1 : (ls hx1 l).length ≤ 300 := by rw [l1, a6.len]; omega
  have kx := (Nd_k k6).1
  have s1 := a2.trans k2
  have s2 : St [] e.xx (60 * (i - i0) + c + 60 * (j - i) + 7) hx0 (lad hx1 l x) := s1.1.ladd kl1 (by decide) (.inl b3) (by omega) (by omega)
  have nt : e.tl ≠ l := fun z => by have := k4.2.1.2.2.2.2.2.2.1; rw [z, kl1] at this; omega
  have nq : e.ql ≠ l := fun z => by have := k4.2.1.2.2.2.2.2.2.2.1; rw [z, kl1] at this; omega
  have et : ls (lad hx1 l x) e.tl = ls hx1 e.tl := by unfold lad; rw [ls_sLc, if_neg nt]
  have eq' : ls (lad hx1 l x) e.ql = ls hx1 e.ql := by unfold lad; rw [ls_sLc, if_neg nq]
  have S2 : XS e (60 * (i - i0) + c + 60 * (j - i) + 7) hx0 (lad hx1 l x) := ⟨s2, fun y hy => by rw [et]; exact s1.2.1 y hy, fun y hy => by rw [eq']; exact s1.2.2 y hy⟩
  have sl : St [] [l] (0 + 7) hx1 (lad hx1 l x) := (St.refl k4.1 [] [l]).ladd kl1 (by decide) (.inr (.inr (by simp))) (by omega) (by omega)
  have F : Fr (fun k => decide (k ≠ 107)) hx1 (lad hx1 l x) := sl.fr (by simp) (fun y hy => .inr (by rw [List.mem_singleton.mp hy, kl1]; decide))
  have mono : ∀ {G : Nat → Prop} {n its H dd}, (∀ q, G q → q ≠ l) → Nd e G dd hx1 n its H → Nd e G dd (lad hx1 l x) n its H := fun hG z => by
    refine Nd_fr F (fun q hF hq => ?_) (fun k hk => ?_) (fun y hy => by rw [eq']; exact hy) (fun y hy => by rw [et]; exact hy) z
    · exact ⟨hq, by unfold lad; rw [ls_sLc, if_neg (hG q hF)], by unfold lad; rw [cp_sLc, if_neg (hG q hF)]⟩
    · have := of_decide_eq_true (show decide ((16 ≤ k ∧ k ≤ 29) ∨ k = 14 ∨ k = 71) = true from hk)
      exact decide_eq_true (by omega)
  have KK := lad_K (v := x) K1 (by omega)
  refine ⟨lsAdd_e K1 (.inr (.inr (.inr (ksNode_ob kx)))) (by omega), by omega, by omega, S2.le (by omega), (a3.trans k3).le (by omega), ?_, ?_, ⟨kl1, KK.2.2, b3⟩, ?_, by rw [List.length_append, List.length_singleton]; omega, by rw [flat_snoc, List.length_append]; show (flat L).length + its.length ≤ _; omega, ?_⟩
  · rw [← List.append_assoc, ← List.append_assoc]; exact k4.f107 s2.1 F
  · rw [flat_snoc, ← List.append_assoc, ← List.append_assoc, ← List.append_assoc]; exact k5
  · have old : ∀ a ∈ ls hx l, kc hx a ≠ 0 := fun a ha => by
      obtain ⟨_, _, z⟩ := a6.mem a ha
      have z := (Nd_k z).1
      intro y; rw [y] at z; exact absurd z (by decide)
    have x0 : kc hx x = 0 := (Nd_at k6).1
    refine ⟨fun a q => (a ≠ x ∧ B a q ∧ kc hx q ≠ 0) ∨ (a = x ∧ kc hx q = 0), ?_, ?_, ?_⟩
    · rintro a b q (⟨u1, u2, u3⟩ | ⟨u1, u2⟩) (⟨v1, v2, v3⟩ | ⟨v1, v2⟩)
      · exact hB a b q u2 v2
      · exact absurd v2 u3
      · exact absurd u2 v3
      · rw [u1, v1]
    · rw [lad_ls, l1]
      refine List.nodup_append.mpr ⟨hN, by simp, fun a ha b hb y => ?_⟩
      rw [List.mem_singleton.mp hb] at y; rw [y] at ha; exact old x ha x0
    · rw [lad_ls, l1]
      refine (a6.imp fun a ha b z => ?_).app (A2.one (mono (fun q y => y.1.2) (Nd_le (by omega) (Nd_F (fun q hq => ⟨⟨a2.1.nwb hq, fun z => ?_⟩, .inr ⟨rfl, hq.1⟩⟩) k6))))
      · exact mono (fun q y => y.1.2) (Nd_le (by omega) (XS.nd a4 k2 (Nd_F' (fun q y y0 => ⟨y.1, .inl ⟨fun w => old a ha (by rw [w]; exact x0), y.2, y0⟩⟩) z)))
      · have := hq.1; rw [z, b1] at this; omega
  · intro p hp
    rcases List.mem_append.mp hp with z | z
    · have := a9 p z; omega
    · rw [List.mem_singleton.mp z]; show H ≤ j - i0; omega
/-- the row of arguments -/
theorem args_l {hx0 hm0 : HP} {i0 l d n m : Nat} {TY0 : List Ty} {QU0 : List (List Nat)} {IT0 : List It} (hd : d < 30) (hE : GE e (d + 1)) (hn : nE (d + 1) ≤ n) (hm' : nE (d + 1) ≤ m) (hI : IT0.length ≤ 3 * i0 ∧ e.il ≠ 0) (v1 : Int32) (v2 v3 : Nat) (N : Nat) :
    ∀ (hx hm : HP) (i : Nat) (ty : List Ty) (qu : List (List Nat)) (L : List (List It × Nat)) (dd NX NM : Nat), N < NX → N ≤ NM → e.TS.length - i < N → AS e hx0 hm0 i0 TY0 QU0 IT0 5 hx hm i ty qu L l dd →
    (∃ hx' hm2 j ty' qu' L' dd', f_X10_call_l44 (r_S4 n) e.P v1 v2 v3 (nI (d + 1)) l NX 1 hx = rok () hx' ∧ f_X48_arguments_l27 (r_S7 m) e.Q (nI (d + 1)) NM (nI L.length) hm = rok (nI L'.length) hm2 ∧ i < j ∧ AS e hx0 hm0 i0 TY0 QU0 IT0 12 hx' hm2 j ty' qu' L' l dd') ∨
    Fail e hx0 hm0 (60 * (e.TS.length - i0) + 5) (IT0.length + 3 * (e.TS.length - i0)) (60 * (e.TS.length - i0)) (f_X10_call_l44 (r_S4 n) e.P v1 v2 v3 (nI (d + 1)) l NX 1 hx) (f_X48_arguments_l27 (r_S7 m) e.Q (nI (d + 1)) NM (nI L.length) hm) := by
  induction N with
  | zero => intro hx hm i ty qu L dd NX NM _ _ h1; omega
  | succ N ih =>
    intro hx hm i ty qu L dd NX NM hNX hNM h1 A
    obtain ⟨NX, rfl⟩ : ∃ k, NX = k + 1 := ⟨NX - 1, by omega⟩
    obtain ⟨NM, rfl⟩ : ∃ k, NM = k + 1 := ⟨NM - 1, by omega⟩
    have A' := A
    obtain ⟨a1, a2, a3, a4, a5, a6, a7, a8, a9, a10⟩ := A
    have hi := a5.jj.1
    have h3 := a5.jj.2.2.2
    have g3 : nE (d + 1) = 16 * (30 - d) + 4 := by unfold nE; omega
    rw [f_X10_call_l44_s, f_X48_arguments_l27_s]
    unfold b_X10_call_l44 b_X48_arguments_l27
    rw [if_neg z10, xP_e a4, m46_e a5]
    rcases hE n m hx hm i _ _ _ hn hm' a4 a5 (by rw [List.length_append]; omega) with ⟨x, hx1, hm1, j, ty1, qu1, its, H, dx, e1, e2, k⟩ | f
    · obtain ⟨add, hj0, B⟩ := A'.add k
      have B' := B
      obtain ⟨b1, b2, b3, b4, b5, b6, b7, b8, b9, b10⟩ := B
      have hj := b5.jj.1
      have hij := k.1
      rw [e1, e2, bd_ok, bd_ok, add, xt_e b4, x10_e b4]
      simp only [lt3, nI_1]
      have hw : codes (cStr.getD (13 - 1) "") ∈ SW := by decide
      have hlen : (L ++ [(its, H)]).length = L.length + 1 := by simp
      rw [m46_e b5, mgone_e b5 (by decide) (by decide) rfl]
      by_cases c : isX (tk e.TS j) (codes (cStr.getD (13 - 1) ""))
      · have c2 := (isX_S b4.V hw).mp c
        have g : tkGo (tk e.TS j) := ⟨by have := c2.1; omega, by have := c2.1; omega⟩
        rw [xaccY b4 (by decide) (by decide) rfl c, if_pos c2, if_neg z10]
        rcases adv b4 b5 g with ⟨hx2, e3, s3, p3, q3, t3⟩ | ⟨hx2, P, e3, s3, f3, n3, t3⟩
        · have A3 : AS e hx0 hm0 i0 TY0 QU0 IT0 5 hx2 (fwd e hm1 j) (j + 1) (ty ++ ty1) (qu ++ qu1) (L ++ [(its, H)]) l (dd + dx) := by
            have E3 := (b4.fr0 s3.1).at b6.1 (by decide) (by decide)
            refine ⟨by omega, (b2.trans s3).le (by omega), (b3.trans t3).le (by omega), p3, q3, ⟨E3.1, by rw [E3.2.2.2.2.2.2.2.2.2.2]; exact b6.2.1, b6.2.2⟩, ?_, by omega, by omega, fun p hp => by have := b10 p hp; omega⟩
            exact b7.mv E3.2.2.2.2.2.2.2.2.1 (fun z => XS.nd b4 s3 z)
          have hj2 := q3.jj.1
          rcases ih hx2 _ (j + 1) _ _ _ _ NX NM (by omega) (by omega) (by omega) A3 with ⟨hx4, hm4, j4, ty4, qu4, L4, d4, x1, x2, x3, x4⟩ | f4
          · rw [hlen] at x2
            exact .inl ⟨hx4, hm4, j4, ty4, qu4, L4, d4, by rw [e3]; exact x1, x2, by omega, x4⟩
          · rw [hlen] at f4
            rw [e3]
            exact .inr f4
        · rw [e3]
          have hlen9 : (IT0 ++ flat (L ++ [(its, H)])).length ≤ IT0.length + 3 * (e.TS.length - i0) := by rw [List.length_append]; omega
          refine .inr ((Fail.pre b2 b3 (Fail.adv rfl s3 f3 t3 (N := IT0.length + 3 * (e.TS.length - i0)) (b := 1) ?_)).le (by omega) (Nat.le_refl _) (by omega))
          obtain ⟨N', rfl⟩ : ∃ k, NM = k + 1 := ⟨NM - 1, by omega⟩
          rw [f_X48_arguments_l27_s]
          unfold b_X48_arguments_l27
          refine v46 n3 ?_
          obtain ⟨m', rfl⟩ : ∃ k, m = k + 15 := ⟨m - 15, by omega⟩
          refine (MF.bd (vExp (N2 := IT0.length + 3 * (e.TS.length - i0)) (m := m') (d := d + 1) n3 hlen9) fun v h5 n5 => ?_).le (Nat.le_refl _) (show 1 + 0 ≤ 1 by omega)
          simp only [lt3]
          refine v46 n5 (vG n5 (by decide) (by decide) ?_)
          rw [if_pos y00]
          exact MF.ok n5 _
      · rw [xaccN b4 (by decide) (by decide) rfl c, if_neg (fun z => c ((isX_S b4.V hw).mpr z)), if_pos y00]
        have e0 : f_X10_call_l44 (r_S4 n) e.P v1 v2 v3 (nI (d + 1)) l NX 0 (lad hx1 l x) = rok () (lad hx1 l x) := by
          obtain ⟨N', rfl⟩ : ∃ k, NX = k + 1 := ⟨NX - 1, by omega⟩
          rw [f_X10_call_l44_s]
          unfold b_X10_call_l44
          rw [if_pos y00]
        rw [e0, ← hlen]
        exact .inl ⟨_, _, j, _, _, _, _, rfl, rfl, hij, B'⟩
    · have hN : (IT0 ++ flat L).length + 3 * (e.TS.length - i) ≤ IT0.length + 3 * (e.TS.length - i0) := by rw [List.length_append]; omega
      refine .inr ((Fail.pre a2 a3 (f.bd (N2 := IT0.length + 3 * (e.TS.length - i0)) (c := 0) (fun P v h5 n5 => ?_))).le (by omega) (Nat.le_refl _) (by omega))
      simp only [lt3]
      refine v46 n5 (vG n5 (by decide) (by decide) ?_)
      rw [if_pos y00]
      exact (MF.ok n5 _).le hN (Nat.le_refl _)
