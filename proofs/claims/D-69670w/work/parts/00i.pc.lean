/-! PHASE B parser 12: calls -/
set_option maxRecDepth 100000
variable {e : EE} {hx hm h h' : HP} {i j a : Nat} {IT : List It} {TY : List Ty} {QU : List (List Nat)}
theorem over_l {R : TY_S4} {l p : Nat} {L : List (List It × Nat)} {F : Nat → Prop} {dd : Nat} (N : Nat) : ∀ (h : HP) (k Hc : Nat), WG h → L.length - k < N → k ≤ L.length → L.length ≤ 300 → lsK h l → kc h p = 20 → A2 (fun a q => kc h a ∈ ksNode ∧ fi h 184 a = nI q.2 ∧ a ≠ p ∧ q.2 ≤ 1000) (ls h l) L → fi h 184 p = nI Hc → Hc ≤ 1001 →
    ∃ h', f_X10_call_l113 R l p N (nI k) h = rok () h' ∧ St [] [p] 0 h h' ∧ kc h' = kc h ∧ fr h' = fr h ∧ ls h' = ls h ∧ cp h' = cp h ∧ (∀ f, f ≠ 184 → fi h' f p = fi h f p) ∧ fi h' 184 p = nI (hMax (L.drop k) Hc) := by
  induction N with
  | zero => intro h k Hc _ h1; omega
  | succ N ih =>
    intro h k Hc w h1 h2 h3 kl kp A fp hH
    have hlen := A.len
    rw [f_X10_call_l113_s]
    unfold b_X10_call_l113
    rw [lsSize_e kl, hlen]
    by_cases g : L.length ≤ k
    · rw [if_pos ((nI_leI (by omega) (by omega)).mpr g), List.drop_eq_nil_of_le g]
      exact ⟨h, rfl, St.refl w _ _, rfl, rfl, rfl, rfl, fun _ _ => rfl, fp⟩
    · have hk : k < (ls h l).length := by omega
      have hk2 : k < L.length := by omega
      obtain ⟨x1, x2, x3, x4⟩ := A.get hk hk2
      have kpm : kc h p ∈ ksNode := by rw [kp]; decide
      rw [if_neg (fun z => g ((nI_leI (by omega) (by omega)).mp z)), lsGet_e ⟨kl, inA_nI hk (by omega)⟩, nI_clamp (by omega), gD_in hk, castR_e (.inr x1), if_pos (show kc h p ∈ [16, 17, 18, 19, 20, 21, 22, 23, 24, 25, 27, 28, 29] from kpm), over_e kpm x1 fp x2 (by omega) (by omega)]
      simp only [lt3, nI_1]
      have s1 : St [] [p] 0 h (sI h 184 p (nI (max Hc (L[k].2 + 1)))) := (St.refl w [] [p]).sI kp (by decide) (.inr (.inr (by simp)))
      obtain ⟨h', e1, e2, e3, e4, e5, e6, e7, e8⟩ := ih (sI h 184 p (nI (max Hc (L[k].2 + 1)))) (k + 1) (max Hc (L[k].2 + 1)) s1.1 (by omega) (by omega) h3 kl kp (A.imp fun a _ b z => ⟨z.1, by rw [fi_sI, if_neg (fun y => z.2.2.1 y.2)]; exact z.2.1, z.2.2⟩) (by rw [fi_sI, if_pos ⟨rfl, rfl⟩]) (by omega)
      refine ⟨h', e1, (s1.trans e2).le (by omega), e3, e4, e5, e6, fun f hf => (e7 f hf).trans (by rw [fi_sI, if_neg (fun y => hf y.1)]), ?_⟩
      rw [e8, List.drop_eq_getElem_cons hk2]; rfl
/-- what a call comes to, whatever the twin does behind its item -/
def COut (e : EE) (hx0 hm0 : HP) (i0 ib : Nat) (TY0 : List Ty) (QU0 : List (List Nat)) (IT0 : List It) (rx : Rs Nat) (M : (HP → Rs Unit) → Rs Unit) : Prop :=
  (∃ n hx' hm' j ty qu its H d, rx = rok n hx' ∧ (∀ K, M K = K hm') ∧ ib < j ∧ POk e hx0 hm0 i0 TY0 QU0 IT0 n hx' hm' j ty qu its H d) ∨
  (∃ p hx', rx = rex hx' ∧ XS e (60 * (e.TS.length - i0)) hx0 hx' ∧ StopX e hx' p ∧ ∀ K N2 b, (∀ h', PN e h' p (IT0.length + 3 * (e.TS.length - i0)) → MF e h' p N2 b (K h')) → MF e hm0 p N2 (60 * (e.TS.length - i0) + b) (M K))
/-- the twin's item of a call -/
noncomputable def cItm (e : EE) (at' s : Nat) (bit : Int64) (K : HP → Rs Unit) (cnt : Int32) (h : HP) : Rs Unit := if kc h e.Q = 46 then bd (f_X48_item e.Q (7 : Int32) (nI at') s bit cnt 0 h) (fun _ h2 => K h2) else none
theorem nI_sur (v : Int32) : ∃ k, v = nI k := by
  refine ⟨v.toBitVec.toNat, ?_⟩
  apply Int32.toBitVec_inj.mp
  show v.toBitVec = BitVec.ofNat 32 v.toBitVec.toNat
  rw [BitVec.ofNat_toNat, BitVec.setWidth_eq]
theorem COut.pre {hx0 hm0 hx1 hm1 : HP} {i0 ib i1 x y : Nat} {TY0 TY1 : List Ty} {QU0 QU1 : List (List Nat)} {IT0 IT1 : List It} {α : Type} {rx : Rs Nat} {ra : Rs α} {rb : Rs Int32} {M : (HP → Rs Unit) → Rs Unit} {at' s N c : Nat} {bit : Int64} {w : List Nat}
    (sx : XS e x hx0 hx1) (sm : MS e y hm0 hm1) (q1 : PM e hm1 i1 IT1 TY1 QU1) (hw : StrX hm1 s w) (f : Fail e hx1 hm1 a N c ra rb) (hrx : ∀ h', ra = rex h' → rx = rex h') (hM : ∀ K, M K = bd rb (cItm e at' s bit K))
    (c1 : x + a ≤ 60 * (e.TS.length - i0)) (c2 : y + c + 22 ≤ 60 * (e.TS.length - i0)) (c3 : N + 1 ≤ IT0.length + 3 * (e.TS.length - i0)) (c4 : N ≤ 900 ∧ e.il ≠ 0) : COut e hx0 hm0 i0 ib TY0 QU0 IT0 rx M := by
  obtain ⟨p, hx', e1, s1, f1, m1⟩ := f
  refine .inr ⟨p, hx', hrx _ e1, (sx.trans s1).le c1, f1, fun K N2 b hK => ?_⟩
  rw [hM]
  rcases m1 with ⟨h5, g1, g2, g3⟩ | ⟨v, h5, g1, g2, g3⟩
  · exact .inl ⟨h5, by rw [g1]; rfl, (sm.trans g2).le (by omega), g3⟩
  · obtain ⟨k, rfl⟩ := nI_sur v
    have hw5 := StrX_fr (q1.fr0 g2) hw (by decide)
    rw [g1, bd_ok]
    unfold cItm
    refine ((MF.pre (sm.trans g2) (v46 g3 (vItm g3 c4 hw5 (o := none) rfl (N2 := N2) (b := b) fun h6 n6 => hK h6 ?_)))).le (Nat.le_refl _) (by omega)
    obtain ⟨j1, IT1, TY1, QU1, z1, z2, z3, z4⟩ := n6
    exact ⟨j1, IT1, TY1, QU1, z1, z2, z3, by omega⟩
/-- behind a failure before the arguments -/
theorem COut.fail {hx0 hm0 hx1 hm1 : HP} {i0 ib x y : Nat} {TY0 : List Ty} {QU0 : List (List Nat)} {IT0 : List It} {rx : Rs Nat} {M : (HP → Rs Unit) → Rs Unit} {p : Nat} {hx' hm' : HP}
    (sx : XS e x hx0 hx1) (sm : MS e y hm0 hm1) (e1 : rx = rex hx') (s1 : XS e 20 hx1 hx') (f1 : StopX e hx' p) (hM : ∀ K, M K = rex hm') (s2 : MS e 1 hm1 hm') (f2 : StopM e hm' p)
    (c1 : x + 20 ≤ 60 * (e.TS.length - i0)) (c2 : y + 1 ≤ 60 * (e.TS.length - i0)) : COut e hx0 hm0 i0 ib TY0 QU0 IT0 rx M :=
  .inr ⟨p, hx', e1, (sx.trans s1).le c1, f1, fun K N2 b hK => .inl ⟨hm', hM K, (sm.trans s2).le (by omega), f2⟩⟩
/-- a call's node -/
theorem call_nd {hx0 hxB hx1 : HP} {l f s d at' bit : Nat} {w : List Nat} {L : List (List It × Nat)} {itA : List It} {dA HA : Nat} (p : PX e hx1 j TY QU) (hb : ∀ q, Nw hxB q → Nw hx0 q) (he : ∀ q, Nw hx1 q → Nw hxB q) (hl0 : Nw hx0 l) (kl : kc hx1 l = 107) (cl : cp hx1 l ≠ RAW) (AL : AsL e hxB hx1 l d L) (hL : L.length ≤ 300) (hs : StrX hx1 s w)
    (hP : ∀ p ∈ L, p.2 ≤ 900) (of : (f = 0 ∧ itA = [] ∧ bit = 0) ∨ (f ≠ 0 ∧ Nd e (fun q => Nw hx0 q ∧ kc hxB q ≠ 0) dA hx1 f itA HA ∧ bit = 1 ∧ HA ≤ 900)) {R : TY_S4} :
    ∃ n hx2, (∀ {β : Type} {K : Nat → HP → Rs β}, nwO 20 8 hx1 (fun p5 h6 => if kc h6 p5 = 20 then bd (f_X20_init p5 (nI at') f s l h6) (fun _ h7 => if f = 0 then bd (f_X10_call_b110 R l p5 h7) K else (if kc h7 p5 ∈ [16, 17, 18, 19, 20, 21, 22, 23, 24, 25, 27, 28, 29] then bd (f_X15_over p5 f h7) (fun x8 h9 => bd (f_X10_call_b110 R l p5 h9) K) else none)) else none) = K n hx2) ∧ St [] [] 1 hx1 hx2 ∧
      Nd e (Nw hx0) (max d dA + 1) hx2 n (itA ++ flat L ++ [(7, at', w, Int64.ofNat bit, L.length, none)]) (hMax L (if f = 0 then 1 else HA + 1)) := by
  obtain ⟨h2, e2, s2, k1, g1, g2, g3, v0, v1, v2, v3, v4⟩ := xk_cal p.1 (pl := nI at') (f := f) (s := s) (l := l)
  obtain ⟨B, hB, hN, A⟩ := AL
  have hnew : kc hx1 (nx hx1) = 0 := p.1.new
  have F2 : Fr (fun _ => true) hx1 h2 := s2.fr (by simp) (by simp)
  have El := F2.at kl (by decide) rfl
  have ndm : ∀ {G : Nat → Prop} {d n its H}, Nd e G d hx1 n its H → Nd e G d h2 n its H := fun z => XS.nd p (XS.new p s2) z
  have ne : ∀ {G : Nat → Prop} {d n its H}, Nd e G d hx1 n its H → n ≠ nx hx1 := fun z => by
    have := (Nd_k z).1
    exact p.1.ne rfl (fun y => by rw [y] at this; exact absurd this (by decide))
  have kpm : kc h2 (nx hx1) ∈ ksNode := by rw [k1]; decide
  -- what the height is behind the thing in front
  obtain ⟨h3, Hc, o1, o2, o3, o4, o5, o6, o7, o8, o9, o10⟩ : ∃ h3 Hc, (∀ {β : Type} {K : HP → Rs β}, (if f = 0 then K h2 else (if kc h2 (nx hx1) ∈ [16, 17, 18, 19, 20, 21, 22, 23, 24, 25, 27, 28, 29] then bd (f_X15_over (nx hx1) f h2) (fun x8 h9 => K h9) else none)) = K h3) ∧ St [] [nx hx1] 0 h2 h3 ∧ kc h3 = kc h2 ∧ fr h3 = fr h2 ∧ ls h3 = ls h2 ∧ cp h3 = cp h2 ∧ (∀ f, f ≠ 184 → fi h3 f (nx hx1) = fi h2 f (nx hx1)) ∧ fi h3 184 (nx hx1) = nI Hc ∧ Hc = (if f = 0 then 1 else HA + 1) ∧ (∀ g q, q ≠ nx hx1 → fi h3 g q = fi h2 g q) := by
    rcases of with ⟨a1, a2, a3⟩ | ⟨a1, a2, a3, a4⟩
    · exact ⟨h2, 1, fun {β K} => by rw [if_pos a1], St.refl s2.1 _ _, rfl, rfl, rfl, rfl, fun _ _ => rfl, g3, by rw [if_pos a1], fun _ _ _ => rfl⟩
    · obtain ⟨x1, x2, x3⟩ := Nd_k (ndm a2)
      refine ⟨sI h2 184 (nx hx1) (nI (max 1 (HA + 1))), HA + 1, fun {β K} => ?_, (St.refl s2.1 [] [nx hx1]).sI k1 (by decide) (.inr (.inr (by simp))), rfl, rfl, rfl, rfl, fun g hg => by rw [fi_sI, if_neg (fun y => hg y.1)], by rw [fi_sI, if_pos ⟨rfl, rfl⟩, Nat.max_eq_right (by omega)], by rw [if_neg a1], fun g q hq => by rw [fi_sI, if_neg (fun y => hq y.2)]⟩
      rw [if_neg a1, if_pos (show kc h2 (nx hx1) ∈ [16, 17, 18, 19, 20, 21, 22, 23, 24, 25, 27, 28, 29] from kpm), over_e kpm x1 g3 x2 (by omega) (by omega)]
  have lK3 : lsK h3 l := ⟨by rw [o3, El.1]; decide, by rw [o3, El.1]; decide, by rw [o6, El.2.2.2.2.2.2.2.2.2.2]; exact cl⟩
  have A3 : A2 (fun a q => kc h3 a ∈ ksNode ∧ fi h3 184 a = nI q.2 ∧ a ≠ nx hx1 ∧ q.2 ≤ 1000) (ls h3 l) L := by
    rw [o5, El.2.2.2.2.2.2.2.2.1]
    refine A.imp fun a ha b z => ?_
    obtain ⟨x1, x2, x3⟩ := Nd_k (ndm z)
    exact ⟨by rw [o3]; exact x1, by rw [o10 184 a (ne z)]; exact x2, ne z, x3⟩
  have hHc : Hc ≤ 1001 := by
    rw [o9]
    rcases of with ⟨a1, _⟩ | ⟨a1, _, _, a4⟩
    · rw [if_pos a1]; omega
    · rw [if_neg a1]; omega
  obtain ⟨h4, r1, r2, r3, r4, r5, r6, r7, r8⟩ := over_l (R := R) (F := fun _ => True) (dd := d) NN h3 0 Hc o2.1 (by have := NN_ge (k := 400) (by omega); omega) (Nat.zero_le _) hL lK3 (by rw [o3]; exact k1) A3 o8 hHc
  have s24 : St [] [nx hx1] (0 + 0) h2 h4 := o2.trans r2
  have s14 : St [] [] (1 + (0 + 0)) hx1 h4 := s2.cat s24 (fun _ z => z) (fun x hx => .inr (.inl (by rw [List.mem_singleton.mp hx]; exact hnew)))
  have ndm4 : ∀ {G : Nat → Prop} {d n its H}, Nd e G d hx1 n its H → Nd e G d h4 n its H := fun z => XS.nd p (XS.new p s14) z
  refine ⟨nx hx1, h4, fun {β K} => ?_, s14.le (by omega), ?_⟩
  · rw [show (nwO 20 8 hx1 (fun p5 h6 => if kc h6 p5 = 20 then bd (f_X20_init p5 (nI at') f s l h6) (fun _ h7 => if f = 0 then bd (f_X10_call_b110 R l p5 h7) K else (if kc h7 p5 ∈ [16, 17, 18, 19, 20, 21, 22, 23, 24, 25, 27, 28, 29] then bd (f_X15_over p5 f h7) (fun x8 h9 => bd (f_X10_call_b110 R l p5 h9) K) else none)) else none)) = (if f = 0 then bd (f_X10_call_b110 R l (nx hx1) h2) K else (if kc h2 (nx hx1) ∈ [16, 17, 18, 19, 20, 21, 22, 23, 24, 25, 27, 28, 29] then bd (f_X15_over (nx hx1) f h2) (fun x8 h9 => bd (f_X10_call_b110 R l (nx hx1) h9) K) else none)) from e2 β (fun p5 h7 => if f = 0 then bd (f_X10_call_b110 R l p5 h7) K else (if kc h7 p5 ∈ [16, 17, 18, 19, 20, 21, 22, 23, 24, 25, 27, 28, 29] then bd (f_X15_over p5 f h7) (fun x8 h9 => bd (f_X10_call_b110 R l p5 h9) K) else none)), o1 (K := fun h9 => bd (f_X10_call_b110 R l (nx hx1) h9) K)]
    unfold f_X10_call_b110
    rw [show (0 : Int32) = nI 0 from rfl, r1, bd_ok, bd_ok]
  · have hHle : hMax L (if f = 0 then 1 else HA + 1) ≤ 1000 := by
      refine hMax_le (fun q hq => by have := hP q hq; omega) ?_
      rcases of with ⟨a1, _⟩ | ⟨a1, _, _, a4⟩
      · rw [if_pos a1]; omega
      · rw [if_neg a1]; omega
    refine .inr ⟨at', (r7 182 (by decide)).trans ((o7 182 (by decide)).trans g1), by rw [r4, o4]; exact g2, by rw [r8, List.drop_zero, o9], hHle, hb _ (he _ ⟨hnew, Nat.le_refl _⟩), ?_⟩
    refine .inr (.inr (.inr (.inr (.inr (.inr (.inl ⟨by rw [r3, o3]; exact k1, ?_, by rw [r4, o4]; exact v3, (r7 195 (by decide)).trans ((o7 195 (by decide)).trans v4), ?_, ?_, w, L, fun a q => (a = f ∧ kc hxB q ≠ 0) ∨ (a ≠ f ∧ B a q ∧ kc hxB q = 0 ∧ kc hx1 q ≠ 0), ?_, ⟨⟨?_, ?_⟩, ?_⟩, hL, ?_⟩))))))
    · rw [r4, o4, v2]; exact hl0
    · rw [r4, o4, v2, r3, o3]; exact El.1
    · rw [r4, o4, v2, r6, o6, El.2.2.2.2.2.2.2.2.2.2]; exact cl
    · rw [r4, o4, v1]
      have := StrX_fr F2 hs rfl
      have F4 : Fr (fun _ => true) hx1 h4 := s14.fr (by simp) (by simp)
      exact StrX_fr F4 hs rfl
    · rintro a b q (⟨u1, u2⟩ | ⟨u1, u2, u3, _⟩) (⟨v1', v2'⟩ | ⟨v1', v2', v3', _⟩)
      · rw [u1, v1']
      · exact absurd v3' u2
      · exact absurd u3 v2'
      · exact hB a b q u2 v2'
    · rintro c (⟨u1, u2⟩ | ⟨u1, u2, u3, u4⟩)
      · exact u2 (he _ ⟨hnew, Nat.le_refl _⟩).1
      · exact u4 hnew
    · rw [r4, o4, v2, r5, o5, El.2.2.2.2.2.2.2.2.1]
      refine ⟨hN, A.imp fun a _ b z => Nd_le (Nat.le_max_left _ _) (ndm4 (Nd_F' (fun q y y0 => ⟨hb _ y.1.1, .inr ⟨?_, y.2, y.1.1.1, y0⟩⟩) z))⟩
      intro w'
      have z1 := (Nd_at z).1.1.1
      rcases of with ⟨a1, _⟩ | ⟨a1, a2, _⟩
      · have z2 := (Nd_k z).1
        rw [w', a1, (p.1.2.2 0 (by omega)).1] at z2; exact absurd z2 (by decide)
      · rw [w'] at z1; exact (Nd_at a2).2 z1
    · rw [r4, o4, v0]
      rcases of with ⟨a1, a2, a3⟩ | ⟨a1, a2, a3, a4⟩
      · rw [if_pos a1]; exact .inl ⟨a1, rfl, by rw [a2, a3]; rfl⟩
      · rw [if_neg a1]
        refine .inr ⟨a1, ?_, itA, HA, Nd_le (Nat.le_max_right _ _) (ndm4 (Nd_F (fun q y => ⟨y.1, .inl ⟨rfl, y.2⟩⟩) a2)), rfl, by rw [a3]; rfl⟩
        rw [v2, r5, o5, El.2.2.2.2.2.2.2.2.1]
        intro hm
        obtain ⟨_, _, z⟩ := A.mem _ hm
        exact (Nd_at a2).2 (Nd_at z).1.1.1
