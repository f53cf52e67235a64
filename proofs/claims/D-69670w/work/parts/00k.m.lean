/-! PHASE B declarations 38: all declarations: the loop -/
set_option maxRecDepth 100000
variable {e : EE} {hx hm h h' hx0 hm0 : HP} {i j a k b b2 : Nat}
theorem rd_l {K kl DL L : Nat} (h0 : e.il = 0) (N : Nat) : ∀ (hx hm : HP) (i X Y : Nat) (ds : List DC) (TY : List Ty) (QU : List (List Nat)) (NX NM : Nat), N < NX → N < NM → e.TS.length - i < N → PX e hx i TY QU → PM e hm i [] TY QU → St [] (kl :: DL :: e.xx) X hx0 hx → St [] (L :: e.mm) Y hm0 hm → kc hx e.cl = 129 → kc hx e.P = 12 → kc hm e.nl = 168 → DsX e b hx K kl DL ds → DsM b2 hm L ds → ds.length ≤ 60 → (ds.map sz).sum + 2 * ds.length ≤ i ∧ 3 * ds.length ≤ i → b ≤ nx hx → b2 ≤ nx hm →
    (∃ hx' hm' j ds' TY' QU', rdX e.P NX hx = rok () hx' ∧ rdM e.Q L NM hm = rok () hm' ∧ i ≤ j ∧ (tk e.TS j).1 = 0 ∧ PX e hx' j TY' QU' ∧ PM e hm' j [] TY' QU' ∧ St [] (kl :: DL :: e.xx) (X + 120 * (j - i)) hx0 hx' ∧ St [] (L :: e.mm) (Y + 120 * (j - i)) hm0 hm' ∧ DsX e b hx' K kl DL ds' ∧ DsM b2 hm' L ds' ∧ ds'.length ≤ 60 ∧ (ds'.map sz).sum + 2 * ds'.length ≤ j ∧ 3 * ds'.length ≤ j) ∨
    DFx e (kl :: DL :: e.xx) (L :: e.mm) hx0 hm0 (X + 120 * (e.TS.length - i)) (Y + 120 * (e.TS.length - i)) (rdX e.P NX hx) (rdM e.Q L NM hm) := by
  induction N with
  | zero => intro hx hm i X Y ds TY QU NX NM _ _ z; omega
  | succ N ih =>
    intro hx hm i X Y ds TY QU NX NM hNX hNM hlen p q sx sm cl kP nl DX0 DM0 h60 hii hb hb2
    obtain ⟨NX, rfl⟩ : ∃ k, NX = k + 1 := ⟨NX - 1, by omega⟩
    obtain ⟨NM, rfl⟩ : ∃ k, NM = k + 1 := ⟨NM - 1, by omega⟩
    have hi := q.jj.1
    have V9 := p.V.2.2.2.2.2.2.2
    obtain ⟨v, ev, hv, hw⟩ := all_e (L := L) (ih := f_X48_all_l0 e.Q L NM) q
    have A := DX0.1
    have kDL : lsK hx DL := ⟨by rw [A.2.2.2.2.2.2.2.1]; decide, by rw [A.2.2.2.2.2.2.2.1]; decide, A.2.2.2.2.2.2.2.2.1⟩
    have lDL : (ls hx DL).length = ds.length := A.2.2.2.2.2.2.2.2.2
    have kL : lsK hm L := ⟨by rw [DM0.1]; decide, by rw [DM0.1]; decide, DM0.2.1⟩
    have eX : rdX e.P (NX + 1) hx = bd (if (tk e.TS i).1 = 0 then rok (Sum.inr ()) hx else if ds.length = 60 then rok (Sum.inl ()) hx else bd (f_X11_declaration e.P hx) (fun _ h5 => f_X11_read_l7 e.P NX h5)) (Sum.elim (fun _ => fun h4 => ldR 12 156 e.P h4 fun x5 => if kc h4 x5 = 10 then bd (f_X9_wrong x5 h4) (fun x6 h7 => if kc h7 x6 = 69 then rex h7 else none) else none) (fun _ => fun h9 => rok () h9)) := by
      unfold rdX
      rw [f_X11_read_l7_s]
      unfold b_X11_read_l7
      rw [xt12_e kP p, xknd_e p]
      by_cases z : (tk e.TS i).1 = 0
      · rw [if_pos ((nk _ (c := 0) (C := (0 : Int32)) rfl (by omega) (by omega)).mpr z), if_pos z]
      rw [if_neg (fun y => z ((nk _ (c := 0) (C := (0 : Int32)) rfl (by omega) (by omega)).mp y)), if_neg z, ldR_e kP, A.2.2.2.2.2.2.1, lsSize_e kDL, lDL]
      by_cases c : ds.length = 60
      · rw [if_pos ((nk _ (c := 60) (C := (60 : Int32)) rfl (by omega) (by omega)).mpr c), if_pos c]
      · rw [if_neg (fun y => c ((nk _ (c := 60) (C := (60 : Int32)) rfl (by omega) (by omega)).mp y)), if_neg c, if_pos kP]
    have eM : rdM e.Q L (NM + 1) hm = bd (if (tk e.TS i).1 = 0 then rok (Sum.inr ()) hm else f_X48_all_l0b60 e.Q L (f_X48_all_l0 e.Q L NM) v hm) (Sum.elim (fun _ => fun h9 => if kc h9 e.Q = 46 then bd (f_X48_wrong e.Q h9) (fun x10 h11 => if kc h11 x10 = 69 then rex h11 else none) else none) (fun _ => fun h13 => rok () h13)) := by
      unfold rdM
      rw [f_X48_all_l0_s, ev]
    rw [eX, eM]
    by_cases z : (tk e.TS i).1 = 0
    · rw [if_pos z, if_pos z]
      exact .inl ⟨hx, hm, i, ds, TY, QU, rfl, rfl, Nat.le_refl _, z, p, q, sx.le (by omega), sm.le (by omega), DX0, DM0, h60, hii⟩
    rw [if_neg z, if_neg z]
    unfold f_X48_all_l0b60
    -- both fail here
    have fail : ∀ {rx : Rs (Unit ⊕ Unit)}, rx = rok (Sum.inl ()) hx → DFx e (kl :: DL :: e.xx) (L :: e.mm) hx0 hm0 (X + 120 * (e.TS.length - i)) (Y + 120 * (e.TS.length - i)) (bd rx (Sum.elim (fun _ => fun h4 => ldR 12 156 e.P h4 fun x5 => if kc h4 x5 = 10 then bd (f_X9_wrong x5 h4) (fun x6 h7 => if kc h7 x6 = 69 then rex h7 else none) else none) (fun _ => fun h9 => rok () h9))) (bd (rok (Sum.inl ()) hm : Rs (Unit ⊕ Unit)) (Sum.elim (fun _ => fun h9 => if kc h9 e.Q = 46 then bd (f_X48_wrong e.Q h9) (fun x10 h11 => if kc h11 x10 = 69 then rex h11 else none) else none) (fun _ => fun h13 => rok () h13))) := fun {rx} hr => by
      obtain ⟨hx7, g1, s1, f1⟩ := xwrong p
      obtain ⟨hm7, g2, s2, f2⟩ := mwrong q
      rw [hr, bd_ok, bd_ok, Sum.elim_inl, Sum.elim_inl, xt12_e kP p, x10_e p, m46_e q, g1, g2]
      exact ⟨_, hx7, hm7, rfl, (sx.cat s1 (fun _ z => z) (fun x hx => .inl (by simp only [List.mem_cons, List.not_mem_nil, or_false] at hx ⊢; rcases hx with z | z <;> simp [z]))).le (by omega), f1, rfl, (sm.cat s2 (fun _ z => z) (fun x hx => .inl (by rw [List.mem_singleton.mp hx]; simp))).le (by omega), f2⟩
    by_cases c : dW (tk e.TS i)
    case neg =>
      have v0 : v = 0 := hv.resolve_right fun y => c (hw.mp y)
      rw [v0, if_pos y00]
      by_cases c60 : ds.length = 60
      · rw [if_pos c60]; exact .inr (fail rfl)
      · obtain ⟨hx7, g1, s1, f1⟩ := decl_no p kP c
        obtain ⟨hm7, g2, s2, f2⟩ := mwrong q
        rw [if_neg c60, g1, bd_ex, bd_ex, bd_ok, Sum.elim_inl, m46_e q, g2]
        exact .inr ⟨_, hx7, hm7, rfl, (sx.cat s1 (fun _ z => z) (fun x hx => .inl (by simp only [List.mem_cons, List.not_mem_nil, or_false] at hx ⊢; rcases hx with z | z <;> simp [z]))).le (by omega), f1, rfl, (sm.cat s2 (fun _ z => z) (fun x hx => .inl (by rw [List.mem_singleton.mp hx]; simp))).le (by omega), f2⟩
    rw [hw.mpr c, if_neg z10, lsSize_e kL, DM0.2.2.1]
    by_cases c60 : ds.length = 60
    · rw [if_pos c60, if_pos ((nk _ (c := 60) (C := (60 : Int32)) rfl (by omega) (by omega)).mpr c60)]
      exact .inr (fail rfl)
    rw [if_neg c60, if_neg (fun y => c60 ((nk _ (c := 60) (C := (60 : Int32)) rfl (by omega) (by omega)).mp y)), lsSize_e kL, DM0.2.2.1, m46_e q, show (10 : Int32) + nI ds.length = nI (10 + ds.length) from nI_add 10 ds.length]
    obtain ⟨hm1, t1, kk, R⟩ := declaration_pair p q h0 cl kP nl A h60 c
    rcases R with ⟨a, hx', hm', j, d, TY', QU', r1, r2, r3, S5, r5, r6, r7, r8, r9, r10, r11, r12, r13⟩ | f
    · have hj := S5.2.2.2.jj.1
      have t : St [] e.mm (7 + (0 + 102 * (j - i))) hm hm' := (t1.wk (X2 := e.mm) (fun _ z => z) (fun x hx => by simp at hx) (Nat.le_refl _)).cat S5.2.1 (fun _ z => z) (fun x hx => by
        rcases List.mem_append.mp hx with y | y
        · exact .inl y
        · exact .inr (.inl (q.1.2.1 x (List.mem_range'_1.mp y).1).1))
      have kk' : kc hm' (nx hm) = 47 := S5.2.1.2.kk kk (by decide)
      obtain ⟨g1, u1, q2, DM2⟩ := DsM_add q S5.2.2.2 h0 (t.2.kk nl (by decide)) DM0 hb2 (by omega) t kk' r6
      have DX2 := DsX_add p DX0 hb S5.1 S5.2.2.1.2 r7 r8 r9 r5
      have sx2 := sx.trans S5.1
      have sm2 := (sm.cat t (fun _ z => z) (fun x hx => .inl (List.mem_cons_of_mem _ hx))).cat u1 (fun _ z => z) (fun x hx => .inl (by rw [List.mem_singleton.mp hx]; simp))
      have n2 := S5.1.2.1
      have n3 := t.2.1
      rw [r1, r2, bd_ok, bd_ok, g1]
      rcases ih hx' (lad hm' L (nx hm)) j _ _ (ds ++ [d]) TY' QU' NX NM (by omega) (by omega) (by omega) S5.2.2.1.1 q2 sx2 sm2 (S5.1.2.kk cl (by decide)) (S5.1.2.kk kP (by decide)) (u1.2.kk (t.2.kk nl (by decide)) (by decide)) DX2 DM2 (by simp; omega) ⟨by rw [List.map_append, List.sum_append, List.length_append]; simp only [List.map_cons, List.map_nil, List.sum_cons, List.sum_nil, List.length_cons, List.length_nil]; omega, by rw [List.length_append]; simp only [List.length_cons, List.length_nil]; omega⟩ (by omega) (by show b2 ≤ nx hm'; omega) with ⟨hxa, hma, j2, ds', TY2, QU2, x1, x2, x3, x4, x5, x6, x7, x8, x9, x10, x11⟩ | f
      · exact .inl ⟨hxa, hma, j2, ds', TY2, QU2, x1, x2, by omega, x4, x5, x6, x7.le (by omega), x8.le (by omega), x9, x10, x11⟩
      · exact .inr (DFx_le f (by omega) (by omega))
    · obtain ⟨P, hx', e1, s1, f1, m⟩ := f
      have cm : ∀ {hB : HP} {c : Nat}, St [] (e.mm ++ List.range' (nx hm) (nx hm1 - nx hm)) c hm1 hB → St [] e.mm (7 + c) hm hB := fun y => (t1.wk (X2 := e.mm) (fun _ z => z) (fun x hx => by simp at hx) (Nat.le_refl _)).cat y (fun _ z => z) (fun x hx => by
        rcases List.mem_append.mp hx with y | y
        · exact .inl y
        · exact .inr (.inl (q.1.2.1 x (List.mem_range'_1.mp y).1).1))
      rcases m with ⟨hm', a1, a2, a3⟩ | ⟨v2, hm', il, N2, a1, a2, a3, a4⟩
      · rw [e1, a1]
        exact .inr ⟨P, hx', hm', rfl, (sx.trans s1).le (by omega), f1, rfl, (sm.cat (cm a2) (fun _ z => z) (fun x hx => .inl (List.mem_cons_of_mem _ hx))).le (by omega), a3⟩
      · have hv2 : v2 = nx hm := ret_decl v2 hm' a1
        have t := cm a2
        have kv : kc hm' v2 = 47 := by rw [hv2]; exact a2.2.kk kk (by decide)
        obtain ⟨y1, _, y3⟩ := (q.fr0 t).at DM0.1 (by decide) (by decide)
        have KL : lsK hm' L := ⟨by rw [y1]; decide, by rw [y1]; decide, by rw [y3.2.2.2.2.2.2.2.2]; exact DM0.2.1⟩
        have len : (ls hm' L).length = ds.length := by rw [y3.2.2.2.2.2.2.1]; exact DM0.2.2.1
        have u1 : St [] [L] (0 + 10) hm' (lad hm' L v2) := (St.refl t.1 [] [L]).ladd y1 (by decide) (.inr (.inr (by simp))) (by omega) (by omega)
        obtain ⟨jn, ITn, TYn, QUn, z1, z2, z3, z4⟩ := a3
        have q2 := z1.dec u1.1 u1.fx (fun x hx => by rw [List.mem_singleton.mp hx, y1]; decide) (t.2.kk nl (by decide))
        obtain ⟨NM, rfl⟩ : ∃ k, NM = k + 1 := ⟨NM - 1, by omega⟩
        obtain ⟨w, ew, hw1, hw2⟩ := all_e (L := L) (ih := f_X48_all_l0 e.Q L NM) q2
        have w0 : w = 0 := hw1.resolve_right fun y => by
          rcases hw2.mp y with y | y | y | y | y <;> (have := y.1; omega)
        obtain ⟨hm7, g2, s2, f2⟩ := mwrong q2
        have ew' : b_X48_all_l0 e.Q L (f_X48_all_l0 e.Q L NM) (lad hm' L v2) = rok (Sum.inl ()) (lad hm' L v2) := by
          have := ew
          rw [if_neg (by omega), w0] at this
          exact this.trans (by unfold f_X48_all_l0b60; rw [if_pos y00])
        have kQ : kc (lad hm' L v2) e.Q = 46 := q2.kQ
        have g2' : ∀ (β : Type), (bd (f_X48_wrong e.Q (lad hm' L v2)) (fun x1 h2 => if kc h2 x1 = 69 then (rex h2 : Rs β) else none)) = rex hm7 := g2
        rw [e1, a1, bd_ex, bd_ex, bd_ok, lsAdd_e KL (.inr (.inr (.inr (by rw [kv]; decide)))) (by omega), f_X48_all_l0_s, ew', bd_ok, Sum.elim_inl, if_pos kQ, g2']
        have f2' : StopM e hm7 P := z3 ▸ f2
        exact .inr ⟨P, hx', hm7, rfl, (sx.trans s1).le (by omega), f1, rfl, (((sm.cat t (fun _ z => z) (fun x hx => .inl (List.mem_cons_of_mem _ hx))).cat u1 (fun _ z => z) (fun x hx => .inl (by rw [List.mem_singleton.mp hx]; simp))).cat s2 (fun _ z => z) (fun x hx => .inl (by rw [List.mem_singleton.mp hx]; simp [EE.wil, EE.tr]))).le (by omega), f2'⟩
