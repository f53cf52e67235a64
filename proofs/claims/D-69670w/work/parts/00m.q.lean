/-! PHASE B settle 17: the twin: whether a kind is above itself -/
set_option maxRecDepth 100000
variable {F K : List Nat} {c : Nat} {h h' h0 : HP} {mx : Nat → Nat} {ds : List DC} {W : Nat → Prop} {H tr L Q k v2 v3 : Nat} {as : List Nat} {pa : Nat → Option Nat} {rl : List Nat} {met : Nat → Bool}
/-- a new list -/
theorem newl {n : Nat} (w : WG h) (hn : 100 ≤ n ∧ n < 200) (F K : List Nat) : ∃ h', (∀ {β : Type} {f : Nat → HP → Rs β}, (nwC n 3 h fun p h2 => lsInit p h2 fun h3 => f p h3) = f (nx h) h') ∧ Ef F K 1 h h' ∧ kc h' (nx h) = n ∧ ls h' (nx h) = [] ∧ cp h' (nx h) = 0 ∧ kc h (nx h) = 0 := by
  have z := w.new
  have s1 : Ef F K (0 + 1) h (nC h n 3) := (Ef.refl w F K).nC (k := n) (n := 3) (b := 1) (by omega) (by omega)
  have k1 : kc (nC h n 3) (nx h) = n := kc_nC_n
  have p1 : cp (nC h n 3) (nx h) = RAW := by rw [cp_nC, if_pos rfl]
  have ok : okc n = true := decide_eq_true (by omega)
  have s2 : Ef F K (0 + 1 + 0) h (sLc (nC h n 3) (nx h) [] 0 0 0) := s1.sLc k1 ok (.inl z) (by omega) (by omega)
  refine ⟨_, fun {β f} => ?_, s2.le (by omega), k1, by rw [ls_sLc, if_pos rfl], by rw [cp_sLc, if_pos rfl], z⟩
  rw [nwC_e, lsInit_e ⟨by rw [k1]; omega, by rw [k1]; omega, p1⟩]
theorem dn_no (o : ok2 ds) (hk : k < ds.length) (h4 : so ds (10 + k) = 4) (I : BI ds k rl met) (hd : ∀ t, t < rl.length → dn ds k (rl.getD t 0) met) : ∀ {y : Nat}, Ab ds (10 + k) y → y ≠ 10 + k ∧ y ∈ rl := by
  have step : ∀ {x y : Nat}, x ∈ rl → Un ds x y → y ≠ 10 + k ∧ y ∈ rl := fun {x y} hx hu => by
    obtain ⟨t, ht, e⟩ := List.mem_iff_getElem.mp hx
    have d := hd t ht
    rw [gE_in ht, e] at d
    have x4 := (I.2.1 x hx).2.2.2
    obtain ⟨q, hq, rfl, hu⟩ := hu
    unfold upk at hu
    rw [face_par o hq x4] at hu
    simp at hu
    have dy := d y (by rw [show 10 + q - 10 = q by omega]; exact hu)
    exact ⟨dy.1, I.2.2.2.2 y (fcs_lt _ hu) dy.2⟩
  intro y hy
  induction hy with
  | single hu => exact step (by rw [← I.1.2, gE_in I.1.1]; exact List.getElem_mem _) hu
  | tail _ hu ih => exact step ih.2 hu
theorem re27 (o : ok2 ds) (hk : k < ds.length) (h4 : so ds (10 + k) = 4) (n2 : kc h0 v2 = 0) (n3 : kc h0 v3 = 0) (S0 : SM W h0 H tr mx ds) (R0 : RM h0 mx (10 + ds.length) pa (faF ds ds.length)) (u : Ef [] [] (c + 2 * rl.length) h0 h) (B : BR h mx (10 + ds.length) v2 v3 1302 160 rl met) (I : BI ds k rl met) :
    ∃ h' b, f_X4_isReached_l27 (mx (10 + k)) v2 v3 NN (nI 0) h = rok (if b then Sum.inl () else Sum.inr ()) h' ∧ Ef [] [] (c + 2 * (ds.length + 1)) h0 h' ∧ (b = true ↔ Ab ds (10 + k) (10 + k)) := by
  have n60 := S0.2.2.1.1
  have fin : ∀ {h1 : HP} {rl : List Nat} {met : Nat → Bool}, Ef [] [] (c + 2 * rl.length) h0 h1 → BI ds k rl met → (∀ t, t < rl.length → dn ds k (rl.getD t 0) met) →
      ∃ h' b, (rok (Sum.inr ()) h1 : Rs (Unit ⊕ Unit)) = rok (if b then Sum.inl () else Sum.inr ()) h' ∧ Ef [] [] (c + 2 * (ds.length + 1)) h0 h' ∧ (b = true ↔ Ab ds (10 + k) (10 + k)) := fun {h1 rl met} u1 I1 hd => by
    have bl := BI_len I1
    exact ⟨h1, false, rfl, u1.le (by omega), ⟨fun z => (by cases z), fun z => absurd rfl (dn_no o hk h4 I1 hd z).1⟩⟩
  refine loop_NN (n := ds.length + 1) (F := f_X4_isReached_l27 (mx (10 + k)) v2 v3) (by omega)
    (fun i h' => ∃ rl met, Ef [] [] (c + 2 * rl.length) h0 h' ∧ BR h' mx (10 + ds.length) v2 v3 1302 160 rl met ∧ BI ds k rl met ∧ i ≤ rl.length ∧ ∀ t, t < i → dn ds k (rl.getD t 0) met)
    (fun r => ∃ h' b, r = rok (if b then Sum.inl () else Sum.inr ()) h' ∧ Ef [] [] (c + 2 * (ds.length + 1)) h0 h' ∧ (b = true ↔ Ab ds (10 + k) (10 + k))) ?_ ?_ (Nat.zero_le _) ⟨rl, met, u, B, I, Nat.zero_le _, fun t ht => by omega⟩
  · rintro N i h1 hi ⟨rl, met, u1, B1, I1, hil, hd⟩ next
    rw [f_X4_isReached_l27_s]
    unfold b_X4_isReached_l27
    have bl := BI_len I1
    have kl : lsK h1 v3 := ⟨by rw [B1.2.1]; decide, by rw [B1.2.1]; decide, B1.2.2.1⟩
    have ln : (ls h1 v3).length = rl.length := by rw [B1.2.2.2, List.length_map]
    rw [lsSize_e kl, ln]
    by_cases z : rl.length ≤ i
    · rw [if_pos (sz_le z (by omega))]
      exact fin u1 I1 (fun t ht => hd t (by omega))
    have hx : rl.getD i 0 ∈ rl := by rw [gE_in (by omega)]; exact List.getElem_mem _
    obtain ⟨x1, x2, x3, x4⟩ := I1.2.1 _ hx
    obtain ⟨q, hq⟩ : ∃ q, rl.getD i 0 = 10 + q := ⟨rl.getD i 0 - 10, by omega⟩
    rw [hq] at x1 x3 x4
    have S1 := SM_ef u1 (by constructor <;> simp) S0
    have kq := S1.kk (k := 10 + q) (by omega)
    rw [if_neg (sz_no (by omega) (by omega)), lg_e kl (by omega) (by omega), B1.2.2.2, gE_map 0 (by omega), hq, cast_e kq.1 (by simp), show (0 : Int32) = nI 0 from rfl]
    rcases re50 (i := i) (by omega) o hk x4 x1 n2 n3 S0 R0 u1 B1 I1 with ⟨h2, e2, u2, ab⟩ | ⟨h2, s, met2, e2, u2, B2, I2, mo, d2⟩
    · rw [e2, bd_ok, Sum.elim_inl]
      exact ⟨h2, true, rfl, u2, ⟨fun _ => ab, fun _ => rfl⟩⟩
    · rw [e2, bd_ok, Sum.elim_inr, lt3_n]
      refine next h2 ⟨rl ++ s, met2, u2, B2, I2, by rw [List.length_append]; omega, fun t ht y hy => ?_⟩
      by_cases w : t = i
      · rw [w, gA_l (by omega), hq] at hy
        exact d2 y hy
      · rw [gA_l (by omega)] at hy
        have := hd t (by omega) y hy
        exact ⟨this.1, mo y this.2⟩
  · rintro N h1 ⟨rl, met, u1, B1, I1, hil, hd⟩
    rw [f_X4_isReached_l27_s]
    unfold b_X4_isReached_l27
    have bl := BI_len I1
    have kl : lsK h1 v3 := ⟨by rw [B1.2.1]; decide, by rw [B1.2.1]; decide, B1.2.2.1⟩
    have ln : (ls h1 v3).length = rl.length := by rw [B1.2.2.2, List.length_map]
    rw [lsSize_e kl, ln, if_pos (sz_le bl (by omega))]
    exact fin u1 I1 (fun t ht => hd t (by omega))
theorem reached_e (o : ok2 ds) (hk : k < ds.length) (h4 : so ds (10 + k) = 4) (S : SM W h H tr mx ds) (T : TbM h H L mx ds.length []) (R : RM h mx (10 + ds.length) pa (faF ds ds.length)) :
    ∃ h' b, f_X4_isReached H (mx (10 + k)) h = rok (zB b) h' ∧ Ef [] [] (2 * ds.length + 6) h h' ∧ (b = true ↔ Wn ds k (10 + k) = true) := by
  have n60 := S.2.2.1.1
  have w := S.1
  have k0 := S.kk (k := 10 + k) (by omega)
  unfold f_X4_isReached
  rw [T.l53, lsSize_e T.k, T.len, show (10 + ds.length + ([] : List Nat).length) = 10 + ds.length from rfl, nwA_e (by omega)]
  have z0 := w.2.1 (nx h) (Nat.le_refl _)
  have u1 : Ef [] [] (0 + 1) h (nA h 1302 (10 + ds.length)) := (Ef.refl w [] []).nA (k := 1302) (n := 10 + ds.length) (b := 1) (by omega) (by omega)
  have R1 : Rw (nA h 1302 (10 + ds.length)) 1302 (nx h) (10 + ds.length) (fun _ => false) := ⟨kc_nA_n, by rw [xl_nA, if_pos rfl], fun j _ => z0.2.2.2.2.1 j⟩
  obtain ⟨h2, e2, u2, kl, l2, c2, z2⟩ := newl (n := 160) u1.1 (by decide) [] []
  have R2 := Rw_ef u2 R1 (by decide) (by simp)
  have nz : kc h (nx (nA h 1302 (10 + ds.length))) = 0 := u1.zero (Nat.le_refl _)
  have u12 := u1.trans u2
  rw [e2]
  generalize nx (nA h 1302 (10 + ds.length)) = v3 at *
  have kk2 : kc h2 (mx (10 + k)) = 47 := u12.kk k0.1 (by decide)
  have KL : lsK h2 v3 := ⟨by rw [kl]; decide, by rw [kl]; decide, by rw [c2]; decide⟩
  have u3 := Ef_ladb (v := mx (10 + k)) (b := 1) u12 kl (by decide) (.inl nz) (by omega) (by rw [l2]; simp)
  have B3 : BR (lad h2 v3 (mx (10 + k))) mx (10 + ds.length) (nx h) v3 1302 160 [10 + k] (fun _ => false) := ⟨R2, kl, (lad_K KL (by rw [l2]; simp)).2.2, by rw [lad_ls, l2]; rfl⟩
  have I3 : BI ds k [10 + k] (fun _ => false) := ⟨⟨by simp, rfl⟩, fun x hx => by rw [List.mem_singleton.mp hx]; exact ⟨.inl rfl, by omega, by omega, h4⟩, fun a h1 h2 => by simp at h2; omega, fun a b h1 h2 => by simp at h2; omega, fun x _ hx => by cases hx⟩
  rw [lsAdd_e KL (.inr (.inr (.inr (by rw [kk2]; decide)))) (by rw [l2]; simp), show (0 : Int32) = nI 0 from rfl]
  obtain ⟨h4', b, e4, u4, hb⟩ := re27 (c := 4) o hk h4 z0.1 nz S R (u3.le (by simp)) B3 I3
  rw [e4, bd_ok]
  refine ⟨h4', b, ?_, u4.le (by omega), hb.trans (Wn_ab hk).symm⟩
  cases b <;> rfl
/-- above itself -/
theorem self_e (o : ok2 ds) (hk : k < ds.length) (S : SM W h H tr mx ds) (T : TbM h H L mx ds.length []) (R : RM h mx (10 + ds.length) (paF ds ds.length) (faF ds ds.length)) :
    ∃ h', f_X4_isAboveItself H (mx (10 + k)) h = rok (zB (Wn ds k (10 + k))) h' ∧ Ef [] [] (2 * ds.length + 6) h h' := by
  have n60 := S.2.2.1.1
  have k0 := S.kk (k := 10 + k) (by omega)
  have bp := dM_b S.2.2.1 (show 10 + k < 10 + ds.length by omega)
  have f4 := so4 S.2.2.1 (show 10 + k < 10 + ds.length by omega)
  unfold f_X4_isAboveItself
  rw [ldI_e k0.1, k0.2.2.1]
  by_cases z : (dM ds (10 + k)).1 = 2
  · obtain ⟨h2, b, e2, u2, hb⟩ := reached_e o hk (f4.mpr ⟨by omega, z⟩) S T R
    rw [if_pos ((nk _ (c := 2) (C := (2 : Int32)) rfl (by omega) (by omega)).mpr z), if_pos T.1, e2, bd_ok]
    have : b = Wn ds k (10 + k) := by
      cases b
      · cases g : Wn ds k (10 + k)
        · rfl
        · exact absurd (hb.mpr g) (by decide)
      · exact (hb.mp rfl).symm
    refine ⟨h2, ?_, u2⟩
    unfold rokZ
    rw [this]
    cases Wn ds k (10 + k)
    · exact if_pos (.inl rfl)
    · exact if_pos (.inr rfl)
  · obtain ⟨r1, _⟩ := R (10 + k) (by omega)
    rw [paF_hi hk] at r1
    obtain ⟨b, e2, hb⟩ := l21_e hk S R
    rw [if_neg (fun y => z ((nk _ (c := 2) (C := (2 : Int32)) rfl (by omega) (by omega)).mp y)), ldR_e k0.1, r1, show (0 : Int32) = nI 0 from rfl, e2, bd_ok]
    have hw := self_pp o hk (fun y => z (f4.mp y).2)
    refine ⟨h, ?_, (Ef.refl S.1 [] []).le (by omega)⟩
    cases b
    · cases g : Wn ds k (10 + k)
      · rfl
      · exact absurd (hb.mpr (hw.mp g)) (by decide)
    · rw [hw.mpr (hb.mp rfl)]; rfl
abbrev F0m : List Nat := [131, 132]
theorem r3_l (o : ok2 ds) (S : SM W h H tr mx ds) (T : TbM h H L mx ds.length []) (R : RM h mx (10 + ds.length) (paF ds ds.length) (faF ds ds.length)) :
    match frs (bad3 ds) ds.length with
    | none => ∃ h', f_X4_rounds_l124 H Q NN (nI 0) h = rok () h' ∧ Ef F0m [] ((2 * ds.length + 6) * ds.length) h h'
    | some p => ∃ h', f_X4_rounds_l124 H Q NN (nI 0) h = rex h' ∧ Ef F0m [] ((2 * ds.length + 6) * ds.length + 1) h h' ∧ WrM h' tr p := by
  have n60 := S.2.2.1.1
  refine loop_NN (n := ds.length) (F := f_X4_rounds_l124 H Q) (by omega) (fun i h' => Ef F0m [] ((2 * ds.length + 6) * i) h h' ∧ frs (bad3 ds) i = none)
    (fun r => match frs (bad3 ds) ds.length with
    | none => ∃ h', r = rok () h' ∧ Ef F0m [] ((2 * ds.length + 6) * ds.length) h h'
    | some p => ∃ h', r = rex h' ∧ Ef F0m [] ((2 * ds.length + 6) * ds.length + 1) h h' ∧ WrM h' tr p) ?_ ?_ (Nat.zero_le _) ⟨(Ef.refl S.1 _ _).le (by omega), rfl⟩
  · rintro N i h1 hi ⟨u1, hn⟩ next
    rw [f_X4_rounds_l124_s]
    unfold b_X4_rounds_l124 f_X4_rounds_l124b150
    have sx0 : Sx F0m [] := by constructor <;> decide
    have S1 := SM_ef u1 sx0 S
    have T1 := TbM_ef u1 sx0 (by decide) T
    have R1 := RM_ef S u1 (by decide) (by decide) (by decide) R
    obtain ⟨h2, e2, u2⟩ := self_e o hi S1 T1 R1
    have u2' : Ef F0m [] (2 * ds.length + 6) h1 h2 := u2.wk (fun _ z => by simp at z) (fun _ z => z) (Nat.le_refl _)
    have u3 := u1.trans u2'
    have S2 := SM_ef u2' sx0 S1
    have T2 := TbM_ef u2' sx0 (by decide) T1
    have k2 := S2.kk (k := 10 + i) (by omega)
    have le : (2 * ds.length + 6) * i + (2 * ds.length + 6) ≤ (2 * ds.length + 6) * ds.length := by
      have := Nat.mul_le_mul_left (2 * ds.length + 6) (show i + 1 ≤ ds.length from hi)
      rw [Nat.mul_succ] at this; exact this
    rw [S1.n54, if_neg (sz_no hi (by omega)), tm_e S1 T1 hi, if_pos T1.1, e2, bd_ok]
    cases g : Wn ds i (10 + i) with
    | false =>
      rw [if_pos (show zB false = 0 from rfl), tm_e S2 T2 hi, ldI_e k2.1, if_pos T2.1, must_e S2 (by decide), lt3_n]
      exact next h2 ⟨u3.le (by rw [Nat.mul_succ]; exact Nat.le_refl _), (frs_s hn).trans (by unfold bad3; rw [g]; rfl)⟩
    | true =>
      obtain ⟨h3, e3, u4, w4⟩ := must_no (p := (dc ds i).2.1.2) S2 u3 ⟨by simp, by simp⟩
      rw [if_neg (show ¬ zB true = 0 by decide), tm_e S2 T2 hi, ldI_e k2.1, k2.2.2.2.2.2.1, dM_hi, if_pos T2.1, e3, frs_at hn (p := (dc ds i).2.1.2) (by unfold bad3; rw [g]; rfl) hi]
      exact ⟨h3, rfl, u4.le (by omega), w4⟩
  · rintro N h1 ⟨u1, hn⟩
    rw [f_X4_rounds_l124_s]
    unfold b_X4_rounds_l124
    have sx0 : Sx F0m [] := by constructor <;> decide
    have S1 := SM_ef u1 sx0 S
    rw [S1.n54, if_pos (sz_le (Nat.le_refl _) (by omega)), hn]
    exact ⟨h1, rfl, u1⟩
