/-! PHASE B settle 8: the twin: names; above -/
set_option maxRecDepth 100000
variable {F K : List Nat} {c : Nat} {h h' h0 : HP} {mx : Nat → Nat} {ds : List DC} {W : Nat → Prop} {H tr L Q k : Nat} {as : List Nat} {pa : Nat → Option Nat} {fa : Nat → List Nat}
theorem eq_kno {k : Nat} (hk : k < ds.length) (hw : (dc ds k).2.1.1 ∉ PW) : kno ds (dc ds k).2.1.1 = some (10 + k) ↔ ∀ j, 8 ≤ j → j < 10 + k → (NT ds).getD j [] ≠ (dc ds k).2.1.1 := by
  constructor
  · intro z j _ h2
    exact (fnd_some z).2.2 j h2
  · intro z
    refine fnd_eq (by rw [NT_len]; omega) (NT_hi hk) (fun j hj y => ?_)
    by_cases g : 8 ≤ j
    · exact z j g hj y
    · rw [NT_lo (by omega)] at y
      exact hw (by rw [← y]; exact NB_PW j (by omega))
theorem l16_e {k : Nat} (S : SM W h H tr mx ds) (T : TbM h H L mx ds.length as) (hk : k < ds.length) :
    ∃ v : Int32, f_X4_rounds_l16 H Q (nI k) NN (nI 0) (nI 8) h = rok v h ∧ (v = 0 ↔ kno ds (dc ds k).2.1.1 = some (10 + k)) := by
  have n60 := S.2.2.1.1
  have hw := (S.2.2.1.2 k hk).1.1
  have main := loop_SN (σ := Int32 × Int32 × HP) (n := 10 + k) (G := fun N s => f_X4_rounds_l16 H Q (nI k) N s.1 s.2.1 s.2.2) (by omega)
    (fun i s => s.2.2 = h ∧ s.2.1 = nI i ∧ 8 ≤ i ∧ (s.1 = 0 ∨ s.1 = 1) ∧ (s.1 = 0 ↔ ∀ j, 8 ≤ j → j < i → (NT ds).getD j [] ≠ (dc ds k).2.1.1))
    (fun r => ∃ v : Int32, r = rok v h ∧ (v = 0 ↔ ∀ j, 8 ≤ j → j < 10 + k → (NT ds).getD j [] ≠ (dc ds k).2.1.1))
    (fun N i s hi I next => by
      obtain ⟨a, b, h1⟩ := s
      obtain ⟨rfl, rfl, h8, ha, hj⟩ := I
      show ∃ v : Int32, f_X4_rounds_l16 H Q (nI k) (N + 1) a (nI i) h1 = rok v h1 ∧ _
      rw [f_X4_rounds_l16_s]
      unfold b_X4_rounds_l16 f_X4_rounds_l16b58 f_X4_rounds_l16b63
      rw [show (10 : Int32) + nI k = nI (10 + k) from nI_add 10 k, if_neg (sz_no hi (by omega))]
      by_cases g : a = 0
      · have k0 := S.kk (k := i) (by omega)
        have k1 := S.kk (k := 10 + k) (by omega)
        rw [if_pos g, T.l53, T.get n60 (by omega), cast_e k0.1 (by simp), ldR_e k0.1, if_pos T.1, told_e S T hk, ldR_e k1.1, txEq_e ⟨k0.2.2.2.2.1.1, k1.2.2.2.2.1.1⟩, k0.2.2.2.2.1.2, k1.2.2.2.2.1.2, dM_nm (by omega), dM_hi]
        by_cases d : (NT ds).getD i [] = (dc ds k).2.1.1
        · rw [if_pos d, if_neg z10, lt3_n]
          exact next (1, nI (i + 1), h1) ⟨rfl, rfl, by omega, .inr rfl, ⟨fun z => absurd z z10, fun z => absurd d (z i h8 (by omega))⟩⟩
        · rw [if_neg d, if_pos y00, lt3_n]
          refine next (0, nI (i + 1), h1) ⟨rfl, rfl, by omega, .inl rfl, ⟨fun _ j j1 j2 => ?_, fun _ => rfl⟩⟩
          by_cases z : j = i
          · rw [z]; exact d
          · exact (hj.mp g) j j1 (by omega)
      · rw [if_neg g, lt3_n]
        refine next (1, nI (i + 1), h1) ⟨rfl, rfl, by omega, .inr rfl, ⟨fun z => absurd z z10, fun z => absurd (hj.mpr fun j j1 j2 => z j j1 (by omega)) g⟩⟩)
    (fun N s I => by
      obtain ⟨a, b, h1⟩ := s
      obtain ⟨rfl, rfl, h8, ha, hj⟩ := I
      show ∃ v : Int32, f_X4_rounds_l16 H Q (nI k) (N + 1) a (nI (10 + k)) h1 = rok v h1 ∧ _
      rw [f_X4_rounds_l16_s]
      unfold b_X4_rounds_l16
      rw [show (10 : Int32) + nI k = nI (10 + k) from nI_add 10 k, if_pos (sz_le (Nat.le_refl _) (by omega))]
      exact ⟨a, rfl, hj⟩) (i := 8) (s := (0, nI 8, h)) (by omega) ⟨rfl, rfl, Nat.le_refl _, .inl rfl, ⟨fun _ j j1 j2 => by omega, fun _ => rfl⟩⟩
  obtain ⟨v, e, hv⟩ := main
  exact ⟨v, e, hv.trans (eq_kno hk hw).symm⟩
abbrev FRm : List Nat := [131, 132, 375]
theorem sxM : Sx FRm [134] := by constructor <;> decide
theorem tm_e {β : Type} {f : Nat → HP → Rs β} (S : SM W h H tr mx ds) (T : TbM h H L mx ds.length as) (hk : k < ds.length) : (if kc h H = 5 then bd (f_X4_toldKind H (nI k) h) f else none) = f (mx (10 + k)) h := by rw [if_pos T.1, told_e S T hk]
/-- names: each once -/
theorem r1_l (S : SM W h H tr mx ds) (T : TbM h H L mx ds.length as) (u : Ef FRm [134] c h0 h) :
    match frs (bad1 ds) ds.length with
    | none => f_X4_rounds_l2 H Q NN (nI 0) h = rok () h
    | some p => ∃ h', f_X4_rounds_l2 H Q NN (nI 0) h = rex h' ∧ Ef FRm [134] (c + 1) h0 h' ∧ WrM h' tr p := by
  have n60 := S.2.2.1.1
  refine loop_NN (n := ds.length) (F := f_X4_rounds_l2 H Q) (by omega) (fun i h' => h' = h ∧ frs (bad1 ds) i = none) (fun r => match frs (bad1 ds) ds.length with | none => r = rok () h | some p => ∃ h', r = rex h' ∧ Ef FRm [134] (c + 1) h0 h' ∧ WrM h' tr p) ?_ ?_ (Nat.zero_le _) ⟨rfl, rfl⟩
  · rintro N i h' hi ⟨rfl, hn⟩ next
    rw [f_X4_rounds_l2_s]
    unfold b_X4_rounds_l2 f_X4_rounds_l2b80
    obtain ⟨v, ev, hv⟩ := l16_e (Q := Q) S T hi
    have k0 := S.kk (k := 10 + i) (by omega)
    have ev' : f_X4_rounds_l16 H Q (nI i) NN 0 8 h' = rok v h' := ev
    rw [ldI_e T.1, S.2.1.2.2.2, if_neg (sz_no hi (by omega)), ev', bd_ok]
    by_cases g : v = 0
    · rw [if_pos g, tm_e S T hi, ldI_e k0.1, if_pos T.1, must_e S (by decide), lt3_n]
      exact next h' ⟨rfl, (frs_s hn).trans (by unfold bad1; rw [if_pos (hv.mp g)])⟩
    · obtain ⟨h2, e2, u2, w2⟩ := must_no (p := (dc ds i).2.1.2) S u ⟨by simp, by simp⟩
      rw [if_neg g, tm_e S T hi, ldI_e k0.1, k0.2.2.2.2.2.1, dM_hi, if_pos T.1, e2, frs_at hn (p := (dc ds i).2.1.2) (by unfold bad1; rw [if_neg (fun z => g (hv.mpr z))]) hi]
      exact ⟨h2, rfl, u2, w2⟩
  · rintro N h' ⟨rfl, hn⟩
    rw [f_X4_rounds_l2_s]
    unfold b_X4_rounds_l2
    rw [ldI_e T.1, S.2.1.2.2.2, if_pos (sz_le (Nat.le_refl _) (by omega)), hn]
/-- parents and faces as they are so far -/
def RM (h : HP) (mx : Nat → Nat) (m : Nat) (pa : Nat → Option Nat) (fa : Nat → List Nat) : Prop := ∀ j, j < m → fr h 375 (mx j) = kxo mx (pa j) ∧ ls h (fr h 376 (mx j)) = (fa j).map mx ∧ cp h (fr h 376 (mx j)) ≠ RAW
theorem KdN.l376 {a k : Nat} {d : DC} (x : KdN W h a k d) : kc h (fr h 376 a) = 134 := by
  obtain ⟨_, _, _, _, _, _, _, _, _, _, _, _, _, _, y⟩ := x
  exact y
theorem RM_ef (S : SM W h H tr mx ds) (u : Ef F K c h h') (h1 : 375 ∉ F) (h2 : 376 ∉ F) (h3 : 134 ∉ K) (R : RM h mx (10 + ds.length) pa fa) : RM h' mx (10 + ds.length) pa fa := fun j hj => by
  obtain ⟨r1, r2, r3⟩ := R j hj
  have k0 := S.kk hj
  have g := u.gr k0.1 (by decide) h2
  refine ⟨(u.gr k0.1 (by decide) h1).trans r1, ?_, ?_⟩
  · rw [g, u.gl k0.l376 (by decide) h3]; exact r2
  · rw [g, u.gc k0.l376 (by decide) h3]; exact r3
theorem RM_st {p : Nat} (S : SM W h H tr mx ds) (hk : k < 10 + ds.length) (R : RM h mx (10 + ds.length) pa fa) : RM (sR h 375 (mx k) (mx p)) mx (10 + ds.length) (ud pa k (some p)) fa := fun j hj => by
  obtain ⟨q1, q2, q3⟩ := R j hj
  refine ⟨?_, ?_, ?_⟩
  · rw [fr_sR]
    by_cases z : j = k
    · rw [if_pos ⟨rfl, by rw [z]⟩, z, ud_s]; rfl
    · rw [if_neg (fun y => z (S.inj hj hk y.2)), ud_o z]; exact q1
  · rw [fr_sR, if_neg (fun y => absurd y.1 (by decide))]; exact q2
  · rw [fr_sR, if_neg (fun y => absurd y.1 (by decide))]; exact q3
theorem RM_cg {pa' : Nat → Option Nat} {fa' : Nat → List Nat} {m : Nat} (h1 : ∀ j, j < m → pa j = pa' j) (h2 : ∀ j, j < m → fa j = fa' j) (R : RM h mx m pa fa) : RM h mx m pa' fa' := fun j hj => by
  rw [← h1 j hj, ← h2 j hj]; exact R j hj
/-- whether a face is there already -/
theorem al173 {i p t : Nat} {l : List Nat} {td : Td} (S : SM W h H tr mx ds) (T : TbM h H L mx ds.length as) (hk : k < ds.length) (h1 : ls h (fr h 376 (mx (10 + k))) = l.map mx) (h2 : cp h (fr h 376 (mx (10 + k))) ≠ RAW) (hb : ∀ x ∈ l, x < 10 + ds.length) (hp : p < 10 + ds.length) (hl : l.length = i) (h401 : i ≤ 401) (ht : ToM h t td) (u : Ef FRm [134] c h0 h) :
    if p ∈ l then (∃ h', f_X4_above_l173 H (mx (10 + k)) (nI i) t (nI p) NN (nI 0) h = rex h' ∧ Ef FRm [134] (c + 1) h0 h' ∧ WrM h' tr td.2) else f_X4_above_l173 H (mx (10 + k)) (nI i) t (nI p) NN (nI 0) h = rok () h := by
  have n60 := S.2.2.1.1
  have k0 := S.kk (k := 10 + k) (by omega)
  have kL : lsK h (fr h 376 (mx (10 + k))) := ⟨by rw [k0.l376]; decide, by rw [k0.l376]; decide, h2⟩
  have len : (ls h (fr h 376 (mx (10 + k)))).length = i := by rw [h1, List.length_map]; exact hl
  refine loop_NN (n := i) (F := f_X4_above_l173 H (mx (10 + k)) (nI i) t (nI p)) (by omega) (fun i h' => h' = h ∧ ∀ j, j < i → l.getD j 0 ≠ p) (fun r => if p ∈ l then (∃ h', r = rex h' ∧ Ef FRm [134] (c + 1) h0 h' ∧ WrM h' tr td.2) else r = rok () h) ?_ ?_ (Nat.zero_le _) ⟨rfl, fun j hj => by omega⟩
  · rintro N j h' hj ⟨rfl, hn⟩ next
    rw [f_X4_above_l173_s]
    unfold b_X4_above_l173 f_X4_above_l173b206
    have hm : l.getD j 0 ∈ l := by rw [gE_in (by omega)]; exact List.getElem_mem _
    have km := S.kk (hb _ hm)
    rw [if_neg (sz_no hj (by omega)), ldR_e k0.1, lg_e kL (by omega) (by omega), h1, gE_map 0 (by omega), T.l53, T.get n60 hp, eqR_e km.1 (by decide)]
    by_cases g : l.getD j 0 = p
    · obtain ⟨h2, e2, u2, w2⟩ := must_no (p := td.2) S u ⟨by simp, by simp⟩
      rw [if_pos (show p ∈ l by rw [← g]; exact hm), if_pos (by rw [g]), ldI_e ht.1, ht.2.2, if_pos T.1, e2]
      exact ⟨h2, rfl, u2, w2⟩
    · rw [if_neg (fun z => g (S.inj (hb _ hm) hp z)), ldI_e ht.1, if_pos T.1, must_e S (by decide), lt3_n]
      exact next h' ⟨rfl, fun q h3 => by
        by_cases z : q = j
        · rw [z]; exact g
        · exact hn q (by omega)⟩
  · rintro N h' ⟨rfl, hn⟩
    rw [f_X4_above_l173_s]
    unfold b_X4_above_l173
    rw [if_pos (sz_le (Nat.le_refl _) (by omega)), if_neg (fun z => by
      obtain ⟨j, h3, h4⟩ := List.mem_iff_getElem.mp z
      exact hn j (by omega) (by rw [gE_in h3]; exact h4))]
/-- sorts and forms -/
theorem so4 {p : Nat} (o : okDs ds) (hp : p < 10 + ds.length) : so ds p = 4 ↔ 10 ≤ p ∧ (dM ds p).1 = 2 := by
  by_cases z : p < 10
  · constructor
    · intro y; unfold so at y; repeat' split at y
      all_goals omega
    · intro y; omega
  · obtain ⟨j, rfl⟩ : ∃ j, p = 10 + j := ⟨p - 10, by omega⟩
    have := (o.2 j (by omega)).2.2.2.1
    rw [so_hi, dM_hi]
    unfold srt
    repeat' split
    all_goals omega
theorem so3 {p : Nat} (o : okDs ds) (hp : p < 10 + ds.length) : so ds p = 3 ↔ 10 ≤ p ∧ (dM ds p).1 = 1 := by
  by_cases z : p < 10
  · constructor
    · intro y; unfold so at y; repeat' split at y
      all_goals omega
    · intro y; omega
  · obtain ⟨j, rfl⟩ : ∃ j, p = 10 + j := ⟨p - 10, by omega⟩
    have := (o.2 j (by omega)).2.2.2.1
    rw [so_hi, dM_hi]
    unfold srt
    repeat' split
    all_goals omega
theorem so1 {p : Nat} : so ds p = 1 ↔ p = 8 := by
  unfold so srt
  repeat' split
  all_goals omega
theorem lt10 {p : Nat} (hp : p < 2 ^ 31) : nI p < (10 : Int32) ↔ p < 10 := by
  rw [show (10 : Int32) = nI 10 from rfl]
  exact nI_ltI hp (by omega)
