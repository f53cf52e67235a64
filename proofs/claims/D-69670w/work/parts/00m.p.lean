/-! PHASE B settle 16: the twin: faces above a face -/
set_option maxRecDepth 100000
variable {F K : List Nat} {c : Nat} {h h' h0 : HP} {mx : Nat → Nat} {ds : List DC} {W : Nat → Prop} {H tr L Q k v2 v3 : Nat} {as : List Nat} {pa : Nat → Option Nat} {rl : List Nat} {met : Nat → Bool}
/-- what is gone through: the row, and what is met -/
def BR (h : HP) (mx : Nat → Nat) (m v2 v3 c2 c3 : Nat) (rl : List Nat) (met : Nat → Bool) : Prop := Rw h c2 v2 m met ∧ kc h v3 = c3 ∧ cp h v3 ≠ RAW ∧ ls h v3 = rl.map mx
def BI (ds : List DC) (k : Nat) (rl : List Nat) (met : Nat → Bool) : Prop :=
  (0 < rl.length ∧ rl.getD 0 0 = 10 + k) ∧ (∀ x ∈ rl, (x = 10 + k ∨ Ab ds (10 + k) x) ∧ 10 ≤ x ∧ x < 10 + ds.length ∧ so ds x = 4) ∧
  (∀ a, 1 ≤ a → a < rl.length → met (rl.getD a 0) = true) ∧ (∀ a b, 1 ≤ a → a < rl.length → 1 ≤ b → b < rl.length → rl.getD a 0 = rl.getD b 0 → a = b) ∧ ∀ x, x < 10 + ds.length → met x = true → x ∈ rl
theorem BI_len (B : BI ds k rl met) : rl.length ≤ ds.length + 1 := by
  obtain ⟨_, b2, _, b4, _⟩ := B
  have := pig ds.length (rl.length - 1) (fun a => rl.getD (a + 1) 0 - 10) (fun a ha => by
    have := (b2 (rl.getD (a + 1) 0) (by rw [gE_in (by omega)]; exact List.getElem_mem _)).2
    show rl.getD (a + 1) 0 - 10 < _
    omega) (fun a b ha hb e => by
    have x := (b2 (rl.getD (a + 1) 0) (by rw [gE_in (by omega)]; exact List.getElem_mem _)).2
    have y := (b2 (rl.getD (b + 1) 0) (by rw [gE_in (by omega)]; exact List.getElem_mem _)).2
    have e' : rl.getD (a + 1) 0 - 10 = rl.getD (b + 1) 0 - 10 := e
    have := b4 (a + 1) (b + 1) (by omega) (by omega) (by omega) (by omega) (by omega)
    omega)
  omega
theorem gA_l {l s : List Nat} {i : Nat} (h : i < l.length) : (l ++ s).getD i 0 = l.getD i 0 := by
  rw [List.getD_eq_getElem?_getD, List.getElem?_append_left h, ← List.getD_eq_getElem?_getD]
theorem gA_e {l : List Nat} {x : Nat} : (l ++ [x]).getD l.length 0 = x := by
  rw [List.getD_eq_getElem?_getD, List.getElem?_append_right (Nat.le_refl _), Nat.sub_self]; rfl
theorem BI_add {x : Nat} (B : BI ds k rl met) (hx : met x = false) (hab : Ab ds (10 + k) x) (hl : x < 10 + ds.length) (h4 : so ds x = 4) : BI ds k (rl ++ [x]) (ud met x true) := by
  obtain ⟨⟨b0, b1⟩, b2, b3, b4, b5⟩ := B
  refine ⟨⟨by simp, by rw [gA_l b0]; exact b1⟩, fun y hy => ?_, fun a h1 h2 => ?_, fun a b h1 h2 h3 h5 e => ?_, fun y hy hm => ?_⟩
  · rcases List.mem_append.mp hy with z | z
    · exact b2 y z
    · rw [List.mem_singleton.mp z]; exact ⟨.inr hab, so_ge (.inr h4), hl, h4⟩
  · rw [List.length_append, List.length_singleton] at h2
    by_cases z : a < rl.length
    · rw [gA_l z]
      by_cases y : rl.getD a 0 = x
      · rw [y, ud_s]
      · rw [ud_o y]; exact b3 a h1 z
    · rw [show a = rl.length by omega, gA_e, ud_s]
  · rw [List.length_append, List.length_singleton] at h2 h5
    by_cases z : a < rl.length
    · by_cases y : b < rl.length
      · rw [gA_l z, gA_l y] at e; exact b4 a b h1 z h3 y e
      · rw [gA_l z, show b = rl.length by omega, gA_e] at e
        have := b3 a h1 z
        rw [e, hx] at this; cases this
    · by_cases y : b < rl.length
      · rw [gA_l y, show a = rl.length by omega, gA_e] at e
        have := b3 b h3 y
        rw [← e, hx] at this; cases this
      · omega
  · by_cases z : y = x
    · rw [z]; simp
    · rw [ud_o z] at hm
      exact List.mem_append.mpr (.inl (b5 y hy hm))
/-- all faces of a kind are met, and are not the first -/
def dn (ds : List DC) (k x : Nat) (met : Nat → Bool) : Prop := ∀ y ∈ fcl ds (x - 10), y ≠ 10 + k ∧ met y = true
theorem BR_st {m c2 c3 x : Nat} (B : BR h mx m v2 v3 c2 c3 rl met) (h2 : c2 ≠ c3) : BR (sXi h v2 x (zB true)) mx m v2 v3 c2 c3 rl (ud met x true) := ⟨Rw_st B.1, B.2.1, B.2.2.1, B.2.2.2⟩
theorem BR_ad {m c2 c3 x : Nat} (B : BR h mx m v2 v3 c2 c3 rl met) (h3 : 100 ≤ c3 ∧ c3 < 200) (hl : rl.length ≤ 1000) : BR (lad h v3 (mx x)) mx m v2 v3 c2 c3 (rl ++ [x]) met :=
  ⟨B.1, B.2.1, (lad_K ⟨by rw [B.2.1]; exact h3.1, by rw [B.2.1]; exact h3.2, B.2.2.1⟩ (by rw [B.2.2.2, List.length_map]; omega)).2.2, by rw [lad_ls, B.2.2.2, List.map_append]; rfl⟩
theorem re50 {q i : Nat} (hq : q < ds.length) (o : ok2 ds) (hk : k < ds.length) (h4 : so ds (10 + q) = 4) (hq2 : 10 + q = 10 + k ∨ Ab ds (10 + k) (10 + q)) (n2 : kc h0 v2 = 0) (n3 : kc h0 v3 = 0) (S0 : SM W h0 H tr mx ds) (R0 : RM h0 mx (10 + ds.length) pa (faF ds ds.length)) (u : Ef [] [] (c + 2 * rl.length) h0 h) (B : BR h mx (10 + ds.length) v2 v3 1302 160 rl met) (I : BI ds k rl met) :
    (∃ h', f_X4_isReached_l50 (mx (10 + k)) v2 v3 (nI i) (mx (10 + q)) NN (nI 0) h = rok (Sum.inl ()) h' ∧ Ef [] [] (c + 2 * (ds.length + 1)) h0 h' ∧ Ab ds (10 + k) (10 + k)) ∨
    (∃ h' s met', f_X4_isReached_l50 (mx (10 + k)) v2 v3 (nI i) (mx (10 + q)) NN (nI 0) h = rok (Sum.inr ()) h' ∧ Ef [] [] (c + 2 * (rl ++ s).length) h0 h' ∧ BR h' mx (10 + ds.length) v2 v3 1302 160 (rl ++ s) met' ∧ BI ds k (rl ++ s) met' ∧ (∀ x, met x = true → met' x = true) ∧ dn ds k (10 + q) met') := by
  have n60 := S0.2.2.1.1
  have nF : nfc ds q ≤ 401 := (S0.2.2.1.2 q hq).2.2.1.1
  refine loop_NN (n := nfc ds q) (F := f_X4_isReached_l50 (mx (10 + k)) v2 v3 (nI i) (mx (10 + q))) (by omega)
    (fun j h' => ∃ s met', Ef [] [] (c + 2 * (rl ++ s).length) h0 h' ∧ BR h' mx (10 + ds.length) v2 v3 1302 160 (rl ++ s) met' ∧ BI ds k (rl ++ s) met' ∧ (∀ x, met x = true → met' x = true) ∧ ∀ y ∈ fcs ds q j, y ≠ 10 + k ∧ met' y = true)
    (fun r => (∃ h', r = rok (Sum.inl ()) h' ∧ Ef [] [] (c + 2 * (ds.length + 1)) h0 h' ∧ Ab ds (10 + k) (10 + k)) ∨
      (∃ h' s met', r = rok (Sum.inr ()) h' ∧ Ef [] [] (c + 2 * (rl ++ s).length) h0 h' ∧ BR h' mx (10 + ds.length) v2 v3 1302 160 (rl ++ s) met' ∧ BI ds k (rl ++ s) met' ∧ (∀ x, met x = true → met' x = true) ∧ dn ds k (10 + q) met')) ?_ ?_ (Nat.zero_le _) ⟨[], met, by rw [List.append_nil]; exact u, by rw [List.append_nil]; exact B, by rw [List.append_nil]; exact I, fun _ z => z, fun y hy => by simp [fcs] at hy⟩
  · rintro N j h1 hj ⟨s, met', u1, B1, I1, mo, hd⟩ next
    rw [f_X4_isReached_l50_s]
    unfold b_X4_isReached_l50 f_X4_isReached_l50b111
    have S1 := SM_ef u1 (by constructor <;> simp) S0
    have R1 := RM_ef S0 u1 (by simp) (by simp) (by simp) R0
    obtain ⟨r1, r2, r3⟩ := R1 (10 + q) (by omega)
    rw [faF_hi hq] at r2
    have kq := S1.kk (k := 10 + q) (by omega)
    have kL : lsK h1 (fr h1 376 (mx (10 + q))) := ⟨by rw [kq.l376]; decide, by rw [kq.l376]; decide, r3⟩
    have len : (ls h1 (fr h1 376 (mx (10 + q)))).length = nfc ds q := by rw [r2, List.length_map]; exact fcs_len q _
    have hm : (fcl ds q).getD j 0 = fcn ds q j := by
      show ((List.range (nfc ds q)).map (fcn ds q)).getD j 0 = _
      exact gr_map0 hj
    have hin : fcn ds q j ∈ fcl ds q := by
      show fcn ds q j ∈ (List.range (nfc ds q)).map (fcn ds q)
      exact List.mem_map.mpr ⟨j, List.mem_range.mpr hj, rfl⟩
    have hp : fcn ds q j < 10 + ds.length := fcs_lt (k := q) (i := nfc ds q) _ hin
    have s4 := fcl_so (o.2 q hq) _ hin
    have ab1 : Ab ds (10 + k) (fcn ds q j) := by
      have un : Un ds (10 + q) (fcn ds q j) := ⟨q, hq, rfl, by unfold upk; rw [decide_eq_true hin, Bool.or_true]⟩
      rcases hq2 with z | z
      · rw [z] at un; exact .single un
      · exact .tail z un
    have kp := S1.kk hp
    have bl := BI_len I1
    rw [ldR_e kq.1, lsSize_e kL, len, if_neg (sz_no hj (by omega)), ldR_e kq.1, lg_e kL (by omega) (by omega), r2, gE_map 0 (by show j < (fcs ds q _).length; rw [fcs_len]; exact hj), hm, cast_e kp.1 (by simp), eqR_e kp.1 (by decide)]
    by_cases z : fcn ds q j = 10 + k
    · rw [if_pos (by rw [z])]
      exact .inl ⟨h1, rfl, u1.le (by omega), by rw [z] at ab1; exact ab1⟩
    rw [if_neg (fun y => z (S1.inj hp (by omega) y)), ldI_e kp.1, kp.2.1, Rw_ld B1.1 (by decide) hp (by omega), zB_if]
    by_cases m : met' (fcn ds q j) = true
    · rw [if_pos m, lt3_n]
      refine next h1 ⟨s, met', u1, B1, I1, mo, fun y hy => ?_⟩
      rw [fcs_s] at hy
      rcases List.mem_append.mp hy with w | w
      · exact hd y w
      · rw [List.mem_singleton.mp w]; exact ⟨z, m⟩
    · have m' : met' (fcn ds q j) = false := by simpa using m
      have u2 := u1.sXi (j := fcn ds q j) (v := zB true) B1.1.1 (by decide) (.inl n2)
      have B2 := BR_st (x := fcn ds q j) B1 (by decide)
      have kl2 : kc (sXi h1 v2 (fcn ds q j) (zB true)) v3 = 160 := B1.2.1
      have ln2 : (ls (sXi h1 v2 (fcn ds q j) (zB true)) v3).length = (rl ++ s).length := by rw [B2.2.2.2, List.length_map]
      have u3 := Ef_ladb (v := mx (fcn ds q j)) (b := 2) u2 kl2 (by decide) (.inl n3) (by omega) (by rw [ln2]; omega)
      have B3 := BR_ad (x := fcn ds q j) B2 (by decide) (by omega)
      have I3 := BI_add I1 m' ab1 hp s4
      have kp2 : kc (sXi h1 v2 (fcn ds q j) (zB true)) (mx (fcn ds q j)) = 47 := kp.1
      rw [if_neg m, ldI_e kp.1, kp.2.1, Rw_sv B1.1 (by decide) hp (by omega), zB1, lsAdd_e ⟨by rw [kl2]; decide, by rw [kl2]; decide, B2.2.2.1⟩ (.inr (.inr (.inr (by rw [kp2]; decide)))) (by omega), lt3_n]
      refine next _ ⟨s ++ [fcn ds q j], ud met' (fcn ds q j) true, ?_, by rw [← List.append_assoc]; exact B3, by rw [← List.append_assoc]; exact I3, fun x hx => ?_, fun y hy => ?_⟩
      · rw [← List.append_assoc, List.length_append, List.length_singleton]
        exact u3.le (by omega)
      · by_cases w : x = fcn ds q j
        · rw [w, ud_s]
        · rw [ud_o w]; exact mo x hx
      · rw [fcs_s] at hy
        rcases List.mem_append.mp hy with w | w
        · refine ⟨(hd y w).1, ?_⟩
          by_cases v : y = fcn ds q j
          · rw [v, ud_s]
          · rw [ud_o v]; exact (hd y w).2
        · rw [List.mem_singleton.mp w, ud_s]; exact ⟨z, rfl⟩
  · rintro N h1 ⟨s, met', u1, B1, I1, mo, hd⟩
    rw [f_X4_isReached_l50_s]
    unfold b_X4_isReached_l50
    have S1 := SM_ef u1 (by constructor <;> simp) S0
    have R1 := RM_ef S0 u1 (by simp) (by simp) (by simp) R0
    obtain ⟨r1, r2, r3⟩ := R1 (10 + q) (by omega)
    rw [faF_hi hq] at r2
    have kq := S1.kk (k := 10 + q) (by omega)
    have kL : lsK h1 (fr h1 376 (mx (10 + q))) := ⟨by rw [kq.l376]; decide, by rw [kq.l376]; decide, r3⟩
    have len : (ls h1 (fr h1 376 (mx (10 + q)))).length = nfc ds q := by rw [r2, List.length_map]; exact fcs_len q _
    rw [ldR_e kq.1, lsSize_e kL, len, if_pos (sz_le (Nat.le_refl _) (by omega))]
    refine .inr ⟨h1, s, met', rfl, u1, B1, I1, mo, fun y hy => hd y ?_⟩
    rw [show 10 + q - 10 = q by omega] at hy
    exact hy
