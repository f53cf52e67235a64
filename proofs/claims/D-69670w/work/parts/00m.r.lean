/-! PHASE B settle 18: the twin: which kind lies below which -/
set_option maxRecDepth 100000
variable {F K : List Nat} {c : Nat} {h h' h0 : HP} {mx : Nat → Nat} {ds : List DC} {W : Nat → Prop} {H tr L Q k v2 p : Nat} {as : List Nat} {rl : List Nat} {G : Nat → Bool}
theorem nI_mulN (a b : Nat) : nI a * nI b = nI (a * b) := (Int32.ofNat_mul a b).symm
theorem nI_subN (a : Nat) : nI (a + 10) - (10 : Int32) = nI a := by
  rw [← nI_add a 10]; exact Int32.add_sub_cancel _ _
theorem nI_idx (k n t : Nat) : ((nI k * nI n) + nI (10 + t)) - (10 : Int32) = nI (k * n + t) := by
  rw [nI_mulN, nI_add, show k * n + (10 + t) = k * n + t + 10 by omega, nI_subN]
theorem ix_lt {k t n : Nat} (hk : k < n) (ht : t < n) : k * n + t < n * n := by
  have := Nat.mul_le_mul_right n (show k + 1 ≤ n from hk)
  rw [Nat.succ_mul] at this
  omega
theorem ix_inj {k t k' t' n : Nat} (ht : t < n) (ht' : t' < n) (e : k * n + t = k' * n + t') : k = k' ∧ t = t' := by
  have hn : 0 < n := by omega
  have a : (k * n + t) / n = k := by rw [Nat.add_comm, Nat.add_mul_div_right _ _ hn, Nat.div_eq_of_lt ht, Nat.zero_add]
  have b : (k' * n + t') / n = k' := by rw [Nat.add_comm, Nat.add_mul_div_right _ _ hn, Nat.div_eq_of_lt ht', Nat.zero_add]
  have : k = k' := by rw [← a, e, b]
  subst this
  exact ⟨rfl, by omega⟩
/-- the row of a kind -/
def Bk (n k : Nat) (G : Nat → Bool) (x : Nat) : Bool := G (k * n + (x - 10))
/-- what is gone through -/
def LR (h : HP) (H : Nat) (mx : Nat → Nat) (n p v2 : Nat) (rl : List Nat) (G : Nat → Bool) : Prop := fr h 58 H = p ∧ Rw h 1322 p (n * n) G ∧ kc h v2 = 162 ∧ cp h v2 ≠ RAW ∧ ls h v2 = rl.map mx
def LI (ds : List DC) (k : Nat) (rl : List Nat) (G : Nat → Bool) : Prop :=
  (0 < rl.length ∧ rl.getD 0 0 = 10 + k) ∧ (∀ x ∈ rl, (x = 10 + k ∨ Ab ds (10 + k) x) ∧ 10 ≤ x ∧ x < 10 + ds.length) ∧
  (∀ x ∈ rl, Bk ds.length k G x = true) ∧ (∀ a b, a < rl.length → b < rl.length → rl.getD a 0 = rl.getD b 0 → a = b) ∧ ∀ x, 10 ≤ x → x < 10 + ds.length → Bk ds.length k G x = true → x ∈ rl
theorem LI_len (B : LI ds k rl G) : rl.length ≤ ds.length := by
  obtain ⟨_, b2, _, b4, _⟩ := B
  exact pig ds.length rl.length (fun a => rl.getD a 0 - 10) (fun a ha => by
    have := (b2 (rl.getD a 0) (by rw [gE_in ha]; exact List.getElem_mem _)).2
    show rl.getD a 0 - 10 < _
    omega) (fun a b ha hb e => by
    have x := (b2 (rl.getD a 0) (by rw [gE_in ha]; exact List.getElem_mem _)).2
    have y := (b2 (rl.getD b 0) (by rw [gE_in hb]; exact List.getElem_mem _)).2
    have e' : rl.getD a 0 - 10 = rl.getD b 0 - 10 := e
    exact b4 a b ha hb (by omega))
theorem Bk_st {n k x y : Nat} (hx : 10 ≤ x ∧ x < 10 + n) (hy : 10 ≤ y ∧ y < 10 + n) : Bk n k (ud G (k * n + (x - 10)) true) y = if y = x then true else Bk n k G y := by
  unfold Bk
  by_cases z : y = x
  · rw [if_pos z, z, ud_s]
  · rw [if_neg z, ud_o (fun e => z (by have := (ix_inj (n := n) (by omega) (by omega) e).2; omega))]
theorem LI_add {x : Nat} (B : LI ds k rl G) (hx : Bk ds.length k G x = false) (hab : Ab ds (10 + k) x) (hl : 10 ≤ x ∧ x < 10 + ds.length) : LI ds k (rl ++ [x]) (ud G (k * ds.length + (x - 10)) true) := by
  obtain ⟨⟨b0, b1⟩, b2, b3, b4, b5⟩ := B
  have nin : x ∉ rl := fun z => by rw [b3 x z] at hx; cases hx
  have at' : ∀ a, a < rl.length → rl.getD a 0 ∈ rl := fun a ha => by rw [gE_in ha]; exact List.getElem_mem _
  refine ⟨⟨by simp, by rw [gA_l b0]; exact b1⟩, fun y hy => ?_, fun y hy => ?_, fun a b h1 h2 e => ?_, fun y hy hy2 hm => ?_⟩
  · rcases List.mem_append.mp hy with z | z
    · exact b2 y z
    · rw [List.mem_singleton.mp z]; exact ⟨.inr hab, hl⟩
  · rcases List.mem_append.mp hy with z | z
    · rw [Bk_st hl (b2 y z).2]
      split
      · rfl
      · exact b3 y z
    · rw [List.mem_singleton.mp z, Bk_st hl hl, if_pos rfl]
  · rw [List.length_append, List.length_singleton] at h1 h2
    by_cases z : a < rl.length
    · by_cases y : b < rl.length
      · rw [gA_l z, gA_l y] at e; exact b4 a b z y e
      · rw [gA_l z, show b = rl.length by omega, gA_e] at e
        exact absurd (e ▸ at' a z) nin
    · by_cases y : b < rl.length
      · rw [gA_l y, show a = rl.length by omega, gA_e] at e
        exact absurd (e ▸ at' b y) nin
      · omega
  · rw [Bk_st hl ⟨hy, hy2⟩] at hm
    by_cases z : y = x
    · rw [z]; simp
    · rw [if_neg z] at hm
      exact List.mem_append.mpr (.inl (b5 y hy hy2 hm))
abbrev FL8 : List Nat := [58]
theorem sx8 : Sx FL8 [] := by constructor <;> decide
/-- other rows stay -/
def oth (n k : Nat) (G G' : Nat → Bool) : Prop := ∀ q t, q < n → t < n → q ≠ k → G' (q * n + t) = G (q * n + t)
theorem la119 {o : Option Nat} {v3 : Int32} {v4 : Nat} {ih : Int32 → HP → Rs Unit} {a5 : Int32} (hk : k < ds.length) (ho : ∀ y, o = some y → Ab ds (10 + k) y ∧ 10 ≤ y ∧ y < 10 + ds.length) (n2 : kc h0 v2 = 0) (np : kc h0 p = 0) (S0 : SM W h0 H tr mx ds) (u : Ef FL8 [] (c + 2 * rl.length) h0 h) (B : LR h H mx ds.length p v2 rl G) (I : LI ds k rl G) :
    ∃ h' s G', f_X4_lay_l80b119 H (nI k) v2 v3 v4 ih a5 (kxo mx o) h = ih (a5 + 1) h' ∧ Ef FL8 [] (c + 2 * (rl ++ s).length) h0 h' ∧ LR h' H mx ds.length p v2 (rl ++ s) G' ∧ LI ds k (rl ++ s) G' ∧ (∀ i, G i = true → G' i = true) ∧ oth ds.length k G G' ∧ ∀ y, o = some y → Bk ds.length k G' y = true := by
  have n60 := S0.2.2.1.1
  have S1 := SM_ef u sx8 S0
  have same : (∀ y, o = some y → Bk ds.length k G y = true) → ∃ h' s G', ih (a5 + 1) h = ih (a5 + 1) h' ∧ Ef FL8 [] (c + 2 * (rl ++ s).length) h0 h' ∧ LR h' H mx ds.length p v2 (rl ++ s) G' ∧ LI ds k (rl ++ s) G' ∧ (∀ i, G i = true → G' i = true) ∧ oth ds.length k G G' ∧ ∀ y, o = some y → Bk ds.length k G' y = true := fun z => ⟨h, [], G, rfl, by rw [List.append_nil]; exact u, by rw [List.append_nil]; exact B, by rw [List.append_nil]; exact I, fun _ z => z, fun _ _ _ _ _ => rfl, z⟩
  unfold f_X4_lay_l80b119 f_X4_lay_l80b177
  obtain ⟨b1, b2, b3, b4, b5⟩ := B
  cases g : o with
  | none =>
    rw [if_pos (show kxo mx none = 0 from rfl)]
    rw [g] at same
    exact same (fun y z => by cases z)
  | some y =>
    obtain ⟨ab, y10, yn⟩ := ho y g
    have ky := S1.kk yn
    have bl := LI_len I
    obtain ⟨t, rfl⟩ : ∃ t, y = 10 + t := ⟨y - 10, by omega⟩
    have il := ix_lt hk (show t < ds.length by omega)
    have nn : ds.length * ds.length < 2 ^ 31 := Nat.lt_of_le_of_lt (Nat.mul_le_mul n60 n60) (by decide)
    have bk : Bk ds.length k G (10 + t) = G (k * ds.length + t) := by unfold Bk; rw [show 10 + t - 10 = t by omega]
    rw [show kxo mx (some (10 + t)) = mx (10 + t) from rfl, if_neg (S1.k0 yn), ldR_e S1.2.1.1, b1, S1.n54, ldI_e ky.1, ky.2.1, nI_idx, Rw_ld b2 (by decide) il nn, zB_if]
    by_cases m : G (k * ds.length + t) = true
    · rw [if_pos m]
      rw [g] at same
      exact same (fun y z => by cases z; rw [bk]; exact m)
    · have m' : Bk ds.length k G (10 + t) = false := by rw [bk]; simpa using m
      have u2 := u.sXi (j := k * ds.length + t) (v := zB true) b2.1 (by decide) (.inl np)
      have kl2 : kc (sXi h p (k * ds.length + t) (zB true)) v2 = 162 := b3
      have ln2 : (ls (sXi h p (k * ds.length + t) (zB true)) v2).length = rl.length := by show (ls h v2).length = _; rw [b5, List.length_map]
      have u3 := Ef_ladb (v := mx (10 + t)) (b := 2) u2 kl2 (by decide) (.inl n2) (by omega) (by rw [ln2]; omega)
      have KL : lsK (sXi h p (k * ds.length + t) (zB true)) v2 := ⟨by rw [kl2]; decide, by rw [kl2]; decide, b4⟩
      have kp2 : kc (sXi h p (k * ds.length + t) (zB true)) (mx (10 + t)) = 47 := ky.1
      have I3 := LI_add I m' ab ⟨y10, yn⟩
      rw [show 10 + t - 10 = t by omega] at I3
      rw [if_neg m, ldR_e S1.2.1.1, b1, S1.n54, ldI_e ky.1, ky.2.1, nI_idx, Rw_sv b2 (by decide) il nn, zB1, lsAdd_e KL (.inr (.inr (.inr (by rw [kp2]; decide)))) (by omega)]
      refine ⟨_, [10 + t], ud G (k * ds.length + t) true, rfl, ?_, ⟨b1, Rw_st b2, b3, (lad_K KL (by omega)).2.2, ?_⟩, I3, fun i hi => ?_, fun q t2 hq ht2 hne => ?_, fun y z => ?_⟩
      · rw [List.length_append, List.length_singleton]
        exact u3.le (by omega)
      · rw [lad_ls]
        show ls h v2 ++ _ = _
        rw [b5, List.map_append]; rfl
      · by_cases w : i = k * ds.length + t
        · rw [w, ud_s]
        · rw [ud_o w]; exact hi
      · exact ud_o (fun e => hne (ix_inj ht2 (by omega) e).1)
      · cases z
        unfold Bk
        rw [show 10 + t - 10 = t by omega, ud_s]
/-- all directly above a kind are in -/
def dl (ds : List DC) (k x : Nat) (G : Nat → Bool) : Prop := ∀ y, upk ds (x - 10) y = true → Bk ds.length k G y = true
theorem Bk_mo {n k : Nat} {G G' : Nat → Bool} (mo : ∀ i, G i = true → G' i = true) {x : Nat} (h : Bk n k G x = true) : Bk n k G' x = true := mo _ h
