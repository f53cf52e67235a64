/-! PHASE B tokens 9: the twin's tokens: words among words, a token put down, numbers -/
set_option maxRecDepth 100000
def MT (h : HP) (a : Nat) (T : Tk) : Prop := kc h a = 44 ∧ fi h 349 a = nI T.1 ∧ fi h 350 a = nI T.2.1 ∧ kc h (fr h 351 a) = 71 ∧ tx h (fr h 351 a) = T.2.2.1 ∧ fj h 352 a = T.2.2.2.1
theorem MT_fr {S : Nat → Bool} {h h' : HP} {a : Nat} {T : Tk} (f : Fr S h h') (m : MT h a T) (h1 : S 44 = true) (h2 : S 71 = true) : MT h' a T := by
  obtain ⟨m1, m2, m3, m4, m5, m6⟩ := m
  obtain ⟨a1, a2, a3⟩ := f.at m1 (by decide) h1
  obtain ⟨b1, b2, b3⟩ := f.at m4 (by decide) h2
  have e : fr h' 351 a = fr h 351 a := a3.2.2.1 351
  exact ⟨a1, (a3.1 349).trans m2, (a3.1 350).trans m3, by rw [e]; exact b1, by rw [e, b3.2.2.2.2.2.2.2.1]; exact m5, (a3.2.1 352).trans m6⟩
/-- whether a word stands at a place of the words -/
def mAt (W s : List Nat) (k : Nat) : Prop := W.getD k 0 = 32 ∧ W.getD (k + s.length + 1) 0 = 32 ∧ (W.drop (k + 1)).take s.length = s
theorem take_snoc {l : List Nat} {i : Nat} (h : i < l.length) : l.take (i + 1) = l.take i ++ [l[i]] := (List.take_append_getElem h).symm
theorem m_am_e {h : HP} {v0 v1 k : Nat} {W s : List Nat} (k0 : kc h v0 = 71) (t0 : tx h v0 = W) (hW : W.length < 1000) (hWb : ∀ c ∈ W, c < 256) (k1 : kc h v1 = 71) (t1 : tx h v1 = s) (hsb : ∀ c ∈ s, c < 256) (hk : k + s.length + 1 < W.length) (n : Nat) : ∀ i, s.length - i < n → i ≤ s.length →
    f_X4_among_l53 v0 v1 (nI s.length) (nI k) n 1 (nI i) h = rok (zB (decide ((W.drop (k + 1 + i)).take (s.length - i) = s.drop i))) h := by
  induction n with
  | zero => intro i h1; omega
  | succ n ih =>
    intro i h1 h2
    rw [f_X4_among_l53_s]
    unfold b_X4_among_l53
    rw [if_neg (show ¬ (1 : Int32) = 0 by decide)]
    by_cases g : s.length ≤ i
    · have e : i = s.length := by omega
      subst e
      rw [if_pos ((nI_leI (by omega) (by omega)).mpr g), Nat.sub_self, List.take_zero, List.drop_eq_nil_of_le (Nat.le_refl _)]; rfl
    · have hi : i < s.length := by omega
      have hj : k + 1 + i < W.length := by omega
      have b1 := hWb _ (List.getElem_mem hj)
      have b2 := hsb _ (List.getElem_mem hi)
      rw [if_neg (fun z => g ((nI_leI (by omega) (by omega)).mp z)), show nI k + (1 : Int32) = nI (k + 1) from nI_1 k, nI_add, txAt_ok (c := W[k + 1 + i]) k0 (by rw [t0]; exact hj) (by rw [t0]; omega) (by rw [t0]; exact gD_in hj), txAt_ok (c := s[i]) k1 (by rw [t1]; exact hi) (by rw [t1]; omega) (by rw [t1]; exact gD_in hi)]
      simp only [f_X4_among_l53b88, lt3, nI_1]
      rw [List.drop_eq_getElem_cons hj, List.drop_eq_getElem_cons hi, show s.length - i = s.length - (i + 1) + 1 by omega, List.take_succ_cons, show k + 1 + i + 1 = k + 1 + (i + 1) by omega]
      by_cases q : W[k + 1 + i] = s[i]
      · rw [if_pos ((nI_eq (by omega) (by omega)).mpr q), ih (i + 1) (by omega) (by omega)]
        refine congrArg (fun b => rok (zB b) h) (decide_eq_decide.mpr ⟨fun z => ?_, fun z => (List.cons.inj z).2⟩)
        rw [q, z]
      · rw [if_neg (fun z => q ((nI_eq (by omega) (by omega)).mp z))]
        have e0 : f_X4_among_l53 v0 v1 (nI s.length) (nI k) n 0 (nI (i + 1)) h = rok 0 h := by
          obtain ⟨m, rfl⟩ : ∃ m, n = m + 1 := ⟨n - 1, by omega⟩
          rw [f_X4_among_l53_s]
          unfold b_X4_among_l53
          rw [if_pos rfl]
        rw [e0, zBf]
        intro z; exact q (List.cons.inj z).1
theorem m_am_l {h : HP} {v0 v1 : Nat} {W s : List Nat} (k0 : kc h v0 = 71) (t0 : tx h v0 = W) (hW : W.length < 1000) (hWb : ∀ c ∈ W, c < 256) (k1 : kc h v1 = 71) (t1 : tx h v1 = s) (hsb : ∀ c ∈ s, c < 256) (hs : s.length < 1000) (n : Nat) : ∀ k, W.length - k < n → k ≤ W.length →
    ∃ r, f_X4_among_l7 v0 v1 (nI s.length) n (nI k) h = rok r h ∧ (r = Sum.inl () ↔ ∃ j, k ≤ j ∧ j + s.length + 1 < W.length ∧ mAt W s j) := by
  induction n with
  | zero => intro k h1; omega
  | succ n ih =>
    intro k h1 h2
    rw [f_X4_among_l7_s]
    unfold b_X4_among_l7
    rw [txLen_e k0, t0, nI_add, show nI (k + s.length) + (1 : Int32) = nI (k + s.length + 1) from nI_1 _]
    by_cases g : W.length ≤ k + s.length + 1
    · rw [if_pos ((nI_leI (by omega) (by omega)).mpr g)]
      exact ⟨_, rfl, ⟨fun z => by (cases z), fun ⟨j, a, b, c⟩ => absurd b (by omega)⟩⟩
    · rw [if_neg (fun z => g ((nI_leI (by omega) (by omega)).mp z))]
      obtain ⟨r, e1, e2⟩ := ih (k + 1) (by omega) (by omega)
      have skip : ¬ mAt W s k → ∃ r, f_X4_among_l7b96 v0 v1 (nI s.length) (f_X4_among_l7 v0 v1 (nI s.length) n) (nI k) 0 h = rok r h ∧ (r = Sum.inl () ↔ ∃ j, k ≤ j ∧ j + s.length + 1 < W.length ∧ mAt W s j) := by
        intro nm
        unfold f_X4_among_l7b96
        rw [if_pos rfl]
        simp only [lt3, nI_1]
        refine ⟨r, e1, e2.trans ⟨fun ⟨j, a, b, c⟩ => ⟨j, by omega, b, c⟩, fun ⟨j, a, b, c⟩ => ⟨j, ?_, b, c⟩⟩⟩
        by_cases e : j = k
        · rw [e] at c; exact absurd c nm
        · omega
      have b48 : f_X4_among_l7b47 v0 v1 (nI s.length) (f_X4_among_l7 v0 v1 (nI s.length) n) (nI k) h = f_X4_among_l7b96 v0 v1 (nI s.length) (f_X4_among_l7 v0 v1 (nI s.length) n) (nI k) 0 h := by
        unfold f_X4_among_l7b47 f_X4_among_l7b48
        have e0 : f_X4_among_l53 v0 v1 (nI s.length) (nI k) NN 0 0 h = rok 0 h := by
          rw [show NN = (NN - 1) + 1 from rfl, f_X4_among_l53_s]
          unfold b_X4_among_l53
          rw [if_pos rfl]
        rw [e0, bd_ok]
      have hk : k < W.length := by omega
      have hk2 : k + s.length + 1 < W.length := by omega
      have w1 := hWb _ (List.getElem_mem hk)
      have w2 := hWb _ (List.getElem_mem hk2)
      rw [txAt_ok (c := W[k]) k0 (by rw [t0]; exact hk) (by rw [t0]; omega) (by rw [t0]; exact gD_in hk)]
      have i1 : (nI W[k] = (32 : Int32)) ↔ W[k] = 32 := nk _ (c := 32) rfl (by omega) (by omega)
      have i2 : (nI W[k + s.length + 1] = (32 : Int32)) ↔ W[k + s.length + 1] = 32 := nk _ (c := 32) rfl (by omega) (by omega)
      by_cases c1 : W[k] = 32
      · rw [if_pos (i1.mpr c1), txAt_ok (c := W[k + s.length + 1]) k0 (by rw [t0]; exact hk2) (by rw [t0]; omega) (by rw [t0]; exact gD_in hk2)]
        by_cases c2 : W[k + s.length + 1] = 32
        · rw [if_pos (i2.mpr c2)]
          unfold f_X4_among_l7b48
          rw [show (0 : Int32) = nI 0 from rfl, m_am_e k0 t0 hW hWb k1 t1 hsb hk2 NN 0 (by have := NN_ge (k := 1000) (by omega); omega) (Nat.zero_le _), bd_ok, Nat.add_zero, Nat.sub_zero, List.drop_zero]
          by_cases m : (W.drop (k + 1)).take s.length = s
          · rw [zBt m]
            unfold f_X4_among_l7b96
            rw [if_neg (by decide)]
            exact ⟨_, rfl, ⟨fun _ => ⟨k, Nat.le_refl _, hk2, by rw [gD_in hk]; exact c1, by rw [gD_in hk2]; exact c2, m⟩, fun _ => rfl⟩⟩
          · rw [zBf m]; exact skip (fun z => m z.2.2)
        · rw [if_neg (fun z => c2 (i2.mp z)), b48]; exact skip (fun z => c2 (by have := z.2.1; rw [gD_in hk2] at this; exact this))
      · rw [if_neg (fun z => c1 (i1.mp z)), b48]; exact skip (fun z => c1 (by have := z.1; rw [gD_in hk] at this; exact this))
theorem KW_a' : ((List.range 210).all fun k => (List.range 31).all fun n => !((32 :: wtail KW).getD k 0 == 32) || !((32 :: wtail KW).getD (k + n + 1) 0 == 32) || (KW.contains (((32 :: wtail KW).drop (k + 1)).take n) || n == 0 || (((32 :: wtail KW).drop (k + 1)).take n).contains 32)) = true := by decide +kernel
theorem KW_a {k n : Nat} (hk : k < 210) (hn : n < 31) (h1 : (32 :: wtail KW).getD k 0 = 32) (h2 : (32 :: wtail KW).getD (k + n + 1) 0 = 32) : ((32 :: wtail KW).drop (k + 1)).take n ∈ KW ∨ n = 0 ∨ 32 ∈ ((32 :: wtail KW).drop (k + 1)).take n := by
  have := List.all_eq_true.mp (List.all_eq_true.mp KW_a' k (List.mem_range.mpr hk)) n (List.mem_range.mpr hn)
  rw [h1, h2] at this
  simp only [Bool.or_eq_true, beq_iff_eq, List.contains_iff_mem, Bool.not_eq_true', beq_self_eq_true, Bool.not_true, Bool.false_eq_true, false_or] at this
  rcases this with (z | z) | z
  · exact .inl z
  · exact .inr (.inl z)
  · exact .inr (.inr z)
theorem KW_c : ∀ u ∈ KW, ∃ k, k < 210 ∧ k + u.length + 1 < (32 :: wtail KW).length ∧ (32 :: wtail KW).getD k 0 = 32 ∧ (32 :: wtail KW).getD (k + u.length + 1) 0 = 32 ∧ ((32 :: wtail KW).drop (k + 1)).take u.length = u := by decide +kernel
theorem m_among {h : HP} (w : WG h) {v1 : Nat} {s : List Nat} (k1 : kc h v1 = 71) (t1 : tx h v1 = s) (h0 : s ≠ []) (hl : s.length ≤ 30) (hsb : ∀ c ∈ s, c < 256 ∧ c ≠ 32) : f_X4_among 2 v1 h = rok (zB (decide (s ∈ KW))) h := by
  have k0 := cst_k w (p := 2) (by decide) (by decide)
  have t0 : tx h 2 = 32 :: wtail KW := (cst_t w (by decide) (by decide)).trans KW_w
  have hWl : (32 :: wtail KW).length < 210 := by decide +kernel
  have hWb : ∀ c ∈ (32 :: wtail KW), c < 256 := by decide +kernel
  unfold f_X4_among
  rw [txLen_e k1, t1]
  obtain ⟨r, e1, e2⟩ := m_am_l k0 t0 (by omega) hWb k1 t1 (fun c hc => (hsb c hc).1) (by omega) NN 0 (by have := NN_ge (k := 1000) (by omega); omega) (Nat.zero_le _)
  rw [show (0 : Int32) = nI 0 from rfl, e1, bd_ok]
  have key : r = Sum.inl () ↔ s ∈ KW := by
    rw [e2]
    constructor
    · rintro ⟨j, _, b, c1, c2, c3⟩
      rcases KW_a (k := j) (n := s.length) (by omega) (by omega) c1 c2 with z | z | z
      · rw [c3] at z; exact z
      · exact absurd (List.length_eq_zero_iff.mp z) h0
      · rw [c3] at z; exact absurd rfl (hsb 32 z).2
    · intro m
      obtain ⟨k, _, a2, a3, a4, a5⟩ := KW_c s m
      exact ⟨k, Nat.zero_le _, a2, a3, a4, a5⟩
  by_cases m : s ∈ KW
  · rw [zBt m, key.mpr m]; rfl
  · rw [zBf m]
    cases r with
    | inl x => exact absurd (key.mp rfl) m
    | inr x => rfl
theorem nwO_e {β : Type} {c n : Nat} {h : HP} {K : Nat → HP → Rs β} : nwO c n h K = K (nx h) (nO h c n) := rfl
theorem nwC_e {β : Type} {c n : Nat} {h : HP} {K : Nat → HP → Rs β} : nwC c n h K = K (nx h) (nC h c n) := rfl
theorem nwA_e {β : Type} {c k : Nat} {h : HP} {K : Nat → HP → Rs β} (hk : k < 2 ^ 31) : nwA c (nI k) h K = K (nx h) (nA h c k) := by
  unfold nwA; rw [if_neg (nI_pos hk), nI_clamp hk]
theorem lsInit_e {β : Type} {p : Nat} {h : HP} {K : HP → Rs β} (hk : lrK h p) : lsInit p h K = K (sLc h p [] 0 0 0) := if_pos hk
theorem lsInitN_e {β : Type} {p : Nat} {i : Int32} {h : HP} {K : HP → Rs β} (hk : lrK h p) (h1 : 0 < i) (h2 : i ≤ 1000) : lsInitN p i h K = K (sLc h p [] i.toNatClampNeg 1 i.toNatClampNeg) := if_pos ⟨hk, h1, h2⟩
theorem lsClr_e {β : Type} {p : Nat} {h : HP} {K : HP → Rs β} (hk : lsK h p) : lsClr p h K = K (sL h p []) := if_pos hk
theorem lsEmp_e {β : Type} {p : Nat} {h : HP} {K : Int32 → Rs β} (hk : lsK h p) : lsEmp p h K = K (if (ls h p).length = 0 then 1 else 0) := if_pos hk
/-- a token is put down -/
theorem m_add {h : HP} {c p s k K : Nat} {l : List Nat} {bits : Int64} (w : WG h) (kc1 : kc h c = 43) (hp : fr h 347 c = p) (kp : kc h p = 131) (cpp : cp h p ≠ RAW) (hl : (ls h p).length ≤ 300) (ks : kc h s = 71) (ts : tx h s = l) (e : Int32) :
    ∃ h', f_X44_add c (nI K) (nI k) e s bits h = rok e h' ∧ St [] [p] 9 h h' ∧ cp h' p ≠ RAW ∧ ls h' p = ls h p ++ [nx h] ∧ ∀ x, MT h' (nx h) (K, k, l, bits, x) := by
  unfold f_X44_add
  rw [ldR_e kc1, hp, nwO_e]
  have hn0 : nx h ≠ 0 := by have := w.1; omega
  have hnew : kc h (nx h) = 0 := w.new
  have s1 : St [] [] (0 + 1) h (nO h 44 4) := (St.refl w [] []).nO (by omega) (by omega)
  have k1 : kc (nO h 44 4) (nx h) = 44 := kc_nO_n
  generalize hg : nO h 44 4 = h1 at *
  have s2 : St [] [] (0 + 1) h (sI h1 349 (nx h) (nI K)) := s1.sI k1 (by decide) (.inl hnew)
  have s3 : St [] [] (0 + 1) h (sI (sI h1 349 (nx h) (nI K)) 350 (nx h) (nI k)) := s2.sI k1 (by decide) (.inl hnew)
  have s4 : St [] [] (0 + 1) h (sR (sI (sI h1 349 (nx h) (nI K)) 350 (nx h) (nI k)) 351 (nx h) s) := s3.sR k1 (by decide) (.inl hnew)
  have s5 : St [] [] (0 + 1) h (sJ (sR (sI (sI h1 349 (nx h) (nI K)) 350 (nx h) (nI k)) 351 (nx h) s) 352 (nx h) bits) := s4.sJ k1 (by decide) (.inl hnew)
  rw [if_pos k1]
  unfold f_X45_init
  rw [if_neg hn0, stI_e k1, stI_e (show kc (sI h1 349 (nx h) (nI K)) (nx h) = 44 from k1), stR_e (show kc (sI (sI h1 349 (nx h) (nI K)) 350 (nx h) (nI k)) (nx h) = 44 from k1), stJ_e (show kc (sR (sI (sI h1 349 (nx h) (nI K)) 350 (nx h) (nI k)) 351 (nx h) s) (nx h) = 44 from k1), bd_ok]
  have f1 : fi (sJ (sR (sI (sI h1 349 (nx h) (nI K)) 350 (nx h) (nI k)) 351 (nx h) s) 352 (nx h) bits) 349 (nx h) = nI K := by
    show fi (sI (sI h1 349 (nx h) (nI K)) 350 (nx h) (nI k)) 349 (nx h) = _
    rw [fi_sI, if_neg (fun z => absurd z.1 (by decide)), fi_sI, if_pos ⟨rfl, rfl⟩]
  have f2 : fi (sJ (sR (sI (sI h1 349 (nx h) (nI K)) 350 (nx h) (nI k)) 351 (nx h) s) 352 (nx h) bits) 350 (nx h) = nI k := by
    show fi (sI (sI h1 349 (nx h) (nI K)) 350 (nx h) (nI k)) 350 (nx h) = _
    rw [fi_sI, if_pos ⟨rfl, rfl⟩]
  have f3 : fr (sJ (sR (sI (sI h1 349 (nx h) (nI K)) 350 (nx h) (nI k)) 351 (nx h) s) 352 (nx h) bits) 351 (nx h) = s := by
    show fr (sR (sI (sI h1 349 (nx h) (nI K)) 350 (nx h) (nI k)) 351 (nx h) s) 351 (nx h) = _
    rw [fr_sR, if_pos ⟨rfl, rfl⟩]
  have f4 : fj (sJ (sR (sI (sI h1 349 (nx h) (nI K)) 350 (nx h) (nI k)) 351 (nx h) s) 352 (nx h) bits) 352 (nx h) = bits := by rw [fj_sJ, if_pos ⟨rfl, rfl⟩]
  have k5 : kc (sJ (sR (sI (sI h1 349 (nx h) (nI K)) 350 (nx h) (nI k)) 351 (nx h) s) 352 (nx h) bits) (nx h) = 44 := k1
  generalize sJ (sR (sI (sI h1 349 (nx h) (nI K)) 350 (nx h) (nI k)) 351 (nx h) s) 352 (nx h) bits = h5 at *
  have kp5 : kc h5 p = 131 := s5.2.kk kp (by decide)
  have E5 := s5.2.eq kp (by decide) (by simp) (by simp)
  have ls5 : ls h5 p = ls h p := E5.2.2.2.2.2.2.1
  have cp5 : cp h5 p = cp h p := E5.2.2.2.2.2.2.2.2
  have K5 : lsK h5 p := ⟨by rw [kp5]; decide, by rw [kp5]; decide, by rw [cp5]; exact cpp⟩
  have ks5 : kc h5 s = 71 := s5.2.kk ks (by decide)
  have ts5 : tx h5 s = l := ((s5.2.eq ks (by decide) (by simp) (by simp)).2.2.2.2.2.2.2.1).trans ts
  rw [lsAdd_e K5 (.inr (.inr (.inr (by rw [k5]; decide)))) (by rw [ls5]; omega)]
  have s7 : St [] [p] (0 + 1 + 8) h (lad h5 p (nx h)) := (s5.wk (fun _ z => z) (fun x hx => by simp at hx) (Nat.le_refl _)).ladd kp5 (by decide) (.inr (.inr (by simp))) (by omega) (by rw [ls5]; omega)
  have K7 := lad_K (v := nx h) K5 (by rw [ls5]; omega)
  exact ⟨_, rfl, s7.le (by omega), K7.2.2, by rw [lad_ls, ls5], fun x => ⟨k5, f1, f2, by show kc h5 (fr h5 351 (nx h)) = 71; rw [f3]; exact ks5, by show tx h5 (fr h5 351 (nx h)) = l; rw [f3]; exact ts5, f4⟩⟩
