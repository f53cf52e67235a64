/-! PHASE B tokens 4: texts, signs -/
set_option maxRecDepth 100000
theorem x_str_l {h : HP} {t st k : Nat} {B : List Nat} (ok : okB B) (T : TokO h t B st) {f : Nat} (n : Nat) : ∀ e, B.length - e < n → k + 1 ≤ e → e ≤ B.length → e - k ≤ 101 → run isStr B e = f →
    f_X9_readString_l4 t (nI k) n (nI e) h = rok (if ch B f = 34 ∧ f - k - 1 ≤ 100 then Sum.inr (nI f) else Sum.inl ()) h := by
  have hl := ok.1
  induction n with
  | zero => intro e h1; omega
  | succ n ih =>
    intro e h1 h2 h3 h4 h5
    rw [f_X9_readString_l4_s]
    unfold b_X9_readString_l4
    rw [if_pos T.1, x_look ok T (by omega), bd_ok, if_pos T.1, x_look ok T (by omega), bd_ok]
    have hc6 := ch_lt ok e
    have rs := run_step (p := isStr) (by decide) B e
    have l34 : (ck (ch B e) = (34 : Int32)) ↔ ch B e = 34 := ckE (v := 34) hc6 (by omega)
    have l92 : (ck (ch B e) = (92 : Int32)) ↔ ch B e = 92 := ckE (v := 92) hc6 (by omega)
    have fault : ch B e ≠ 34 → isStr (ch B e) = false → ¬ (ch B f = 34 ∧ f - k - 1 ≤ 100) := by
      intro a b z
      rw [b] at rs
      rw [← h5, rs] at z
      exact a z.1
    by_cases c34 : ch B e = 34
    · have : isStr (ch B e) = false := by rw [c34]; decide
      rw [this] at rs
      have hfe : f = e := by rw [← h5, rs]; rfl
      rw [if_pos (l34.mpr c34), hfe, if_pos ⟨c34, by omega⟩]
    rw [if_neg (fun z => c34 (l34.mp z))]
    have l32 : (ck (ch B e) < (32 : Int32)) ↔ ch B e < 32 ∨ ch B e = 256 := by
      by_cases q : ch B e = 256
      · rw [q]; exact ⟨fun _ => .inr rfl, fun _ => by decide⟩
      · exact (ckL (v := 32) (by omega) (by omega)).trans ⟨.inl, fun z => by rcases z with z | z; exact z; exact absurd z q⟩
    by_cases c1 : ch B e < 32 ∨ ch B e = 256
    · have : isStr (ch B e) = false := by
        unfold isStr
        rcases c1 with z | z
        · simp; omega
        · rw [z]; decide
      rw [if_pos (l32.mpr c1), if_neg (fault c34 this)]
    rw [if_neg (fun z => c1 (l32.mp z))]
    have l126 : ((126 : Int32) < ck (ch B e)) ↔ 126 < ch B e := ckG (v := 126) (by omega) (by omega)
    by_cases c2 : 126 < ch B e
    · have : isStr (ch B e) = false := by unfold isStr; simp; omega
      rw [if_pos (l126.mpr c2), if_neg (fault c34 this)]
    rw [if_neg (fun z => c2 (l126.mp z))]
    by_cases c3 : ch B e = 92
    · have : isStr (ch B e) = false := by rw [c3]; decide
      rw [if_pos (l92.mpr c3), if_neg (fault c34 this)]
    rw [if_neg (fun z => c3 (l92.mp z)), pk_sub (by omega)]
    have good : isStr (ch B e) = true := by unfold isStr; simp; omega
    rw [good, if_pos rfl] at rs
    have heB : e < B.length := Nat.lt_of_not_le fun z => by rw [ch_out z] at good; exact absurd good (by decide)
    by_cases c4 : e - k ≤ 100
    · rw [if_pos (show nI (e - k) ≤ (100 : Int32) from nI_le (b := 100) c4 (by omega))]
      simp only [lt3, nI_1]
      exact ih (e + 1) (by omega) (by omega) (by omega) (by omega) (by rw [← rs]; exact h5)
    · rw [if_neg (show ¬ nI (e - k) ≤ (100 : Int32) from fun z => c4 ((nI_leI (b := 100) (by omega) (by omega)).mp z))]
      have := run_ge isStr B (e + 1)
      rw [if_neg]
      intro z
      rw [← rs, h5] at this; omega
/-- a text -/
theorem x_readStr {h : HP} {t st k : Nat} {B : List Nat} (ok : okB B) (w : WG h) (T : TokO h t B st) (hf : fi h 152 t = nI k) (hk : k < B.length) : XRes t st B (lexStr B k) 14 h (f_X9_readString t (nI k) h) := by
  have hl := ok.1
  simp only [f_X9_readString, lt3, nI_1]
  have r1 := run_ge isStr B (k + 1)
  have r2 := run_le isStr (B := B) (k := k + 1) (by omega)
  rw [x_str_l ok T NN (k + 1) (by have := NN_ge (k := 301) (by omega); omega) (Nat.le_refl _) (by omega) (by omega) rfl]
  unfold lexStr
  generalize run isStr B (k + 1) = f at *
  by_cases c : ch B f = 34 ∧ f - k - 1 ≤ 100
  · rw [if_pos c, if_pos c, bd_ok]
    show XRes t st B _ 14 h (if kc h t = 10 then bd (f_X9_part t (nI (k + 1)) (nI f) h) _ else none)
    rw [if_pos T.1]
    obtain ⟨q, h2, e1, s2, kq, tq, q0⟩ := x_part ok w T r1 r2
    rw [e1, bd_ok]
    have T2 := TokO_mono (t' := 0) T s2 (fun x hx => by simp at hx)
    have s2' : St [] [t, st] 14 h h2 := s2.wk (fun _ z => z) (fun x hx => by simp at hx) (Nat.le_refl _)
    have f2 : fi h2 152 t = nI k := by rw [(s2.2.eq T.1 (by decide) (by decide) (by simp)).1 152]; exact hf
    rw [if_pos T2.1, bd_u, show nI f + (1 : Int32) = nI (f + 1) from nI_1 f]
    exact XRes.ok (show (7 : Nat) ≠ 9 by decide) ((x_set (K := 7) s2.1 T2 f2 kq tq (fun _ z => absurd z (by decide))).pre s2')
  · rw [if_neg c, if_neg c, bd_ok]
    exact XRes.no ((x_wrong w T hf).le (by omega))
/-- the letters of a sign -/
def sgX (c d n : Nat) : List Nat := if n = 1 then [c] else if n = 2 then [c, d] else [62, 62, 62]
theorem x_sign {c d e : Nat} (hn : sgN c d e ≠ 0) (h : HP) : ∃ q, f_X9_sign (nI c) (nI (sgN c d e)) (ck d) h = rok q h ∧ 1 ≤ q ∧ q ≤ nStr ∧ codes (cStr.getD (q - 1) "") = sgX c d (sgN c d e) := by
  have one : ∀ c, c ∈ SG → ∃ q, f_X9_sign (nI c) (nI 1) (ck d) h = rok q h ∧ 1 ≤ q ∧ q ≤ nStr ∧ codes (cStr.getD (q - 1) "") = sgX c d 1 := by
    intro c hc
    have hc' : c = 123 ∨ c = 125 ∨ c = 40 ∨ c = 41 ∨ c = 91 ∨ c = 93 ∨ c = 44 ∨ c = 59 ∨ c = 46 ∨ c = 63 ∨ c = 58 ∨ c = 61 ∨ c = 43 ∨ c = 45 ∨ c = 42 ∨ c = 47 ∨ c = 37 ∨ c = 60 ∨ c = 62 ∨ c = 33 ∨ c = 126 ∨ c = 38 ∨ c = 94 ∨ c = 124 := by
      have : SG = [123, 125, 40, 41, 91, 93, 44, 59, 46, 63, 58, 61, 43, 45, 42, 47, 37, 60, 62, 33, 126, 38, 94, 124] := by decide
      rw [this] at hc; simpa using hc
    rcases hc' with rfl | rfl | rfl | rfl | rfl | rfl | rfl | rfl | rfl | rfl | rfl | rfl | rfl | rfl | rfl | rfl | rfl | rfl | rfl | rfl | rfl | rfl | rfl | rfl <;> exact ⟨_, rfl, by decide, by decide, (show codes (cStr.getD (_ - 1) "") = [_] by decide)⟩
  unfold sgN at hn ⊢
  by_cases c3 : c = 62 ∧ d = 62 ∧ e = 62
  · obtain ⟨rfl, rfl, rfl⟩ := c3
    exact ⟨_, rfl, by decide, by decide, by decide⟩
  · rw [if_neg c3] at hn ⊢
    by_cases c2 : (c = 60 ∧ (d = 60 ∨ d = 61)) ∨ (c = 62 ∧ (d = 62 ∨ d = 61)) ∨ ((c = 61 ∨ c = 33) ∧ d = 61) ∨ ((c = 38 ∨ c = 124) ∧ d = c)
    · rw [if_pos c2]
      rcases c2 with ⟨rfl, rfl | rfl⟩ | ⟨rfl, rfl | rfl⟩ | ⟨rfl | rfl, rfl⟩ | ⟨rfl | rfl, rfl⟩ <;> exact ⟨_, rfl, by decide, by decide, by decide⟩
    · rw [if_neg c2] at hn ⊢
      by_cases c1 : c ∈ SG
      · rw [if_pos c1]; exact one c c1
      · rw [if_neg c1] at hn; exact absurd rfl hn
theorem sg_seg {B : List Nat} (ok : okB B) {k : Nat} (hn : sgN (ch B k) (ch B (k + 1)) (ch B (k + 2)) ≠ 0) :
    k + sgN (ch B k) (ch B (k + 1)) (ch B (k + 2)) ≤ B.length ∧ seg B k (k + sgN (ch B k) (ch B (k + 1)) (ch B (k + 2))) = sgX (ch B k) (ch B (k + 1)) (sgN (ch B k) (ch B (k + 1)) (ch B (k + 2))) := by
  have in0 : ch B k ≠ 256 → k < B.length := fun z => Nat.lt_of_not_le fun y => z (ch_out y)
  have in1 : ch B (k + 1) ≠ 256 → k + 1 < B.length := fun z => Nat.lt_of_not_le fun y => z (ch_out y)
  have in2 : ch B (k + 2) ≠ 256 → k + 2 < B.length := fun z => Nat.lt_of_not_le fun y => z (ch_out y)
  have e1 : k < B.length → seg B k (k + 1) = [ch B k] := fun z => by rw [seg_step (Nat.le_refl _) z, seg_nil]; rfl
  have e2 : k + 1 < B.length → seg B k (k + 2) = [ch B k, ch B (k + 1)] := fun z => by rw [show k + 2 = k + 1 + 1 from rfl, seg_step (by omega) z, e1 (by omega)]; rfl
  have e3 : k + 2 < B.length → seg B k (k + 3) = [ch B k, ch B (k + 1), ch B (k + 2)] := fun z => by rw [show k + 3 = k + 2 + 1 from rfl, seg_step (by omega) z, e2 (by omega)]; rfl
  generalize hc : ch B k = c at *
  generalize hd : ch B (k + 1) = d at *
  generalize he : ch B (k + 2) = e at *
  unfold sgN at hn ⊢
  by_cases c3 : c = 62 ∧ d = 62 ∧ e = 62
  · rw [if_pos c3]
    obtain ⟨rfl, rfl, rfl⟩ := c3
    have := in2 (by omega)
    exact ⟨by omega, e3 this⟩
  · rw [if_neg c3] at hn ⊢
    by_cases c2 : (c = 60 ∧ (d = 60 ∨ d = 61)) ∨ (c = 62 ∧ (d = 62 ∨ d = 61)) ∨ ((c = 61 ∨ c = 33) ∧ d = 61) ∨ ((c = 38 ∨ c = 124) ∧ d = c)
    · rw [if_pos c2]
      have := in1 (by omega)
      exact ⟨by omega, e2 this⟩
    · rw [if_neg c2] at hn ⊢
      by_cases c1 : c ∈ SG
      · rw [if_pos c1]
        have c256 : c ≠ 256 := fun z => by rw [z] at c1; exact absurd c1 (by decide)
        have := in0 c256
        exact ⟨by omega, e1 this⟩
      · rw [if_neg c1] at hn; exact absurd rfl hn
theorem XRes_ite {t st : Nat} {B : List Nat} {T : Tk} {a : Nat} {h : HP} {p : Prop} [Decidable p] {r1 r2 : Rs Unit} (h1 : p → XRes t st B T a h r1) (h2 : ¬ p → XRes t st B T a h r2) : XRes t st B T a h (if p then r1 else r2) := by
  by_cases c : p
  · rw [if_pos c]; exact h1 c
  · rw [if_neg c]; exact h2 c
/-- a sign -/
theorem x_readSgn {h : HP} {t st k : Nat} {B : List Nat} (ok : okB B) (w : WG h) (T : TokO h t B st) (hf : fi h 152 t = nI k) (hk : k < B.length) : XRes t st B (lexSgn B k) 0 h (f_X9_readSign t (nI k) (nI (ch B k)) h) := by
  have hl := ok.1
  have hc := ch_in ok hk
  have hd6 := ch_lt ok (k + 1)
  have he6 := ch_lt ok (k + 2)
  have segE := @sg_seg B ok k
  unfold lexSgn
  unfold f_X9_readSign
  rw [if_pos T.1, show nI k + (1 : Int32) = nI (k + 1) from nI_1 k, x_look ok T (by omega), bd_ok]
  have hlook2 : f_X9_look t (nI k + (2 : Int32)) h = rok (ck (ch B (k + 2))) h := by rw [show nI k + (2 : Int32) = nI (k + 2) from nI_add k 2]; exact x_look ok T (by omega)
  generalize hcc : ch B k = c at *
  generalize hdd : ch B (k + 1) = d at *
  generalize hee : ch B (k + 2) = e at *
  have cE : ∀ {v : Nat} {V : Int32}, V = nI v → v < 256 → ((nI c = V) ↔ c = v) := fun hV hv => by rw [hV]; exact nI_eq (by omega) (by omega)
  have dE : ∀ {v : Nat} {V : Int32}, V = nI v → v < 256 → ((ck d = V) ↔ d = v) := fun hV hv => by rw [hV]; exact ckE hd6 hv
  have c62 := cE (v := 62) (V := 62) rfl (by omega)
  have c60 := cE (v := 60) (V := 60) rfl (by omega)
  have c61 := cE (v := 61) (V := 61) rfl (by omega)
  have c33 := cE (v := 33) (V := 33) rfl (by omega)
  have c38 := cE (v := 38) (V := 38) rfl (by omega)
  have c124 := cE (v := 124) (V := 124) rfl (by omega)
  have d62 := dE (v := 62) (V := 62) rfl (by omega)
  have d60 := dE (v := 60) (V := 60) rfl (by omega)
  have d61 := dE (v := 61) (V := 61) rfl (by omega)
  have dc : (ck d = nI c) ↔ d = c := ckE hd6 hc
  have e62 : (ck e = (62 : Int32)) ↔ e = 62 := ckE (v := 62) he6 (by omega)
  -- the end, with n letters
  have b142 : ∀ n, n = sgN c d e → n ≠ 0 → XRes t st B (8, k, seg B k (k + n), 0, k + n) 0 h (f_X9_readSign_b142 t (nI k) (nI c) (ck d) (nI n) h) := by
    intro n hn hn0
    subst hn
    obtain ⟨q, q1, q2, q3, q4⟩ := x_sign hn0 h
    unfold f_X9_readSign_b142
    rw [q1, bd_ok, if_pos T.1, bd_u, nI_add]
    obtain ⟨sl, se⟩ := segE hn0
    exact XRes.ok (show (8 : Nat) ≠ 9 by decide) (x_set (K := 8) w T hf (cst_k w q2 q3) ((cst_t w q2 q3).trans (q4.trans se.symm)) (fun _ z => absurd z (by decide)))
  have sg3 : sgN c d e ≤ 3 := by unfold sgN; (repeat' split) <;> omega
  have b115 : ∀ n, 1 < n → n = sgN c d e → XRes t st B (if sgN c d e = 0 then noTk k else (8, k, seg B k (k + sgN c d e), 0, k + sgN c d e)) 0 h (f_X9_readSign_b115 t (nI k) (nI c) (ck d) (nI n) h) := by
    intro n h1 hn
    have hn3 : n ≤ 3 := hn ▸ sg3
    unfold f_X9_readSign_b115
    rw [if_neg (show ¬ nI n = (1 : Int32) from fun z => by have := (nI_eq (b := 1) (by omega) (by omega)).mp z; omega), ← hn, if_neg (by omega)]
    exact b142 n hn (by omega)
  have three := b115 3 (by omega)
  have two := b115 2 (by omega)
  have one : ¬ (c = 62 ∧ d = 62 ∧ e = 62) → ¬ ((c = 60 ∧ (d = 60 ∨ d = 61)) ∨ (c = 62 ∧ (d = 62 ∨ d = 61)) ∨ ((c = 61 ∨ c = 33) ∧ d = 61) ∨ ((c = 38 ∨ c = 124) ∧ d = c)) → XRes t st B (if sgN c d e = 0 then noTk k else (8, k, seg B k (k + sgN c d e), 0, k + sgN c d e)) 0 h (f_X9_readSign_b115 t (nI k) (nI c) (ck d) 1 h) := by
    intro n3 n2
    have hs : sgN c d e = if c ∈ SG then 1 else 0 := by unfold sgN; rw [if_neg n3, if_neg n2]
    unfold f_X9_readSign_b115
    rw [if_pos rfl]
    have wr := x_wrong w T hf
    by_cases c126 : 126 < c
    · have nm : c ∉ SG := fun z => absurd ((by decide : ∀ x ∈ SG, x ≤ 126) c z) (by omega)
      rw [if_pos (show (126 : Int32) < nI c from (nI_ltI (a := 126) (by omega) (by omega)).mpr c126), hs, if_neg nm, if_pos rfl]
      exact XRes.no wr
    · rw [if_neg (show ¬ (126 : Int32) < nI c from fun z => c126 ((nI_ltI (a := 126) (by omega) (by omega)).mp z)), (sb_byte c hc).2.1]
      unfold txIdx
      have k73 := cst_k w (p := 73) (by decide) (by decide)
      have t73 : tx h 73 = SG := (cst_t w (by decide) (by decide)).trans (by decide)
      rw [if_pos k73, t73, if_pos (nI_pos' (by omega)), nI_clamp (by omega)]
      have key := (by decide +kernel : ∀ c, c < 127 → (0 ≤ idxL c SG 0 ↔ c ∈ SG)) c (by omega)
      show XRes t st B _ 0 h (if 0 ≤ idxL c SG 0 then _ else _)
      by_cases m : c ∈ SG
      · rw [if_pos (key.mpr m), hs, if_pos m, if_neg (by omega)]
        have h1 : sgN c d e = 1 := by rw [hs, if_pos m]
        exact b142 1 h1.symm (by omega)
      · rw [if_neg (fun z => m (key.mp z)), hs, if_neg m, if_pos rfl]
        exact XRes.no wr
  have dcI : (ck d = nI c) ↔ d = c := dc
  have v2 : ∀ {x : Prop}, x → x := fun z => z
  have b41 : ¬ (c = 62 ∧ d = 62 ∧ e = 62) → XRes t st B (if sgN c d e = 0 then noTk k else (8, k, seg B k (k + sgN c d e), 0, k + sgN c d e)) 0 h (f_X9_readSign_b41 t (nI k) (nI c) (ck d) 1 h) := by
    intro n3
    have two' : ((c = 60 ∧ (d = 60 ∨ d = 61)) ∨ (c = 62 ∧ (d = 62 ∨ d = 61)) ∨ ((c = 61 ∨ c = 33) ∧ d = 61) ∨ ((c = 38 ∨ c = 124) ∧ d = c)) → XRes t st B (if sgN c d e = 0 then noTk k else (8, k, seg B k (k + sgN c d e), 0, k + sgN c d e)) 0 h (f_X9_readSign_b115 t (nI k) (nI c) (ck d) 2 h) :=
      fun z => two (by unfold sgN; rw [if_neg n3, if_pos z])
    have one' := one n3
    revert two' one'
    generalize (if sgN c d e = 0 then noTk k else (8, k, seg B k (k + sgN c d e), 0, k + sgN c d e)) = T0
    generalize sgN c d e = m0
    intro two' one'
    unfold f_X9_readSign_b41 f_X9_readSign_b59 f_X9_readSign_b77 f_X9_readSign_b89 f_X9_readSign_b95 f_X9_readSign_b107 f_X9_readSign_b112
    simp only [c62, c60, c61, c33, c38, c124, d62, d60, d61, dcI]
    generalize f_X9_readSign_b115 t (nI k) (nI c) (ck d) 1 h = r1 at one' ⊢
    generalize f_X9_readSign_b115 t (nI k) (nI c) (ck d) 2 h = r2 at two' ⊢
    repeat' (refine XRes_ite (fun _ => ?_) (fun _ => ?_))
    all_goals first | (refine two' ?_; omega) | (refine one' ?_; omega)
  by_cases a1 : c = 62
  · rw [if_pos (c62.mpr a1)]
    by_cases a2 : d = 62
    · rw [if_pos (d62.mpr a2), if_pos T.1, hlook2, bd_ok]
      by_cases a3 : e = 62
      · rw [if_pos (e62.mpr a3)]
        exact three (by unfold sgN; rw [if_pos ⟨a1, a2, a3⟩])
      · rw [if_neg (fun z => a3 (e62.mp z))]; exact b41 (fun z => a3 z.2.2)
    · rw [if_neg (fun z => a2 (d62.mp z))]; exact b41 (fun z => a2 z.2.1)
  · rw [if_neg (fun z => a1 (c62.mp z))]; exact b41 (fun z => a1 z.1)
