/-! PHASE B tokens 1: texts as bytes; the component's looking -/
set_option maxRecDepth 100000
/-- the byte at a place; 256 behind the end -/
def ch (B : List Nat) (k : Nat) : Nat := B.getD k 256
def ck (c : Nat) : Int32 := if c = 256 then -1 else nI c
def okB (B : List Nat) : Prop := B.length ≤ 300 ∧ ∀ c ∈ B, c < 256
theorem gD_in {l : List Nat} {n d : Nat} (h : n < l.length) : l.getD n d = l[n] := by rw [List.getD_eq_getElem?_getD, List.getElem?_eq_getElem h]; rfl
theorem gD_out {l : List Nat} {n d : Nat} (h : l.length ≤ n) : l.getD n d = d := by rw [List.getD_eq_getElem?_getD, List.getElem?_eq_none h]; rfl
theorem ch_lt {B : List Nat} (ok : okB B) (k : Nat) : ch B k ≤ 256 := by
  unfold ch
  by_cases h : k < B.length
  · rw [gD_in h]; exact Nat.le_of_lt (ok.2 _ (List.getElem_mem h))
  · rw [gD_out (Nat.le_of_not_lt h)]; exact Nat.le_refl _
theorem ch_in {B : List Nat} (ok : okB B) {k : Nat} (h : k < B.length) : ch B k < 256 := by
  unfold ch; rw [gD_in h]; exact ok.2 _ (List.getElem_mem h)
theorem ch_out {B : List Nat} {k : Nat} (h : B.length ≤ k) : ch B k = 256 := by unfold ch; rw [gD_out h]
theorem ch_256 {B : List Nat} (ok : okB B) {k : Nat} : ch B k = 256 ↔ B.length ≤ k :=
  ⟨fun e => Nat.le_of_not_lt fun h => by have := ch_in ok h; omega, ch_out⟩
/-- an array of bytes -/
def ByA (h : HP) (p : Nat) (B : List Nat) : Prop := tiK (kc h p) = 1 ∧ xl h p = B.length ∧ ∀ j, j < B.length → xi h p j = sb_b (B.getD j 0)
/-- the component's tokens over a text -/
def TokO (h : HP) (t : Nat) (B : List Nat) (st : Nat) : Prop := kc h t = 10 ∧ fi h 149 t = nI B.length ∧ ByA h (fr h 148 t) B ∧ fr h 150 t = st ∧ kc h st = 2 ∧ kc h (fr h 27 st) = 69
theorem x_look {h : HP} {t st : Nat} {B : List Nat} (ok : okB B) (T : TokO h t B st) {k : Nat} (hk : k < 2 ^ 31) : f_X9_look t (nI k) h = rok (ck (ch B k)) h := by
  obtain ⟨t1, t2, ⟨b1, b2, b3⟩, _⟩ := T
  have hl := ok.1
  unfold f_X9_look
  rw [ldI_e t1, t2]
  by_cases c : B.length ≤ k
  · rw [if_pos ((nI_leI (by omega) hk).mpr c), ch_out c]; rfl
  · have hlt : k < B.length := by omega
    rw [if_neg (fun z => c ((nI_leI (by omega) hk).mp z)), ldR_e t1]
    unfold aldI
    have hi : inA (nI k) (xl h (fr h 148 t)) := by rw [b2]; exact inA_nI hlt (by omega)
    rw [if_pos ⟨b1, hi⟩, nI_clamp hk, b3 k hlt]
    have hb := ch_in ok hlt
    have e : B.getD k 0 = ch B k := by unfold ch; rw [gD_in hlt, gD_in hlt]
    rw [e]
    show rok (sb_b (ch B k) &&& (255 : Int32)) h = _
    rw [(sb_byte _ hb).1]
    unfold ck
    rw [if_neg (by omega)]
def isBlk (c : Nat) : Bool := c == 32 || c == 9 || c == 10 || c == 13
def isDig (c : Nat) : Bool := decide (48 ≤ c) && decide (c ≤ 57)
def isLet (c : Nat) : Bool := (decide (97 ≤ c) && decide (c ≤ 122)) || (decide (65 ≤ c) && decide (c ≤ 90)) || c == 95
def isLD (c : Nat) : Bool := isLet c || isDig c
theorem x_isBlank {c : Nat} (hc : c ≤ 256) (h : HP) : f_X9_isBlank (ck c) h = rok (zB (isBlk c)) h := by
  unfold f_X9_isBlank
  simp only [spI]
  congr 1
  exact (by decide +kernel : ∀ c, c < 257 → (if ck c = (32 : Int32) then (1 : Int32) else if ck c = (9 : Int32) then 1 else if ck c = (10 : Int32) then 1 else if ck c = (13 : Int32) then 1 else 0) = zB (isBlk c)) c (by omega)
theorem x_isDigit {c : Nat} (hc : c ≤ 256) (h : HP) : f_X9_isDigit (ck c) h = rok (zB (isDig c)) h := by
  unfold f_X9_isDigit
  simp only [spI]
  congr 1
  exact (by decide +kernel : ∀ c, c < 257 → (if ck c < (48 : Int32) then (0 : Int32) else if (57 : Int32) < ck c then 0 else 1) = zB (isDig c)) c (by omega)
theorem x_isLetter {c : Nat} (hc : c ≤ 256) (h : HP) : f_X9_isLetter (ck c) h = rok (zB (isLet c)) h := by
  unfold f_X9_isLetter f_X9_isLetter_b12 f_X9_isLetter_b24
  simp only [spI]
  congr 1
  exact (by decide +kernel : ∀ c, c < 257 → (if ck c < (97 : Int32) then (if ck c < (65 : Int32) then (if ck c = (95 : Int32) then (1 : Int32) else 0) else if ck c ≤ (90 : Int32) then 1 else if ck c = (95 : Int32) then 1 else 0) else if ck c ≤ (122 : Int32) then 1 else if ck c < (65 : Int32) then (if ck c = (95 : Int32) then 1 else 0) else if ck c ≤ (90 : Int32) then 1 else if ck c = (95 : Int32) then 1 else 0) = zB (isLet c)) c (by omega)
/-- the place behind all that are so -/
def run (p : Nat → Bool) (B : List Nat) (k : Nat) : Nat := k + ((B.drop k).takeWhile p).length
theorem run_step {p : Nat → Bool} (hp : p 256 = false) (B : List Nat) (k : Nat) : run p B k = if p (ch B k) then run p B (k + 1) else k := by
  unfold run ch
  by_cases h : k < B.length
  · rw [List.drop_eq_getElem_cons h, gD_in h, List.takeWhile_cons]
    by_cases c : p B[k] = true
    · rw [if_pos c, if_pos c, List.length_cons]; omega
    · rw [if_neg c, if_neg c]; rfl
  · rw [gD_out (Nat.le_of_not_lt h), hp, List.drop_eq_nil_of_le (Nat.le_of_not_lt h)]; rfl
theorem run_ge (p : Nat → Bool) (B : List Nat) (k : Nat) : k ≤ run p B k := Nat.le_add_right _ _
theorem run_le (p : Nat → Bool) {B : List Nat} {k : Nat} (h : k ≤ B.length) : run p B k ≤ B.length := by
  unfold run
  have h1 : ((B.drop k).takeWhile p).length ≤ (B.drop k).length := List.Sublist.length_le (List.takeWhile_sublist _)
  rw [List.length_drop] at h1; omega
theorem run_end {p : Nat → Bool} (hp : p 256 = false) (B : List Nat) : ∀ n k, B.length - k < n → p (ch B (run p B k)) = false := by
  intro n
  induction n with
  | zero => intro k h; omega
  | succ n ih =>
    intro k h
    rw [run_step hp]
    by_cases c : p (ch B k) = true
    · rw [if_pos c]
      refine ih (k + 1) ?_
      have : k < B.length := Nat.lt_of_not_le fun z => by rw [ch_out z, hp] at c; exact Bool.noConfusion c
      omega
    · rw [if_neg c]; simpa using c
/-- a piece of the text -/
def seg (B : List Nat) (a b : Nat) : List Nat := (B.drop a).take (b - a)
/-- a loop over the text that goes on while a byte is so -/
theorem run_loop {F : Nat → Int32 → HP → Rs Int32} {p : Nat → Bool} (hp : p 256 = false) {B : List Nat} (ok : okB B) {h : HP}
    (hF : ∀ n k, k ≤ B.length → F (n + 1) (nI k) h = if p (ch B k) then F n (nI (k + 1)) h else rok (nI k) h) : ∀ n k, B.length - k < n → k ≤ B.length → F n (nI k) h = rok (nI (run p B k)) h := by
  intro n
  induction n with
  | zero => intro k h1 _; omega
  | succ n ih =>
    intro k h1 h2
    rw [hF n k h2, run_step hp]
    by_cases c : p (ch B k) = true
    · rw [if_pos c, if_pos c]
      have : k < B.length := Nat.lt_of_not_le fun z => by rw [ch_out z, hp] at c; exact Bool.noConfusion c
      exact ih (k + 1) (by omega) (by omega)
    · rw [if_neg c, if_neg c]
theorem zB_if {β : Type} (b : Bool) (x y : β) : (if zB b = 0 then x else y) = if b then y else x := by cases b <;> rfl
theorem x_blanks {h : HP} {t st : Nat} {B : List Nat} (ok : okB B) (T : TokO h t B st) {k : Nat} (hk : k ≤ B.length) : f_X9_next_l5 t NN (nI k) h = rok (nI (run isBlk B k)) h := by
  have hl := ok.1
  refine run_loop (F := fun n => f_X9_next_l5 t n) rfl ok (fun n k hk => ?_) NN k (by have := NN_ge (k := 301) (by omega); omega) hk
  show f_X9_next_l5 t (n + 1) (nI k) h = _
  rw [f_X9_next_l5_s]
  unfold b_X9_next_l5
  rw [if_pos T.1, x_look ok T (by omega), bd_ok, x_isBlank (ch_lt ok k), bd_ok, zB_if]
  simp only [lt3, nI_1]
theorem x_names {h : HP} {t st : Nat} {B : List Nat} (ok : okB B) (T : TokO h t B st) (v1 : Int32) {k : Nat} (hk : k ≤ B.length) : f_X9_readName_l2 t v1 NN (nI k) h = rok (nI (run isLD B k)) h := by
  have hl := ok.1
  refine run_loop (F := fun n => f_X9_readName_l2 t v1 n) rfl ok (fun n k hk => ?_) NN k (by have := NN_ge (k := 301) (by omega); omega) hk
  show f_X9_readName_l2 t v1 (n + 1) (nI k) h = _
  rw [f_X9_readName_l2_s]
  unfold b_X9_readName_l2
  rw [if_pos T.1, x_look ok T (by omega), bd_ok, x_isLetter (ch_lt ok k), bd_ok, zB_if, if_pos T.1, x_look ok T (by omega), bd_ok, x_isDigit (ch_lt ok k), bd_ok, zB_if]
  simp only [f_X9_readName_l2b24, lt3, nI_1]
  unfold isLD
  cases isLet (ch B k) <;> cases isDig (ch B k) <;> rfl
theorem x_digits {h : HP} {t st : Nat} {B : List Nat} (ok : okB B) (T : TokO h t B st) (v1 : Int32) {k : Nat} (hk : k ≤ B.length) : f_X9_readNumber_l2 t v1 NN (nI k) h = rok (nI (run isDig B k)) h := by
  have hl := ok.1
  refine run_loop (F := fun n => f_X9_readNumber_l2 t v1 n) rfl ok (fun n k hk => ?_) NN k (by have := NN_ge (k := 301) (by omega); omega) hk
  show f_X9_readNumber_l2 t v1 (n + 1) (nI k) h = _
  rw [f_X9_readNumber_l2_s]
  unfold b_X9_readNumber_l2
  rw [if_pos T.1, x_look ok T (by omega), bd_ok, x_isDigit (ch_lt ok k), bd_ok, zB_if]
  simp only [lt3, nI_1]
theorem x_digits2 {h : HP} {t st : Nat} {B : List Nat} (ok : okB B) (T : TokO h t B st) (v1 v2 : Int32) {k : Nat} (hk : k ≤ B.length) : f_X9_readReal_l4 t v1 v2 NN (nI k) h = rok (nI (run isDig B k)) h := by
  have hl := ok.1
  refine run_loop (F := fun n => f_X9_readReal_l4 t v1 v2 n) rfl ok (fun n k hk => ?_) NN k (by have := NN_ge (k := 301) (by omega); omega) hk
  show f_X9_readReal_l4 t v1 v2 (n + 1) (nI k) h = _
  rw [f_X9_readReal_l4_s]
  unfold b_X9_readReal_l4
  rw [if_pos T.1, x_look ok T (by omega), bd_ok, x_isDigit (ch_lt ok k), bd_ok, zB_if]
  simp only [lt3, nI_1]
/-- the frames of a token's step: only the tokens and the stop change -/
theorem TokO_mono {h h' : HP} {t st t' : Nat} {B : List Nat} {a : Nat} {X : List Nat} (T : TokO h t B st) (s : St [] X a h h') (hX : ∀ x ∈ X, kc h x = 72 ∨ kc h x = 0) : TokO h' t B st := by
  obtain ⟨t1, t2, ⟨b1, b2, b3⟩, t3, t4, t5⟩ := T
  have nX : ∀ p c, kc h p = c → c ≠ 72 → c ≠ 0 → p ∉ X := fun p c hp h1 h2 hm => by
    rcases hX p hm with z | z
    · exact h1 (hp.symm.trans z)
    · exact h2 (hp.symm.trans z)
  have e1 := s.2.eq t1 (by decide) (by decide) (nX _ _ t1 (by decide) (by decide))
  have e2 := s.2.eq t4 (by decide) (by decide) (nX _ _ t4 (by decide) (by decide))
  have kb0 : kc h (fr h 148 t) ≠ 0 := fun z => by rw [z] at b1; exact absurd b1 (by decide)
  have kb72 : kc h (fr h 148 t) ≠ 72 := fun z => by rw [z] at b1; exact absurd b1 (by decide)
  have e3 := s.2.eq (c := kc h (fr h 148 t)) rfl kb0 (by simp) (nX _ _ rfl kb72 kb0)
  have f148 : fr h' 148 t = fr h 148 t := e1.2.2.1 148
  have f27 : fr h' 27 st = fr h 27 st := e2.2.2.1 27
  refine ⟨s.2.kk t1 (by decide), by rw [e1.1 149, t2], ⟨?_, ?_, fun j hj => ?_⟩, by rw [e1.2.2.1 150, t3], s.2.kk t4 (by decide), ?_⟩
  · rw [f148, s.2.kk rfl kb0]; exact b1
  · rw [f148, s.2.xx (c := kc h (fr h 148 t)) rfl kb0]; exact b2
  · rw [f148, e3.2.2.2.1 j]; exact b3 j hj
  · rw [f27]; exact s.2.kk t5 (by decide)
