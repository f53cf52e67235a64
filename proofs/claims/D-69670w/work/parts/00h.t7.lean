/-! PHASE B tokens 7: rows of objects; lists that grow; the twin's looking -/
set_option maxRecDepth 100000
/-- two rows, piece by piece -/
def A2 {α β : Type} (P : α → β → Prop) : List α → List β → Prop
  | [], [] => True
  | a :: l, b :: m => P a b ∧ A2 P l m
  | [], _ :: _ => False
  | _ :: _, [] => False
theorem A2.len {α β : Type} {P : α → β → Prop} : ∀ {l : List α} {m : List β}, A2 P l m → l.length = m.length
  | [], [], _ => rfl
  | _ :: l, _ :: m, h => by rw [List.length_cons, List.length_cons, A2.len h.2]
  | [], _ :: _, h => h.elim
  | _ :: _, [], h => h.elim
theorem A2.imp {α β : Type} {P Q : α → β → Prop} : ∀ {l : List α} {m : List β}, (∀ a ∈ l, ∀ b, P a b → Q a b) → A2 P l m → A2 Q l m
  | [], [], _, _ => True.intro
  | _ :: l, _ :: m, f, h => ⟨f _ (List.mem_cons_self ..) _ h.1, A2.imp (fun a ha => f a (List.mem_cons_of_mem _ ha)) h.2⟩
  | [], _ :: _, _, h => h.elim
  | _ :: _, [], _, h => h.elim
theorem A2.app {α β : Type} {P : α → β → Prop} : ∀ {l : List α} {m : List β} {l' : List α} {m' : List β}, A2 P l m → A2 P l' m' → A2 P (l ++ l') (m ++ m')
  | [], [], _, _, _, h' => h'
  | _ :: l, _ :: m, _, _, h, h' => ⟨h.1, A2.app h.2 h'⟩
  | [], _ :: _, _, _, h, _ => h.elim
  | _ :: _, [], _, _, h, _ => h.elim
theorem A2.one {α β : Type} {P : α → β → Prop} {a : α} {b : β} (h : P a b) : A2 P [a] [b] := ⟨h, True.intro⟩
theorem A2.get {α β : Type} {P : α → β → Prop} : ∀ {l : List α} {m : List β} {i : Nat}, A2 P l m → ∀ (h1 : i < l.length) (h2 : i < m.length), P l[i] m[i]
  | [], [], _, _, h1, _ => absurd h1 (Nat.not_lt_zero _)
  | a :: l, b :: m, 0, h, _, _ => h.1
  | a :: l, b :: m, i + 1, h, h1, h2 => A2.get (i := i) h.2 (Nat.lt_of_succ_lt_succ h1) (Nat.lt_of_succ_lt_succ h2)
  | [], _ :: _, _, h, _, _ => h.elim
  | _ :: _, [], _, h, _, _ => h.elim
theorem A2.getD {α β : Type} {P : α → β → Prop} {l : List α} {m : List β} (h : A2 P l m) {i : Nat} {d : α} {e : β} (hi : i < m.length) : P (l.getD i d) (m.getD i e) := by
  have h1 : i < l.length := by rw [h.len]; exact hi
  have := A2.get h h1 hi
  rw [List.getD_eq_getElem?_getD, List.getElem?_eq_getElem h1, List.getD_eq_getElem?_getD, List.getElem?_eq_getElem hi]; exact this
theorem A2.mem {α β : Type} {P : α → β → Prop} : ∀ {l : List α} {m : List β}, A2 P l m → ∀ a ∈ l, ∃ b ∈ m, P a b
  | [], [], _, _, ha => by simp at ha
  | a :: l, b :: m, h, x, hx => by
    rcases List.mem_cons.mp hx with rfl | hx
    · exact ⟨b, List.mem_cons_self .., h.1⟩
    · obtain ⟨b', hb, hp⟩ := A2.mem h.2 x hx; exact ⟨b', List.mem_cons_of_mem _ hb, hp⟩
  | [], _ :: _, h, _, _ => h.elim
  | _ :: _, [], h, _, _ => h.elim
/-- a list with one more -/
def lad (h : HP) (p v : Nat) : HP := sLc h p (ls h p ++ [v]) (acap (cp h p) (ls h p).length) (acc (cp h p) (ls h p).length) (acs (cp h p) (ls h p).length)
theorem lsAdd_e {β : Type} {p v : Nat} {h : HP} {K : HP → Rs β} (h1 : lsK h p) (h2 : elK h v) (h3 : (ls h p).length ≤ 100000) : lsAdd p v h K = K (lad h p v) := if_pos ⟨h1, h2, h3⟩
theorem ncap_le {k n : Nat} (h : k ≤ n) : ncap k ≤ 10 + 2 * n := by unfold ncap; split <;> omega
theorem lad_K {h : HP} {p v : Nat} (h1 : lsK h p) (h3 : (ls h p).length ≤ 100000) : lsK (lad h p v) p := by
  refine ⟨h1.1, h1.2.1, ?_⟩
  unfold lad
  rw [cp_sLc, if_pos rfl]
  unfold acap
  split
  · exact h1.2.2
  · have := ncap_le h3; show _ ≠ 1099511627776; omega
theorem lad_ls {h : HP} {p v : Nat} : ls (lad h p v) p = ls h p ++ [v] := by unfold lad; rw [ls_sLc, if_pos rfl]
theorem lad_kc {h : HP} {p v : Nat} : kc (lad h p v) = kc h := rfl
theorem St.ladd {K X : List Nat} {a b : Nat} {h h1 : HP} (s : St K X a h h1) {p v c : Nat} (hk : kc h1 p = c) (hc : okc c = true) (hx : kc h p = 0 ∨ c ∈ K ∨ p ∈ X) (hb : 1 ≤ b) (h3 : 10 + 2 * (ls h1 p).length ≤ 97 * b) : St K X (a + b) h (lad h1 p v) := by
  unfold lad
  refine s.sLc hk hc hx ?_ ?_
  · unfold acc; split <;> omega
  · unfold acs; split
    · omega
    · have := ncap_le (Nat.le_refl (ls h1 p).length); omega
/-- what two heaps have alike: all objects of some kinds -/
def Fr (S : Nat → Bool) (h h' : HP) : Prop := ∀ p, kc h p ≠ 0 → S (kc h p) = true → kc h' p = kc h p ∧ xl h' p = xl h p ∧ Eq1 h h' p
theorem St.fr {K X : List Nat} {a : Nat} {h h' : HP} (s : St K X a h h') {S : Nat → Bool} (hK : ∀ k ∈ K, S k = false) (hX : ∀ x ∈ X, kc h x = 0 ∨ S (kc h x) = false) : Fr S h h' := fun p h0 hS => by
  have u := s.2.2.2.2 p h0
  refine ⟨u.1, u.2.1, u.2.2 (fun z => ?_) (fun z => ?_)⟩
  · rw [hK _ z] at hS; exact Bool.noConfusion hS
  · rcases hX p z with y | y
    · exact h0 y
    · rw [y] at hS; exact Bool.noConfusion hS
theorem Fr.refl (S : Nat → Bool) (h : HP) : Fr S h h := fun p _ _ => ⟨rfl, rfl, Eq1.refl h p⟩
theorem Fr.trans {S : Nat → Bool} {h h1 h2 : HP} (a : Fr S h h1) (b : Fr S h1 h2) : Fr S h h2 := fun p h0 hS => by
  have x := a p h0 hS
  have y := b p (by rw [x.1]; exact h0) (by rw [x.1]; exact hS)
  exact ⟨y.1.trans x.1, y.2.1.trans x.2.1, x.2.2.trans y.2.2⟩
theorem Fr.wk {S T : Nat → Bool} {h h' : HP} (f : Fr T h h') (hs : ∀ k, S k = true → T k = true) : Fr S h h' := fun p h0 hS => f p h0 (hs _ hS)
/-- at an object -/
theorem Fr.at {S : Nat → Bool} {h h' : HP} (f : Fr S h h') {p c : Nat} (hp : kc h p = c) (hc : c ≠ 0) (hS : S c = true) : kc h' p = c ∧ xl h' p = xl h p ∧ Eq1 h h' p := by
  have := f p (by rw [hp]; exact hc) (by rw [hp]; exact hS)
  rw [hp] at this; exact this
/-- an array of bytes stays -/
theorem ByA_fr {S : Nat → Bool} {h h' : HP} {p : Nat} {B : List Nat} (f : Fr S h h') (b : ByA h p B) (hS : S (kc h p) = true) : ByA h' p B := by
  obtain ⟨b1, b2, b3⟩ := b
  have k0 : kc h p ≠ 0 := fun z => by rw [z] at b1; exact absurd b1 (by decide)
  obtain ⟨e1, e2, e3⟩ := f.at rfl k0 hS
  exact ⟨by rw [e1]; exact b1, e2.trans b2, fun j hj => (e3.2.2.2.1 j).trans (b3 j hj)⟩
/-- the twin's text -/
def ByM (h : HP) (c : Nat) (B : List Nat) : Prop := kc h c = 43 ∧ ByA h (fr h 346 c) B
theorem m_code {h : HP} {c : Nat} {B : List Nat} (ok : okB B) (T : ByM h c B) {k : Nat} (hk : k < 2 ^ 31) : f_X44_code c (nI k) h = rok (ck (ch B k)) h := by
  obtain ⟨t1, b1, b2, b3⟩ := T
  have hl := ok.1
  unfold f_X44_code
  rw [ldR_e t1, alen_e (by rw [b1]; decide), b2, show Int32.ofNat B.length = nI B.length from rfl]
  by_cases g : B.length ≤ k
  · rw [if_pos ((nI_leI (by omega) hk).mpr g), ch_out g]; rfl
  · have hlt : k < B.length := by omega
    rw [if_neg (fun z => g ((nI_leI (by omega) hk).mp z)), ldR_e t1]
    have hi : inA (nI k) (xl h (fr h 346 c)) := by rw [b2]; exact inA_nI hlt (by omega)
    rw [aldI_e ⟨b1, hi⟩, nI_clamp hk, b3 k hlt]
    have hb := ch_in ok hlt
    have e : B.getD k 0 = ch B k := by unfold ch; rw [gD_in hlt, gD_in hlt]
    rw [e, (sb_byte _ hb).1]
    unfold ck
    rw [if_neg (by omega)]
theorem m_isBlank {c : Nat} (hc : c ≤ 256) (h : HP) : f_X4_isBlank (ck c) h = rok (zB (isBlk c)) h := by
  unfold f_X4_isBlank
  simp only [spI]
  congr 1
  exact (by decide +kernel : ∀ c, c < 257 → (if ck c = (9 : Int32) then (1 : Int32) else if ck c = (10 : Int32) then 1 else if ck c = (13 : Int32) then 1 else if ck c = (32 : Int32) then 1 else 0) = zB (isBlk c)) c (by omega)
theorem m_isDigit {c : Nat} (hc : c ≤ 256) (h : HP) : f_X4_isDigit (ck c) h = rok (zB (isDig c)) h := (show f_X4_isDigit (ck c) h = f_X9_isDigit (ck c) h from rfl).trans (x_isDigit hc h)
theorem m_isLetter {c : Nat} (hc : c ≤ 256) (h : HP) : f_X4_isLetter (ck c) h = rok (zB (isLet c)) h := (show f_X4_isLetter (ck c) h = f_X9_isLetter (ck c) h from rfl).trans (x_isLetter hc h)
theorem m_blanks {h : HP} {c : Nat} {B : List Nat} (ok : okB B) (T : ByM h c B) {k : Nat} (hk : k ≤ B.length) : f_X44_one_l2 c NN (nI k) h = rok (nI (run isBlk B k)) h := by
  have hl := ok.1
  refine run_loop (F := fun n => f_X44_one_l2 c n) rfl ok (fun n k hk => ?_) NN k (by have := NN_ge (k := 301) (by omega); omega) hk
  show f_X44_one_l2 c (n + 1) (nI k) h = _
  rw [f_X44_one_l2_s]
  unfold b_X44_one_l2
  rw [if_pos T.1, m_code ok T (by omega), bd_ok, m_isBlank (ch_lt ok k), bd_ok, zB_if]
  simp only [lt3, nI_1]
theorem m_names {h : HP} {c : Nat} {B : List Nat} (ok : okB B) (T : ByM h c B) (v1 : Int32) {k : Nat} (hk : k ≤ B.length) : f_X44_name_l2 c v1 NN (nI k) h = rok (nI (run isLD B k)) h := by
  have hl := ok.1
  refine run_loop (F := fun n => f_X44_name_l2 c v1 n) rfl ok (fun n k hk => ?_) NN k (by have := NN_ge (k := 301) (by omega); omega) hk
  show f_X44_name_l2 c v1 (n + 1) (nI k) h = _
  rw [f_X44_name_l2_s]
  unfold b_X44_name_l2
  rw [if_pos T.1, m_code ok T (by omega), bd_ok, m_isLetter (ch_lt ok k), bd_ok, zB_if, if_pos T.1, m_code ok T (by omega), bd_ok, m_isDigit (ch_lt ok k), bd_ok, zB_if]
  simp only [f_X44_name_l2b24, lt3, nI_1]
  unfold isLD
  cases isLet (ch B k) <;> cases isDig (ch B k) <;> rfl
theorem m_digits {h : HP} {c : Nat} {B : List Nat} (ok : okB B) (T : ByM h c B) (v1 v2 : Int32) {k : Nat} (hk : k ≤ B.length) : f_X44_number_l178 c v1 v2 NN (nI k) h = rok (nI (run isDig B k)) h := by
  have hl := ok.1
  refine run_loop (F := fun n => f_X44_number_l178 c v1 v2 n) rfl ok (fun n k hk => ?_) NN k (by have := NN_ge (k := 301) (by omega); omega) hk
  show f_X44_number_l178 c v1 v2 (n + 1) (nI k) h = _
  rw [f_X44_number_l178_s]
  unfold b_X44_number_l178
  rw [if_pos T.1, m_code ok T (by omega), bd_ok, m_isDigit (ch_lt ok k), bd_ok, zB_if]
  simp only [lt3, nI_1]
theorem m_strs {h : HP} {c : Nat} {B : List Nat} (ok : okB B) (T : ByM h c B) (v1 : Int32) {k : Nat} (hk : k ≤ B.length) : f_X44_one_l154 c v1 NN (nI k) h = rok (nI (run isStr B k)) h := by
  have hl := ok.1
  refine run_loop (F := fun n => f_X44_one_l154 c v1 n) (by decide) ok (fun n k hk => ?_) NN k (by have := NN_ge (k := 301) (by omega); omega) hk
  show f_X44_one_l154 c v1 (n + 1) (nI k) h = _
  rw [f_X44_one_l154_s]
  unfold b_X44_one_l154
  have lk := m_code ok T (show k < 2 ^ 31 by omega)
  rw [if_pos T.1, lk, bd_ok, if_pos T.1, lk, bd_ok, if_pos T.1, lk, bd_ok, if_pos T.1, lk, bd_ok]
  simp only [lt3, nI_1]
  have key := (by decide +kernel : ∀ x, x < 257 → (if ck x < (32 : Int32) then false else if (126 : Int32) < ck x then false else if ck x = (34 : Int32) then false else if ck x = (92 : Int32) then false else true) = isStr x) (ch B k) (by have := ch_lt ok k; omega)
  rw [← key]
  repeat' split
  all_goals first | rfl | (exfalso; simp_all; done)
