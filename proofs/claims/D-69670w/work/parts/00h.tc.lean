/-! PHASE B tokens 12: all tokens of a text -/
set_option maxRecDepth 100000
/-- all tokens from a place on; the last is the end, or none -/
def lexAll (B : List Nat) : Nat → Nat → List Tk
  | 0, _ => []
  | n + 1, k => if (lex1 B k).1 = 0 ∨ (lex1 B k).1 = 9 then [lex1 B k] else lex1 B k :: lexAll B n (lex1 B k).2.2.2.2
theorem lexName_b {B : List Nat} {k : Nat} (hk : k < B.length) (h1 : isLet (ch B k) = true) : (lexName B k).1 ≠ 0 ∧ ((lexName B k).1 ≠ 9 → k < (lexName B k).2.2.2.2 ∧ (lexName B k).2.2.2.2 ≤ B.length) := by
  have r2 := run_le isLD (B := B) (k := k) (by omega)
  have r3 : k < run isLD B k := by
    rw [run_step (by decide), if_pos (by unfold isLD; rw [h1]; rfl)]
    exact run_ge isLD B (k + 1)
  unfold lexName
  repeat' split
  · exact ⟨(by decide : (2 : Nat) ≠ 0), fun _ => ⟨r3, r2⟩⟩
  · exact ⟨(by decide : (9 : Nat) ≠ 0), fun z => absurd rfl z⟩
  · exact ⟨(by decide : (1 : Nat) ≠ 0), fun _ => ⟨r3, r2⟩⟩
theorem lexNum_b {B : List Nat} {k : Nat} (hk : k < B.length) (h1 : isDig (ch B k) = true) : (lexNum B k).1 ≠ 0 ∧ ((lexNum B k).1 ≠ 9 → k < (lexNum B k).2.2.2.2 ∧ (lexNum B k).2.2.2.2 ≤ B.length) := by
  have r2 := run_le isDig (B := B) (k := k) (by omega)
  have r3 : k < run isDig B k := by
    rw [run_step (by decide), if_pos h1]
    exact run_ge isDig B (k + 1)
  unfold lexNum
  generalize run isDig B k = e at *
  by_cases c1 : ch B e = 46 ∧ isDig (ch B (e + 1)) = true
  · have heB : e < B.length := Nat.lt_of_not_le fun z => by have := c1.1; rw [ch_out z] at this; omega
    have s1 := run_ge isDig B (e + 1)
    have s2 := run_le isDig (B := B) (k := e + 1) (by omega)
    rw [if_pos c1]
    split
    · exact ⟨(by decide : (9 : Nat) ≠ 0), fun z => absurd rfl z⟩
    · exact ⟨(by decide : (5 : Nat) ≠ 0), fun _ => ⟨by show k < run isDig B (e + 1); omega, s2⟩⟩
  · rw [if_neg c1]
    by_cases c2 : ch B e = 76
    · have heB : e < B.length := Nat.lt_of_not_le fun z => by rw [ch_out z] at c2; omega
      rw [if_pos c2]
      split
      · exact ⟨(by decide : (9 : Nat) ≠ 0), fun z => absurd rfl z⟩
      · exact ⟨(by decide : (4 : Nat) ≠ 0), fun _ => ⟨by show k < e + 1; omega, by show e + 1 ≤ B.length; omega⟩⟩
    · rw [if_neg c2]
      split
      · exact ⟨(by decide : (9 : Nat) ≠ 0), fun z => absurd rfl z⟩
      · exact ⟨(by decide : (3 : Nat) ≠ 0), fun _ => ⟨r3, r2⟩⟩
theorem lexAt_b {B : List Nat} (ok : okB B) {k : Nat} (hk : k ≤ B.length) : ((lexAt B k).1 = 0 ∨ (lexAt B k).1 = 9 → (lexAt B k).2.2.2.2 = k) ∧ ((lexAt B k).1 ≠ 0 → (lexAt B k).1 ≠ 9 → k < (lexAt B k).2.2.2.2 ∧ (lexAt B k).2.2.2.2 ≤ B.length) ∧ (lexAt B k).1 ≤ 9 := by
  unfold lexAt
  by_cases c0 : ch B k = 256
  · rw [if_pos c0]; exact ⟨fun _ => rfl, fun z => absurd rfl z, (by decide : (0 : Nat) ≤ 9)⟩
  · have heB : k < B.length := Nat.lt_of_not_le fun z => c0 (ch_out z)
    rw [if_neg c0]
    have fin : ∀ T : Tk, T.1 ≠ 0 → (T.1 ≠ 9 → k < T.2.2.2.2 ∧ T.2.2.2.2 ≤ B.length) → T.1 ≤ 9 → (T.1 = 9 → T.2.2.2.2 = k) → (T.1 = 0 ∨ T.1 = 9 → T.2.2.2.2 = k) ∧ (T.1 ≠ 0 → T.1 ≠ 9 → k < T.2.2.2.2 ∧ T.2.2.2.2 ≤ B.length) ∧ T.1 ≤ 9 := fun T a b c d => ⟨fun z => by rcases z with z | z; exact absurd z a; exact d z, fun _ z => b z, c⟩
    have finN : (( noTk k).1 = 0 ∨ (noTk k).1 = 9 → (noTk k).2.2.2.2 = k) ∧ ((noTk k).1 ≠ 0 → (noTk k).1 ≠ 9 → k < (noTk k).2.2.2.2 ∧ (noTk k).2.2.2.2 ≤ B.length) ∧ (noTk k).1 ≤ 9 := ⟨fun _ => rfl, fun _ z => absurd rfl z, (by decide : (9 : Nat) ≤ 9)⟩
    by_cases c1 : isLet (ch B k) = true
    · rw [if_pos c1]
      obtain ⟨a, b⟩ := lexName_b heB c1
      have z9 : (lexName B k).1 ≤ 9 ∧ ((lexName B k).1 = 9 → (lexName B k).2.2.2.2 = k) := by
        unfold lexName
        repeat' split
        · exact ⟨(by decide : (2 : Nat) ≤ 9), fun z => absurd z (by decide : (2 : Nat) ≠ 9)⟩
        · exact ⟨(by decide : (9 : Nat) ≤ 9), fun _ => rfl⟩
        · exact ⟨(by decide : (1 : Nat) ≤ 9), fun z => absurd z (by decide : (1 : Nat) ≠ 9)⟩
      exact fin _ a b z9.1 z9.2
    · rw [if_neg c1]
      by_cases c2 : isDig (ch B k) = true
      · rw [if_pos c2]
        obtain ⟨a, b⟩ := lexNum_b heB c2
        have z9 : (lexNum B k).1 ≤ 9 ∧ ((lexNum B k).1 = 9 → (lexNum B k).2.2.2.2 = k) := by
          unfold lexNum
          repeat' split
          all_goals first | exact ⟨(by decide : (9 : Nat) ≤ 9), fun _ => rfl⟩ | exact ⟨(by decide : (3 : Nat) ≤ 9), fun z => absurd z (by decide : (3 : Nat) ≠ 9)⟩ | exact ⟨(by decide : (4 : Nat) ≤ 9), fun z => absurd z (by decide : (4 : Nat) ≠ 9)⟩ | exact ⟨(by decide : (5 : Nat) ≤ 9), fun z => absurd z (by decide : (5 : Nat) ≠ 9)⟩
        exact fin _ a b z9.1 z9.2
      · rw [if_neg c2]
        by_cases c3 : ch B k = 39
        · rw [if_pos c3]
          unfold lexChr
          split
          · exact finN
          · rename_i z
            have h2 : k + 2 < B.length := Nat.lt_of_not_le fun y => by have := ch_out y; omega
            exact fin _ (by decide : (6 : Nat) ≠ 0) (fun _ => ⟨by show k < k + 3; omega, by show k + 3 ≤ _; omega⟩) (by decide : (6 : Nat) ≤ 9) (fun z => absurd z (by decide : (6 : Nat) ≠ 9))
        · rw [if_neg c3]
          by_cases c4 : ch B k = 34
          · rw [if_pos c4]
            unfold lexStr
            have r1 := run_ge isStr B (k + 1)
            generalize run isStr B (k + 1) = f at *
            split
            · rename_i z
              have h2 : f < B.length := Nat.lt_of_not_le fun y => by have := ch_out y; omega
              exact fin _ (by decide : (7 : Nat) ≠ 0) (fun _ => ⟨by show k < f + 1; omega, by show f + 1 ≤ _; omega⟩) (by decide : (7 : Nat) ≤ 9) (fun z => absurd z (by decide : (7 : Nat) ≠ 9))
            · exact finN
          · rw [if_neg c4]
            have sgE := @sg_seg B ok k
            unfold lexSgn
            generalize sgN (ch B k) (ch B (k + 1)) (ch B (k + 2)) = N at *
            split
            · exact finN
            · rename_i z
              exact fin _ (by decide : (8 : Nat) ≠ 0) (fun _ => ⟨by show k < k + N; omega, (sgE z).1⟩) (by decide : (8 : Nat) ≤ 9) (fun z => absurd z (by decide : (8 : Nat) ≠ 9))
theorem lex1_b {B : List Nat} (ok : okB B) {k : Nat} (hk : k ≤ B.length) : ((lex1 B k).1 ≠ 0 → (lex1 B k).1 ≠ 9 → k < (lex1 B k).2.2.2.2 ∧ (lex1 B k).2.2.2.2 ≤ B.length) ∧ (lex1 B k).1 ≤ 9 := by
  have r1 := run_ge isBlk B k
  have r2 := run_le isBlk (B := B) (k := k) hk
  unfold lex1
  have := lexAt_b ok r2
  exact ⟨fun a b => by have := this.2.1 a b; omega, this.2.2⟩
/-- a token that isn't the last -/
def tkGo (T : Tk) : Prop := T.1 ≠ 0 ∧ T.1 ≠ 9
theorem lexAll_s {B : List Nat} {n k : Nat} : lexAll B (n + 1) k = if (lex1 B k).1 = 0 ∨ (lex1 B k).1 = 9 then [lex1 B k] else lex1 B k :: lexAll B n (lex1 B k).2.2.2.2 := rfl
theorem lexAll_len {B : List Nat} (n : Nat) : ∀ k, (lexAll B n k).length ≤ n := by
  induction n with
  | zero => intro k; exact Nat.le_refl _
  | succ n ih =>
    intro k
    rw [lexAll_s]
    split
    · exact Nat.succ_le_succ (Nat.zero_le _)
    · rw [List.length_cons]; exact Nat.succ_le_succ (ih _)
/-- what the tokens are, piece by piece: the first from the beginning, each next from behind the one before -/
theorem lexAll_g {B : List Nat} (ok : okB B) (n : Nat) : ∀ k, k ≤ B.length → B.length - k < n →
    0 < (lexAll B n k).length ∧ (lexAll B n k).getD 0 (noTk 0) = lex1 B k ∧
    (∀ i, i + 1 < (lexAll B n k).length → tkGo ((lexAll B n k).getD i (noTk 0)) ∧ ((lexAll B n k).getD i (noTk 0)).2.2.2.2 ≤ B.length ∧ (lexAll B n k).getD (i + 1) (noTk 0) = lex1 B ((lexAll B n k).getD i (noTk 0)).2.2.2.2) ∧
    ¬ tkGo ((lexAll B n k).getD ((lexAll B n k).length - 1) (noTk 0)) := by
  induction n with
  | zero => intro k _ h; omega
  | succ n ih =>
    intro k hk hn
    obtain ⟨b1, b2⟩ := lex1_b ok hk
    rw [lexAll_s]
    by_cases c : (lex1 B k).1 = 0 ∨ (lex1 B k).1 = 9
    · rw [if_pos c]
      exact ⟨by simp, rfl, fun i hi => by simp at hi, fun z => by rcases c with c | c; exact z.1 c; exact z.2 c⟩
    · rw [if_neg c]
      have hg : tkGo (lex1 B k) := ⟨fun z => c (.inl z), fun z => c (.inr z)⟩
      obtain ⟨g1, g2⟩ := b1 hg.1 hg.2
      obtain ⟨i1, i2, i3, i4⟩ := ih _ g2 (by omega)
      refine ⟨by simp, rfl, fun i hi => ?_, ?_⟩
      · cases i with
        | zero => exact ⟨hg, g2, i2⟩
        | succ i => exact i3 i (by simpa using hi)
      · rw [List.length_cons, Nat.add_sub_cancel]
        obtain ⟨m, hm⟩ : ∃ m, (lexAll B n (lex1 B k).2.2.2.2).length = m + 1 := ⟨(lexAll B n (lex1 B k).2.2.2.2).length - 1, by omega⟩
        rw [hm] at i4 ⊢
        exact i4
theorem m_all {c p q : Nat} {B : List Nat} (ok : okB B) (n : Nat) : ∀ (k : Nat) (h : HP) (TS : List Tk) (N : Nat), n < N → B.length - k < n → k ≤ B.length → WG h → CutM h c p q B TS 0 → TS.length + (B.length - k) ≤ 299 →
    ∃ h', f_X44_init_l33 c N (nI k) h = rok () h' ∧ St [] [p, q] (34 * (B.length + 1 - k)) h h' ∧ CutM h' c p q B (TS ++ lexAll B n k) 0 := by
  have hl := ok.1
  induction n with
  | zero => intro k h TS N _ h1; omega
  | succ n ih =>
    intro k h TS N hN h1 h2 w C h3
    obtain ⟨N, rfl⟩ : ∃ m, N = m + 1 := ⟨N - 1, by omega⟩
    obtain ⟨b1, b2⟩ := lex1_b ok h2
    rw [f_X44_init_l33_s]
    unfold b_X44_init_l33
    rw [if_neg (nI_pos (by omega)), if_pos C.1.1]
    obtain ⟨h', e1, s1, C1⟩ := m_one ok w C (by omega) h2
    rw [e1, bd_ok, lexAll_s]
    by_cases g : (lex1 B k).1 = 0 ∨ (lex1 B k).1 = 9
    · rw [if_pos g]
      unfold endI
      obtain ⟨N, rfl⟩ : ∃ m, N = m + 1 := ⟨N - 1, by omega⟩
      rw [if_pos g, f_X44_init_l33_s]
      unfold b_X44_init_l33
      rw [if_pos (by decide)]
      refine ⟨h', rfl, s1.le ?_, C1⟩
      have r1 := run_ge isBlk B k
      have r2 := run_le isBlk (B := B) (k := k) h2
      have e5 : (lex1 B k).2.2.2.2 ≤ B.length := by
        unfold lex1 at g ⊢
        rw [(lexAt_b ok r2).1 g]; exact r2
      omega
    · rw [if_neg g]
      have hg : tkGo (lex1 B k) := ⟨fun z => g (.inl z), fun z => g (.inr z)⟩
      obtain ⟨g1, g2⟩ := b1 hg.1 hg.2
      unfold endI
      rw [if_neg g]
      obtain ⟨h5, f1, f2, f3⟩ := ih (lex1 B k).2.2.2.2 h' (TS ++ [lex1 B k]) N (by omega) (by omega) g2 s1.1 C1 (by rw [List.length_append, List.length_singleton]; omega)
      rw [f1]
      exact ⟨h5, rfl, (s1.trans f2).le (by omega), by rw [List.append_assoc] at f3; exact f3⟩
