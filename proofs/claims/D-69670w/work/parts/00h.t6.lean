/-! PHASE B tokens 6: the component's step to the next token -/
set_option maxRecDepth 100000
theorem ck0 {c : Nat} (hc : c ≤ 256) : (0 ≤ ck c) ↔ c ≠ 256 := by
  unfold ck
  by_cases h : c = 256
  · rw [if_pos h]; exact ⟨fun z => absurd z (by decide), fun z => absurd h z⟩
  · rw [if_neg h]; exact ⟨fun _ => h, fun _ => nI_pos' (by omega)⟩
/-- the next token -/
theorem x_next {h : HP} {t st k : Nat} {B : List Nat} (ok : okB B) (w : WG h) (T : TokO h t B st) (hf : fi h 153 t = nI k) (hk : k ≤ B.length) : XRes t st B (lex1 B k) 20 h (f_X9_next t h) := by
  have hl := ok.1
  have r1 := run_ge isBlk B k
  have r2 := run_le isBlk (B := B) (k := k) hk
  unfold f_X9_next lex1
  rw [ldI_e T.1, hf, x_blanks ok T hk, bd_ok, stI_e T.1]
  generalize run isBlk B k = e at *
  have s1 : St [] [t, st] 0 h (sI h 152 t (nI e)) := (St.refl w [] [t, st]).sI T.1 (by decide) (.inr (.inr (by simp)))
  have T1 : TokO (sI h 152 t (nI e)) t B st := TokO_sI T (by decide)
  have f1 : fi (sI h 152 t (nI e)) 152 t = nI e := by rw [fi_sI, if_pos ⟨rfl, rfl⟩]
  generalize sI h 152 t (nI e) = h1 at *
  have w1 := s1.1
  have hc := ch_lt ok e
  have pre : ∀ {T a r}, a ≤ 20 → XRes t st B T a h1 r → XRes t st B T 20 h r := fun ha x => ⟨fun z => ((x.1 z).pre s1).le (by omega), fun z => ((x.2 z).pre s1).le (by omega)⟩
  rw [if_pos T1.1, x_look ok T1 (by omega), bd_ok]
  unfold lexAt
  by_cases c0 : ch B e = 256
  · rw [if_neg (fun z => (ck0 hc).mp z c0), if_pos c0, if_pos T1.1, bd_u]
    obtain ⟨k1, t1⟩ := cst1 w1
    exact pre (Nat.zero_le _) (XRes.ok (show (0 : Nat) ≠ 9 by decide) (x_set (K := 0) w1 T1 f1 k1 t1 (fun z => absurd z (by decide))))
  · have heB : e < B.length := Nat.lt_of_not_le fun z => c0 (ch_out z)
    rw [if_pos ((ck0 hc).mpr c0), if_neg c0, x_isLetter hc, bd_ok, zB_if]
    by_cases c1 : isLet (ch B e) = true
    · rw [if_pos c1, if_pos c1, if_pos T1.1, bd_u]
      exact pre (by omega) (x_readName ok w1 T1 f1 r2)
    · rw [if_neg c1, if_neg c1, x_isDigit hc, bd_ok, zB_if]
      by_cases c2 : isDig (ch B e) = true
      · rw [if_pos c2, if_pos c2, if_pos T1.1, bd_u]
        exact pre (by omega) (x_readNum ok w1 T1 f1 r2)
      · rw [if_neg c2, if_neg c2]
        have c39 : (ck (ch B e) = (39 : Int32)) ↔ ch B e = 39 := ckE (v := 39) hc (by omega)
        have c34 : (ck (ch B e) = (34 : Int32)) ↔ ch B e = 34 := ckE (v := 34) hc (by omega)
        by_cases c3 : ch B e = 39
        · rw [if_pos (c39.mpr c3), if_pos c3, if_pos T1.1, bd_u]
          exact pre (by omega) (x_readChr ok w1 T1 f1 r2)
        · rw [if_neg (fun z => c3 (c39.mp z)), if_neg c3]
          by_cases c4 : ch B e = 34
          · rw [if_pos (c34.mpr c4), if_pos c4, if_pos T1.1, bd_u]
            exact pre (by omega) (x_readStr ok w1 T1 f1 heB)
          · have eck : ck (ch B e) = nI (ch B e) := by unfold ck; rw [if_neg c0]
            rw [if_neg (fun z => c4 (c34.mp z)), if_neg c4, if_pos T1.1, bd_u, eck]
            exact pre (by omega) (x_readSgn ok w1 T1 f1 heB)
