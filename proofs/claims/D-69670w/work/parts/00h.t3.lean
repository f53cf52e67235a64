/-! PHASE B tokens 3: one token: names, characters, texts, signs -/
set_option maxRecDepth 100000
/-- a token: kind, place, letters, bits, the place behind it. Kinds: 0 the end, 1 a name, 2 a word, 3 4 5 6 numbers and characters, 7 a text, 8 a sign, 9 none -/
abbrev Tk : Type := Nat × Nat × List Nat × Int64 × Nat
def noTk (k : Nat) : Tk := (9, k, [], 0, k)
def dval (l : List Nat) : Nat := l.foldl (fun a c => 10 * a + (c - 48)) 0
def realB (whole m : Nat) : Int64 := lN (Jvm.FP.Core.div F64 (Jvm.FP.Core.fromInt F64 (whole : Int)) (Jvm.FP.Core.fromInt F64 ((10 ^ m : Nat) : Int)))
def lexName (B : List Nat) (k : Nat) : Tk :=
  if seg B k (run isLD B k) ∈ KW then (2, k, seg B k (run isLD B k), 0, run isLD B k) else if 30 < run isLD B k - k then noTk k else (1, k, seg B k (run isLD B k), 0, run isLD B k)
def lexNum (B : List Nat) (k : Nat) : Tk :=
  if ch B (run isDig B k) = 46 ∧ isDig (ch B (run isDig B k + 1)) = true then
    (if 15 < run isDig B (run isDig B k + 1) - k - 1 then noTk k
     else (5, k, [], realB (dval (seg B k (run isDig B k) ++ seg B (run isDig B k + 1) (run isDig B (run isDig B k + 1)))) (run isDig B (run isDig B k + 1) - run isDig B k - 1), run isDig B (run isDig B k + 1)))
  else if ch B (run isDig B k) = 76 then (if 2 ^ 63 ≤ dval (seg B k (run isDig B k)) then noTk k else (4, k, [], lN (dval (seg B k (run isDig B k))), run isDig B k + 1))
  else (if 2 ^ 31 ≤ dval (seg B k (run isDig B k)) then noTk k else (3, k, [], lN (dval (seg B k (run isDig B k))), run isDig B k))
def lexChr (B : List Nat) (k : Nat) : Tk :=
  if ch B (k + 1) < 32 ∨ 126 < ch B (k + 1) ∨ ch B (k + 1) = 39 ∨ ch B (k + 1) = 92 ∨ ch B (k + 2) ≠ 39 then noTk k else (6, k, [], lN (ch B (k + 1)), k + 3)
def isStr (c : Nat) : Bool := decide (32 ≤ c) && decide (c ≤ 126) && (c != 34) && (c != 92)
def lexStr (B : List Nat) (k : Nat) : Tk :=
  if ch B (run isStr B (k + 1)) = 34 ∧ run isStr B (k + 1) - k - 1 ≤ 100 then (7, k, seg B (k + 1) (run isStr B (k + 1)), 0, run isStr B (k + 1) + 1) else noTk k
def SG : List Nat := codes "{}()[],;.?:=+-*/%<>!~&^|"
def sgN (c d e : Nat) : Nat :=
  if c = 62 ∧ d = 62 ∧ e = 62 then 3 else if (c = 60 ∧ (d = 60 ∨ d = 61)) ∨ (c = 62 ∧ (d = 62 ∨ d = 61)) ∨ ((c = 61 ∨ c = 33) ∧ d = 61) ∨ ((c = 38 ∨ c = 124) ∧ d = c) then 2 else if c ∈ SG then 1 else 0
def lexSgn (B : List Nat) (k : Nat) : Tk :=
  if sgN (ch B k) (ch B (k + 1)) (ch B (k + 2)) = 0 then noTk k else (8, k, seg B k (k + sgN (ch B k) (ch B (k + 1)) (ch B (k + 2))), 0, k + sgN (ch B k) (ch B (k + 1)) (ch B (k + 2)))
/-- the token behind the blanks from a place on -/
def lexAt (B : List Nat) (k : Nat) : Tk :=
  if ch B k = 256 then (0, k, [], 0, k) else if isLet (ch B k) then lexName B k else if isDig (ch B k) then lexNum B k else if ch B k = 39 then lexChr B k else if ch B k = 34 then lexStr B k else lexSgn B k
def lex1 (B : List Nat) (k : Nat) : Tk := lexAt B (run isBlk B k)
/-- the component's tokens stand at a token -/
def TkX (h : HP) (t : Nat) (T : Tk) : Prop := fi h 151 t = nI T.1 ∧ fi h 152 t = nI T.2.1 ∧ fi h 153 t = nI T.2.2.2.2 ∧ kc h (fr h 154 t) = 71 ∧ tx h (fr h 154 t) = T.2.2.1 ∧ (3 ≤ T.1 → T.1 ≤ 6 → fj h 155 t = T.2.2.2.1)
def XOk (t st : Nat) (B : List Nat) (T : Tk) (a : Nat) (h : HP) (r : Rs Unit) : Prop := ∃ h', r = rok () h' ∧ St [] [t, st] a h h' ∧ TokO h' t B st ∧ TkX h' t T
def XNo (t st : Nat) (B : List Nat) (p : Nat) (a : Nat) (h : HP) (r : Rs Unit) : Prop := ∃ h', r = rex h' ∧ St [] [t, st] a h h' ∧ TokO h' t B st ∧ fi h' 28 st = 1 ∧ fi h' 29 st = nI p
def XRes (t st : Nat) (B : List Nat) (T : Tk) (a : Nat) (h : HP) (r : Rs Unit) : Prop := (T.1 ≠ 9 → XOk t st B T a h r) ∧ (T.1 = 9 → XNo t st B T.2.1 a h r)
theorem XRes.ok {t st : Nat} {B : List Nat} {T : Tk} {a : Nat} {h : HP} {r : Rs Unit} (hT : T.1 ≠ 9) (x : XOk t st B T a h r) : XRes t st B T a h r := ⟨fun _ => x, fun e => absurd e hT⟩
theorem XRes.no {t st : Nat} {B : List Nat} {k : Nat} {a : Nat} {h : HP} {r : Rs Unit} (x : XNo t st B k a h r) : XRes t st B (noTk k) a h r := ⟨fun e => absurd rfl e, fun _ => x⟩
theorem TokO_sI {h : HP} {t st : Nat} {B : List Nat} (T : TokO h t B st) {f p : Nat} {v : Int32} (hf : f ≠ 149) : TokO (sI h f p v) t B st :=
  ⟨T.1, by rw [fi_sI, if_neg (fun z => hf z.1.symm)]; exact T.2.1, T.2.2.1, T.2.2.2.1, T.2.2.2.2.1, T.2.2.2.2.2⟩
theorem TokO_sJ {h : HP} {t st : Nat} {B : List Nat} (T : TokO h t B st) {f p : Nat} {v : Int64} : TokO (sJ h f p v) t B st :=
  ⟨T.1, T.2.1, T.2.2.1, T.2.2.2.1, T.2.2.2.2.1, T.2.2.2.2.2⟩
theorem TokO_sR {h : HP} {t st : Nat} {B : List Nat} (T : TokO h t B st) {f p : Nat} {v : Nat} (h1 : f ≠ 148) (h2 : f ≠ 150) (h3 : f ≠ 27) : TokO (sR h f p v) t B st := by
  have a : fr (sR h f p v) 148 t = fr h 148 t := by rw [fr_sR, if_neg (fun z => h1 z.1.symm)]
  have b : fr (sR h f p v) 150 t = fr h 150 t := by rw [fr_sR, if_neg (fun z => h2 z.1.symm)]
  have c : fr (sR h f p v) 27 st = fr h 27 st := by rw [fr_sR, if_neg (fun z => h3 z.1.symm)]
  refine ⟨T.1, T.2.1, ?_, ?_, T.2.2.2.2.1, ?_⟩
  · rw [a]; exact T.2.2.1
  · rw [b]; exact T.2.2.2.1
  · rw [c]; exact T.2.2.2.2.2
/-- the fault at the token's place -/
theorem x_wrong {h : HP} {t st k : Nat} {B : List Nat} (w : WG h) (T : TokO h t B st) (hf : fi h 152 t = nI k) :
    XNo t st B k 0 h (if kc h t = 10 then bd (f_X9_wrong t h) (fun x1 h2 => if kc h2 x1 = 69 then rex h2 else none) else none) := by
  have t3 := T.2.2.2.1
  have t4 := T.2.2.2.2.1
  have t5 := T.2.2.2.2.2
  have s0 := St.refl w [] [t, st]
  have s1 : St [] [t, st] 0 h (sI h 28 st 1) := s0.sI t4 (by decide) (.inr (.inr (by simp)))
  have s2 : St [] [t, st] 0 h (sI (sI h 28 st 1) 29 st (nI k)) := s1.sI t4 (by decide) (.inr (.inr (by simp)))
  refine ⟨sI (sI h 28 st 1) 29 st (nI k), ?_, s2, TokO_sI (TokO_sI T (by decide)) (by decide), ?_, ?_⟩
  · rw [if_pos T.1]
    unfold f_X9_wrong
    rw [ldR_e T.1, ldI_e T.1, t3, hf, if_pos t4]
    unfold f_X1_at
    rw [stI_e t4, stI_e (show kc (sI h 28 st 1) st = 2 from t4), ldR_e (show kc (sI (sI h 28 st 1) 29 st (nI k)) st = 2 from t4), bd_ok, bd_ok]
    exact if_pos t5
  · rw [fi_sI, if_neg (fun z => absurd z.1 (by decide)), fi_sI, if_pos ⟨rfl, rfl⟩]
  · rw [fi_sI, if_pos ⟨rfl, rfl⟩]
/-- the token is put down -/
theorem x_set {h : HP} {t st k K e s : Nat} {B l : List Nat} {bits : Int64} (w : WG h) (T : TokO h t B st) (hf : fi h 152 t = nI k) (ks : kc h s = 71) (ts : tx h s = l) (hb : 3 ≤ K → K ≤ 6 → fj h 155 t = bits) :
    XOk t st B (K, k, l, bits, e) 0 h (f_X9_set t (nI K) (nI e) s h) := by
  have s0 := St.refl w [] [t, st]
  have s1 : St [] [t, st] 0 h (sI h 151 t (nI K)) := s0.sI T.1 (by decide) (.inr (.inr (by simp)))
  have s2 : St [] [t, st] 0 h (sI (sI h 151 t (nI K)) 153 t (nI e)) := s1.sI T.1 (by decide) (.inr (.inr (by simp)))
  have s3 : St [] [t, st] 0 h (sR (sI (sI h 151 t (nI K)) 153 t (nI e)) 154 t s) := s2.sR T.1 (by decide) (.inr (.inr (by simp)))
  refine ⟨sR (sI (sI h 151 t (nI K)) 153 t (nI e)) 154 t s, ?_, s3, TokO_sR (TokO_sI (TokO_sI T (by decide)) (by decide)) (by decide) (by decide) (by decide), ?_, ?_, ?_, ?_, ?_, ?_⟩
  · unfold f_X9_set
    rw [stI_e T.1, stI_e (show kc (sI h 151 t (nI K)) t = 10 from T.1), stR_e (show kc (sI (sI h 151 t (nI K)) 153 t (nI e)) t = 10 from T.1)]
  · show fi (sI (sI h 151 t (nI K)) 153 t (nI e)) 151 t = _
    rw [fi_sI, if_neg (fun z => absurd z.1 (by decide)), fi_sI, if_pos ⟨rfl, rfl⟩]
  · show fi (sI (sI h 151 t (nI K)) 153 t (nI e)) 152 t = _
    rw [fi_sI, if_neg (fun z => absurd z.1 (by decide)), fi_sI, if_neg (fun z => absurd z.1 (by decide))]; exact hf
  · show fi (sI (sI h 151 t (nI K)) 153 t (nI e)) 153 t = _
    rw [fi_sI, if_pos ⟨rfl, rfl⟩]
  · have : fr (sR (sI (sI h 151 t (nI K)) 153 t (nI e)) 154 t s) 154 t = s := by rw [fr_sR, if_pos ⟨rfl, rfl⟩]
    rw [this]; exact ks
  · have : fr (sR (sI (sI h 151 t (nI K)) 153 t (nI e)) 154 t s) 154 t = s := by rw [fr_sR, if_pos ⟨rfl, rfl⟩]
    rw [this]; exact ts
  · exact hb
theorem XOk.pre {t st : Nat} {B : List Nat} {T : Tk} {a b : Nat} {h h1 : HP} {r : Rs Unit} (s : St [] [t, st] a h h1) (x : XOk t st B T b h1 r) : XOk t st B T (a + b) h r := by
  obtain ⟨h', e, s', T', X⟩ := x; exact ⟨h', e, s.trans s', T', X⟩
theorem XNo.pre {t st : Nat} {B : List Nat} {p : Nat} {a b : Nat} {h h1 : HP} {r : Rs Unit} (s : St [] [t, st] a h h1) (x : XNo t st B p b h1 r) : XNo t st B p (a + b) h r := by
  obtain ⟨h', e, s', T', X⟩ := x; exact ⟨h', e, s.trans s', T', X⟩
theorem XOk.le {t st : Nat} {B : List Nat} {T : Tk} {a b : Nat} {h : HP} {r : Rs Unit} (x : XOk t st B T a h r) (hab : a ≤ b) : XOk t st B T b h r := by
  obtain ⟨h', e, s', T', X⟩ := x; exact ⟨h', e, s'.le hab, T', X⟩
theorem XNo.le {t st : Nat} {B : List Nat} {p : Nat} {a b : Nat} {h : HP} {r : Rs Unit} (x : XNo t st B p a h r) (hab : a ≤ b) : XNo t st B p b h r := by
  obtain ⟨h', e, s', T', X⟩ := x; exact ⟨h', e, s'.le hab, T', X⟩
theorem XRes.le {t st : Nat} {B : List Nat} {T : Tk} {a b : Nat} {h : HP} {r : Rs Unit} (x : XRes t st B T a h r) (hab : a ≤ b) : XRes t st B T b h r := ⟨fun e => (x.1 e).le hab, fun e => (x.2 e).le hab⟩
theorem bd_u (r : Rs Unit) : bd r (fun _ h => rok () h) = r := by
  cases r with
  | none => rfl
  | some v => cases v <;> rfl
theorem cst1 {h : HP} (w : WG h) : kc h 1 = 71 ∧ tx h 1 = [] := ⟨cst_k w (by decide) (by decide), (cst_t w (by decide) (by decide)).trans (by decide)⟩
/-- names and words -/
theorem x_readName {h : HP} {t st k : Nat} {B : List Nat} (ok : okB B) (w : WG h) (T : TokO h t B st) (hf : fi h 152 t = nI k) (hk : k ≤ B.length) : XRes t st B (lexName B k) 14 h (f_X9_readName t (nI k) h) := by
  have hl := ok.1
  have r1 := run_ge isLD B k
  have r2 := run_le isLD (B := B) hk
  unfold f_X9_readName
  rw [x_names ok T _ hk, bd_ok, if_pos T.1]
  generalize hr : run isLD B k = e at *
  obtain ⟨q, h2, e1, s2, kq, tq, q0⟩ := x_part ok w T r1 r2
  rw [e1, bd_ok]
  have T2 := TokO_mono (t' := 0) T s2 (fun x hx => by simp at hx)
  have s2' : St [] [t, st] 14 h h2 := s2.wk (fun _ z => z) (fun x hx => by simp at hx) (Nat.le_refl _)
  have f2 : fi h2 152 t = nI k := by rw [(s2.2.eq T.1 (by decide) (by decide) (by simp)).1 152]; exact hf
  have c2k := cst_k s2.1 (p := 2) (by decide) (by decide)
  have c2t : tx h2 2 = 32 :: wtail KW := (cst_t s2.1 (by decide) (by decide)).trans KW_w
  have hsl := seg_len r1 r2
  have hsb : ∀ c ∈ seg B k e, c < 256 := fun c hc => ok.2 c (List.mem_of_mem_drop (List.mem_of_mem_take hc))
  rw [x_isIn c2k c2t (by decide) KW_b kq tq (by omega) hsb (by decide), bd_ok]
  unfold lexName
  rw [hr]
  by_cases m : seg B k e ∈ KW
  · rw [if_neg (fun z => zB_d.mp z m), if_pos T2.1, bd_u, if_pos m]
    exact (XRes.ok (show (2 : Nat) ≠ 9 by decide) ((x_set (K := 2) s2.1 T2 f2 kq tq (fun z => absurd z (by decide))).pre s2'))
  · rw [if_pos (zB_d.mpr m), pk_sub r1, if_neg m]
    by_cases c : e - k ≤ 30
    · rw [if_pos (show nI (e - k) ≤ (30 : Int32) from nI_le (b := 30) c (by omega)), if_pos T2.1, bd_u, if_neg (show ¬ 30 < e - k by omega)]
      exact (XRes.ok (show (1 : Nat) ≠ 9 by decide) ((x_set (K := 1) s2.1 T2 f2 kq tq (fun z => absurd z (by decide))).pre s2'))
    · rw [if_neg (show ¬ nI (e - k) ≤ (30 : Int32) from fun z => c ((nI_leI (b := 30) (by omega) (by omega)).mp z)), if_pos (show 30 < e - k by omega)]
      exact XRes.no ((x_wrong s2.1 T2 f2).pre s2')
theorem ckE {c v : Nat} (hc : c ≤ 256) (hv : v < 256) : (ck c = nI v) ↔ c = v := by
  unfold ck
  by_cases h : c = 256
  · rw [if_pos h]
    constructor
    · intro z; exact absurd z (by
        intro y
        have := congrArg Int32.toInt y
        rw [nI_toInt (by omega)] at this
        rw [show (-1 : Int32).toInt = -1 from rfl] at this; omega)
    · intro z; omega
  · rw [if_neg h]; exact nI_eq (by omega) (by omega)
theorem ckL {c v : Nat} (hc : c < 256) (hv : v < 256) : (ck c < nI v) ↔ c < v := by unfold ck; rw [if_neg (by omega)]; exact nI_ltI (by omega) (by omega)
theorem ckG {c v : Nat} (hc : c < 256) (hv : v < 256) : (nI v < ck c) ↔ v < c := by unfold ck; rw [if_neg (by omega)]; exact nI_ltI (by omega) (by omega)
/-- a character -/
theorem x_readChr {h : HP} {t st k : Nat} {B : List Nat} (ok : okB B) (w : WG h) (T : TokO h t B st) (hf : fi h 152 t = nI k) (hk : k ≤ B.length) : XRes t st B (lexChr B k) 0 h (f_X9_readCharacter t (nI k) h) := by
  have hl := ok.1
  have hno := fun z : lexChr B k = noTk k => (show XRes t st B (lexChr B k) 0 h (if kc h t = 10 then bd (f_X9_wrong t h) (fun x1 h2 => if kc h2 x1 = 69 then rex h2 else none) else none) by rw [z]; exact XRes.no (x_wrong w T hf))
  unfold f_X9_readCharacter
  rw [if_pos T.1, show nI k + (1 : Int32) = nI (k + 1) from nI_1 k, x_look ok T (by omega), bd_ok]
  obtain ⟨c, hc⟩ : ∃ c, c = ch B (k + 1) := ⟨_, rfl⟩
  have hc6 := ch_lt ok (k + 1)
  rw [← hc] at hc6 ⊢
  have l32 : (ck c < (32 : Int32)) ↔ c < 32 ∨ c = 256 := by
    by_cases q : c = 256
    · rw [q]; exact ⟨fun _ => .inr rfl, fun _ => by decide⟩
    · exact (ckL (v := 32) (by omega) (by omega)).trans ⟨.inl, fun z => by rcases z with z | z; exact z; exact absurd z q⟩
  by_cases c1 : c < 32 ∨ c = 256
  · rw [if_pos (l32.mpr c1)]
    refine hno ?_
    unfold lexChr; rw [← hc, if_pos (by omega)]
  rw [if_neg (fun z => c1 (l32.mp z))]
  have l126 : ((126 : Int32) < ck c) ↔ 126 < c := ckG (v := 126) (by omega) (by omega)
  by_cases c2 : 126 < c
  · rw [if_pos (l126.mpr c2)]
    refine hno ?_
    unfold lexChr; rw [← hc, if_pos (by omega)]
  rw [if_neg (fun z => c2 (l126.mp z))]
  have l39 : (ck c = (39 : Int32)) ↔ c = 39 := ckE (v := 39) hc6 (by omega)
  have l92 : (ck c = (92 : Int32)) ↔ c = 92 := ckE (v := 92) hc6 (by omega)
  by_cases c3 : c = 39
  · rw [if_pos (l39.mpr c3)]
    refine hno ?_
    unfold lexChr; rw [← hc, if_pos (by omega)]
  rw [if_neg (fun z => c3 (l39.mp z))]
  by_cases c4 : c = 92
  · rw [if_pos (l92.mpr c4)]
    refine hno ?_
    unfold lexChr; rw [← hc, if_pos (by omega)]
  rw [if_neg (fun z => c4 (l92.mp z)), if_pos T.1, show nI k + (2 : Int32) = nI (k + 2) from nI_add k 2, x_look ok T (by omega), bd_ok]
  have m39 : (ck (ch B (k + 2)) = (39 : Int32)) ↔ ch B (k + 2) = 39 := ckE (v := 39) (ch_lt ok _) (by omega)
  by_cases c5 : ch B (k + 2) = 39
  · rw [if_pos (m39.mpr c5), stJ_e T.1]
    have eck : ck c = nI c := by unfold ck; rw [if_neg (by omega)]
    have s1 : St [] [t, st] 0 h (sJ h 155 t (Int32.toInt64 (ck c))) := (St.refl w [] [t, st]).sJ T.1 (by decide) (.inr (.inr (by simp)))
    have T1 : TokO (sJ h 155 t (Int32.toInt64 (ck c))) t B st := TokO_sJ T
    rw [if_pos T1.1, bd_u, show nI k + (3 : Int32) = nI (k + 3) from nI_add k 3]
    unfold lexChr
    rw [← hc, if_neg (by omega)]
    obtain ⟨k1, t1⟩ := cst1 s1.1
    refine XRes.ok (show (6 : Nat) ≠ 9 by decide) ((x_set (K := 6) s1.1 T1 hf k1 t1 (fun _ _ => ?_)).pre s1)
    rw [fj_sJ, if_pos ⟨rfl, rfl⟩, eck, nI_l (by omega)]
  · rw [if_neg (fun z => c5 (m39.mp z))]
    refine hno ?_
    unfold lexChr; rw [← hc, if_pos (by omega)]
