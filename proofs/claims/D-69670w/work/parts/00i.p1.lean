/-! PHASE B parser 1: tokens in a row; the component's parser, the twin's parser: what they hold -/
set_option maxRecDepth 100000
/-- the signs -/
def SW : List (List Nat) := ["{", "}", "(", ")", "[", "]", ",", ";", ".", "?", ":", "=", "+", "-", "*", "/", "%", "<", ">", "!", "~", "&", "^", "|", "==", "!=", "<=", ">=", "<<", ">>", ">>>", "&&", "||"].map codes
def tkV (T : Tk) : Prop := (T.1 = 2 → T.2.2.1 ∈ KW) ∧ (T.1 = 8 → T.2.2.1 ∈ SW) ∧ (T.1 = 1 → T.2.2.1 ∉ KW ∧ T.2.2.1.length ≤ 30) ∧ T.2.2.1.length ≤ 100 ∧ (∀ c ∈ T.2.2.1, c < 256) ∧ T.2.1 ≤ 300 ∧ (T.1 ≠ 3 → T.1 ≠ 4 → T.1 ≠ 5 → T.1 ≠ 6 → T.2.2.2.1 = 0) ∧ T.1 ≤ 9
def tkN (T : Tk) : Prop := (T.1 = 3 → nu_ok 4 T.2.2.2.1) ∧ (T.1 = 5 → nu_ok 7 T.2.2.2.1) ∧ (T.1 = 6 → nu_ok 3 T.2.2.2.1)
abbrev tk (TS : List Tk) (i : Nat) : Tk := TS.getD i (noTk 0)
def Lx (B : List Nat) (TS : List Tk) : Prop := okB B ∧ 0 < TS.length ∧ TS.length ≤ 300 ∧ (∀ i, i + 1 < TS.length → tkGo (tk TS i) ∧ (tk TS i).2.2.2.2 ≤ B.length ∧ tk TS (i + 1) = lex1 B (tk TS i).2.2.2.2) ∧ ¬ tkGo (tk TS (TS.length - 1)) ∧ (∀ i, tkV (tk TS i)) ∧ ∀ i, tkN (tk TS i)
theorem gE_in {α : Type} {l : List α} {n : Nat} {d : α} (h : n < l.length) : l.getD n d = l[n] := by rw [List.getD_eq_getElem?_getD, List.getElem?_eq_getElem h]; rfl
theorem gE_out {α : Type} {l : List α} {n : Nat} {d : α} (h : l.length ≤ n) : l.getD n d = d := by rw [List.getD_eq_getElem?_getD, List.getElem?_eq_none h]; rfl
theorem Lx.go {B : List Nat} {TS : List Tk} (L : Lx B TS) {i : Nat} (hi : i < TS.length) (g : tkGo (tk TS i)) : i + 1 < TS.length := by
  by_cases c : i + 1 < TS.length
  · exact c
  · have : i = TS.length - 1 := by omega
    rw [this] at g; exact absurd g L.2.2.2.2.1
abbrev isX (T : Tk) (w : List Nat) : Prop := (T.1 = 8 ∨ T.1 = 2) ∧ T.2.2.1 = w
abbrev isS (T : Tk) (w : List Nat) : Prop := T.1 = 8 ∧ T.2.2.1 = w
abbrev isW (T : Tk) (w : List Nat) : Prop := T.1 = 2 ∧ T.2.2.1 = w
theorem SKW : ∀ w ∈ SW, w ∉ KW := by decide +kernel
theorem isX_S {T : Tk} (v : tkV T) {w : List Nat} (hw : w ∈ SW) : isX T w ↔ isS T w := by
  constructor
  · rintro ⟨a | a, b⟩
    · exact ⟨a, b⟩
    · exact absurd (b ▸ v.1 a) (SKW w hw)
  · rintro ⟨a, b⟩; exact ⟨.inl a, b⟩
theorem isX_W {T : Tk} (v : tkV T) {w : List Nat} (hw : w ∈ KW) : isX T w ↔ isW T w := by
  constructor
  · rintro ⟨a | a, b⟩
    · exact absurd hw (SKW w (b ▸ v.2.1 a))
    · exact ⟨a, b⟩
  · rintro ⟨a, b⟩; exact ⟨.inr a, b⟩
theorem lexAt_v {B : List Nat} (ok : okB B) {k : Nat} (hk : k ≤ B.length) : tkV (lexAt B k) := by
  have hl := ok.1
  have none9 : ∀ x, x ≤ 300 → tkV (noTk x) := fun x hx => ⟨fun z => absurd z (by decide : (9 : Nat) ≠ 2), fun z => absurd z (by decide : (9 : Nat) ≠ 8), fun z => absurd z (by decide : (9 : Nat) ≠ 1), by show ([] : List Nat).length ≤ 100; decide, fun c hc => by simp [noTk] at hc, hx, fun _ _ _ _ => rfl, by show 9 ≤ 9; decide⟩
  have num : ∀ K e x b, K = 0 ∨ (3 ≤ K ∧ K ≤ 6) → x ≤ 300 → (K = 0 → b = 0) → tkV (K, x, [], b, e) := fun K e x b hK hx hb => ⟨fun z => by simp at z; omega, fun z => by simp at z; omega, fun z => by simp at z; omega, by show ([] : List Nat).length ≤ 100; decide, fun c hc => by simp at hc, hx, fun a1 a2 a3 a4 => by simp at a1 a2 a3 a4; show b = 0; exact hb (by omega), by show K ≤ 9; omega⟩
  unfold lexAt
  by_cases c0 : ch B k = 256
  · rw [if_pos c0]; exact num 0 k k 0 (.inl rfl) (by omega) (fun _ => rfl)
  · have heB : k < B.length := Nat.lt_of_not_le fun z => c0 (ch_out z)
    have sb : ∀ a b, ∀ c ∈ seg B a b, c < 256 := fun a b c hc => ok.2 c (List.mem_of_mem_drop (List.mem_of_mem_take hc))
    rw [if_neg c0]
    by_cases c1 : isLet (ch B k) = true
    · rw [if_pos c1]
      unfold lexName
      have r1 := run_ge isLD B k
      have r2 := run_le isLD (B := B) hk
      generalize run isLD B k = e at *
      by_cases m : seg B k e ∈ KW
      · rw [if_pos m]
        exact ⟨fun _ => m, fun z => absurd z (by decide : (2 : Nat) ≠ 8), fun z => absurd z (by decide : (2 : Nat) ≠ 1), by have := (KW_b _ m).1; show (seg B k e).length ≤ 100; omega, sb k e, by show k ≤ 300; omega, fun _ _ _ _ => rfl, by show 2 ≤ 9; decide⟩
      · rw [if_neg m]
        by_cases g : 30 < e - k
        · rw [if_pos g]; exact none9 k (by omega)
        · rw [if_neg g]
          have hs := seg_len r1 r2
          exact ⟨fun z => absurd z (by decide : (1 : Nat) ≠ 2), fun z => absurd z (by decide : (1 : Nat) ≠ 8), fun _ => ⟨m, by show (seg B k e).length ≤ 30; omega⟩, by show (seg B k e).length ≤ 100; omega, sb k e, by show k ≤ 300; omega, fun _ _ _ _ => rfl, by show 1 ≤ 9; decide⟩
    · rw [if_neg c1]
      by_cases c2 : isDig (ch B k) = true
      · rw [if_pos c2]
        unfold lexNum
        repeat' split
        all_goals first | exact none9 k (by omega) | exact num 5 _ k _ (.inr ⟨by omega, by omega⟩) (by omega) (fun z => by omega) | exact num 4 _ k _ (.inr ⟨by omega, by omega⟩) (by omega) (fun z => by omega) | exact num 3 _ k _ (.inr ⟨by omega, by omega⟩) (by omega) (fun z => by omega)
      · rw [if_neg c2]
        by_cases c3 : ch B k = 39
        · rw [if_pos c3]
          unfold lexChr
          split
          · exact none9 k (by omega)
          · exact num 6 _ k _ (.inr ⟨by omega, by omega⟩) (by omega) (fun z => by omega)
        · rw [if_neg c3]
          by_cases c4 : ch B k = 34
          · rw [if_pos c4]
            unfold lexStr
            have r1 := run_ge isStr B (k + 1)
            have r2 := run_le isStr (B := B) (k := k + 1) (by omega)
            generalize run isStr B (k + 1) = f at *
            split
            · rename_i z
              have hs := seg_len r1 r2
              exact ⟨fun z => absurd z (by decide : (7 : Nat) ≠ 2), fun z => absurd z (by decide : (7 : Nat) ≠ 8), fun z => absurd z (by decide : (7 : Nat) ≠ 1), by show (seg B (k + 1) f).length ≤ 100; omega, sb (k + 1) f, by show k ≤ 300; omega, fun _ _ _ _ => rfl, by show 7 ≤ 9; decide⟩
            · exact none9 k (by omega)
          · rw [if_neg c4]
            have sgE := @sg_seg B ok k
            unfold lexSgn
            have sw : ∀ c d e, sgN c d e ≠ 0 → sgX c d (sgN c d e) ∈ SW := by
              intro c d e hn
              unfold sgN at hn ⊢
              by_cases c3 : c = 62 ∧ d = 62 ∧ e = 62
              · obtain ⟨rfl, rfl, rfl⟩ := c3; decide +kernel
              · rw [if_neg c3] at hn ⊢
                by_cases c2 : (c = 60 ∧ (d = 60 ∨ d = 61)) ∨ (c = 62 ∧ (d = 62 ∨ d = 61)) ∨ ((c = 61 ∨ c = 33) ∧ d = 61) ∨ ((c = 38 ∨ c = 124) ∧ d = c)
                · rw [if_pos c2]
                  rcases c2 with ⟨rfl, rfl | rfl⟩ | ⟨rfl, rfl | rfl⟩ | ⟨rfl | rfl, rfl⟩ | ⟨rfl | rfl, rfl⟩ <;> decide +kernel
                · rw [if_neg c2] at hn ⊢
                  by_cases c1 : c ∈ SG
                  · rw [if_pos c1]
                    show [c] ∈ SW
                    exact (by decide +kernel : ∀ c ∈ SG, [c] ∈ SW) c c1
                  · rw [if_neg c1] at hn; exact absurd rfl hn
            have sl : ∀ w ∈ SW, w.length ≤ 100 ∧ ∀ c ∈ w, c < 256 := by decide +kernel
            have hsw := sw (ch B k) (ch B (k + 1)) (ch B (k + 2))
            generalize hN : sgN (ch B k) (ch B (k + 1)) (ch B (k + 2)) = N at *
            split
            · exact none9 k (by omega)
            · rename_i z
              have m := hsw z
              rw [← (sgE z).2] at m
              exact ⟨fun z => absurd z (by decide : (8 : Nat) ≠ 2), fun _ => m, fun z => absurd z (by decide : (8 : Nat) ≠ 1), (sl _ m).1, (sl _ m).2, by show k ≤ 300; omega, fun _ _ _ _ => rfl, by show 8 ≤ 9; decide⟩
theorem lex1_v {B : List Nat} (ok : okB B) {k : Nat} (hk : k ≤ B.length) : tkV (lex1 B k) := by unfold lex1; exact lexAt_v ok (run_le isBlk hk)
theorem tkN_no {T : Tk} (h3 : T.1 ≠ 3) (h5 : T.1 ≠ 5) (h6 : T.1 ≠ 6) : tkN T := ⟨fun z => absurd z h3, fun z => absurd z h5, fun z => absurd z h6⟩
theorem realB_ok (v m : Nat) (hm : m < 16) : nu_ok 7 (realB v m) := by
  obtain ⟨a1, a2⟩ := fI64_ok (v : Int)
  obtain ⟨b1, b2⟩ := t10_ok m
  have tn := t10_n m hm
  have nn : ¬ nu_none 4 (Jvm.FP.Core.fromInt F64 (v : Int)) (t10 m) := by
    unfold nu_none
    rw [if_neg (by decide), if_neg (by decide), if_neg (by decide), if_pos rfl]
    rintro (z | z)
    · exact tn.1 z.2
    · exact tn.2 z.2
  have od := nu_op_ok64 (w := 4) (by omega) (by omega) a1 b1 a2 b2 nn
  have hop : nu_op F64 4 (Jvm.FP.Core.fromInt F64 (v : Int)) (t10 m) = Jvm.FP.Core.div F64 (Jvm.FP.Core.fromInt F64 (v : Int)) (t10 m) := by
    unfold nu_op
    rw [if_neg (by decide), if_neg (by decide), if_neg (by decide), if_pos rfl]
  rw [hop] at od
  show uv (realB v m) % 2 ^ 63 ≤ INF64
  have : uv (realB v m) = Jvm.FP.Core.div F64 (Jvm.FP.Core.fromInt F64 (v : Int)) (t10 m) := lN_uv od.1
  rw [this]; exact od.2
theorem lexAt_n {B : List Nat} (ok : okB B) {k : Nat} (hk : k ≤ B.length) : tkN (lexAt B k) := by
  have hl := ok.1
  have n0 : ∀ x, tkN (noTk x) := fun x => tkN_no (by decide : (9 : Nat) ≠ 3) (by decide : (9 : Nat) ≠ 5) (by decide : (9 : Nat) ≠ 6)
  unfold lexAt
  by_cases c0 : ch B k = 256
  · rw [if_pos c0]; exact tkN_no (by decide : (0 : Nat) ≠ 3) (by decide : (0 : Nat) ≠ 5) (by decide : (0 : Nat) ≠ 6)
  · rw [if_neg c0]
    by_cases c1 : isLet (ch B k) = true
    · rw [if_pos c1]
      unfold lexName
      repeat' split
      · exact tkN_no (by decide : (2 : Nat) ≠ 3) (by decide : (2 : Nat) ≠ 5) (by decide : (2 : Nat) ≠ 6)
      · exact n0 _
      · exact tkN_no (by decide : (1 : Nat) ≠ 3) (by decide : (1 : Nat) ≠ 5) (by decide : (1 : Nat) ≠ 6)
    · rw [if_neg c1]
      by_cases c2 : isDig (ch B k) = true
      · rw [if_pos c2]
        unfold lexNum
        have r0 := run_ge isDig B k
        have r1 := run_ge isDig B (run isDig B k + 1)
        split
        · split
          · exact n0 _
          · rename_i z
            exact ⟨fun z => absurd z (by decide : (5 : Nat) ≠ 3), fun _ => realB_ok _ _ (by omega), fun z => absurd z (by decide : (5 : Nat) ≠ 6)⟩
        · split
          · split
            · exact n0 _
            · exact tkN_no (by decide : (4 : Nat) ≠ 3) (by decide : (4 : Nat) ≠ 5) (by decide : (4 : Nat) ≠ 6)
          · split
            · exact n0 _
            · rename_i z
              refine ⟨fun _ => ?_, fun z => absurd z (by decide : (3 : Nat) ≠ 5), fun z => absurd z (by decide : (3 : Nat) ≠ 6)⟩
              show -2147483648 ≤ (lN _).toInt ∧ (lN _).toInt < 2147483648
              rw [pk_lT (by omega)]; omega
      · rw [if_neg c2]
        by_cases c3 : ch B k = 39
        · rw [if_pos c3]
          unfold lexChr
          split
          · exact n0 _
          · rename_i z
            refine ⟨fun z => absurd z (by decide : (6 : Nat) ≠ 3), fun z => absurd z (by decide : (6 : Nat) ≠ 5), fun _ => ?_⟩
            show 0 ≤ (lN _).toInt ∧ (lN _).toInt < 65536
            rw [pk_lT (by omega)]; omega
        · rw [if_neg c3]
          by_cases c4 : ch B k = 34
          · rw [if_pos c4]
            unfold lexStr
            split
            · exact tkN_no (by decide : (7 : Nat) ≠ 3) (by decide : (7 : Nat) ≠ 5) (by decide : (7 : Nat) ≠ 6)
            · exact n0 _
          · rw [if_neg c4]
            unfold lexSgn
            split
            · exact n0 _
            · exact tkN_no (by decide : (8 : Nat) ≠ 3) (by decide : (8 : Nat) ≠ 5) (by decide : (8 : Nat) ≠ 6)
theorem lex1_n {B : List Nat} (ok : okB B) {k : Nat} (hk : k ≤ B.length) : tkN (lex1 B k) := by unfold lex1; exact lexAt_n ok (run_le isBlk hk)
theorem Lx_all {B : List Nat} (ok : okB B) (hB : B.length ≤ 299) : Lx B (lexAll B (B.length + 1) 0) := by
  obtain ⟨g1, g2, g3, g4⟩ := lexAll_g ok (B.length + 1) 0 (Nat.zero_le _) (by omega)
  have hlen := lexAll_len (B := B) (B.length + 1) 0
  refine ⟨ok, g1, by omega, g3, g4, fun i => ?_, fun i => ?_⟩
  rotate_left
  · by_cases hi : i < (lexAll B (B.length + 1) 0).length
    · cases i with
      | zero => show tkN ((lexAll B (B.length + 1) 0).getD 0 (noTk 0)); rw [g2]; exact lex1_n ok (Nat.zero_le _)
      | succ i =>
        obtain ⟨a, b, c⟩ := g3 i hi
        show tkN ((lexAll B (B.length + 1) 0).getD (i + 1) (noTk 0))
        rw [c]; exact lex1_n ok b
    · show tkN ((lexAll B (B.length + 1) 0).getD i (noTk 0))
      rw [gE_out (Nat.le_of_not_lt hi)]
      exact tkN_no (by decide : (9 : Nat) ≠ 3) (by decide : (9 : Nat) ≠ 5) (by decide : (9 : Nat) ≠ 6)
  by_cases hi : i < (lexAll B (B.length + 1) 0).length
  · cases i with
    | zero => show tkV ((lexAll B (B.length + 1) 0).getD 0 (noTk 0)); rw [g2]; exact lex1_v ok (Nat.zero_le _)
    | succ i =>
      obtain ⟨a, b, c⟩ := g3 i hi
      show tkV ((lexAll B (B.length + 1) 0).getD (i + 1) (noTk 0))
      rw [c]; exact lex1_v ok b
  · show tkV ((lexAll B (B.length + 1) 0).getD i (noTk 0))
    rw [gE_out (Nat.le_of_not_lt hi)]
    exact ⟨fun z => absurd z (by decide : (9 : Nat) ≠ 2), fun z => absurd z (by decide : (9 : Nat) ≠ 8), fun z => absurd z (by decide : (9 : Nat) ≠ 1), by show ([] : List Nat).length ≤ 100; decide, fun c hc => by simp [noTk] at hc, Nat.zero_le _, fun _ _ _ _ => rfl, by show 9 ≤ 9; decide⟩
/-- a type where it stands: name, place, how many [ ] -/
abbrev Ty : Type := List Nat × Nat × Nat
def TyX (h : HP) (a : Nat) (T : Ty) : Prop := kc h a = 14 ∧ kc h (fr h 170 a) = 71 ∧ tx h (fr h 170 a) = T.1 ∧ fi h 171 a = nI T.2.1 ∧ fi h 172 a = nI T.2.2 ∧ T.2.2 ≤ 8
def TyM (h : HP) (a : Nat) (T : Ty) : Prop := kc h a = 48 ∧ kc h (fr h 380 a) = 71 ∧ tx h (fr h 380 a) = T.1 ∧ fi h 381 a = nI T.2.1 ∧ fi h 382 a = nI T.2.2 ∧ fi h 383 a = -1
def StrX (h : HP) (a : Nat) (s : List Nat) : Prop := kc h a = 71 ∧ tx h a = s
def QtX (h : HP) (a : Nat) (s : List Nat) : Prop := kc h a = 18 ∧ StrX h (fr h 189 a) s
/-- a name told -/
abbrev Td : Type := List Nat × Nat
def ToM (h : HP) (a : Nat) (s : Td) : Prop := kc h a = 45 ∧ StrX h (fr h 353 a) s.1 ∧ fi h 354 a = nI s.2
/-- a type, or none -/
def TyO (h : HP) (a : Nat) (o : Option Ty) : Prop := match o with
  | none => a = 0
  | some T => TyM h a T
/-- an item: what, place, text, bits, number, type -/
abbrev It : Type := Nat × Nat × List Nat × Int64 × Nat × Option Ty
def ItM (h : HP) (a : Nat) (I : It) : Prop := kc h a = 51 ∧ fi h 395 a = nI I.1 ∧ fi h 396 a = nI I.2.1 ∧ StrX h (fr h 397 a) I.2.2.1 ∧ fj h 398 a = I.2.2.2.1 ∧ fi h 399 a = nI I.2.2.2.2.1 ∧ TyO h (fr h 400 a) I.2.2.2.2.2
theorem StrX_fr {S : Nat → Bool} {h h' : HP} {a : Nat} {s : List Nat} (f : Fr S h h') (m : StrX h a s) (h2 : S 71 = true) : StrX h' a s := by
  obtain ⟨b1, b2, b3⟩ := f.at m.1 (by decide) h2
  exact ⟨b1, b3.2.2.2.2.2.2.2.1.trans m.2⟩
theorem TyX_fr {S : Nat → Bool} {h h' : HP} {a : Nat} {T : Ty} (f : Fr S h h') (m : TyX h a T) (h1 : S 14 = true) (h2 : S 71 = true) : TyX h' a T := by
  obtain ⟨m1, m2, m3, m4, m5, m6⟩ := m
  obtain ⟨a1, a2, a3⟩ := f.at m1 (by decide) h1
  have e : fr h' 170 a = fr h 170 a := a3.2.2.1 170
  have s := StrX_fr f (⟨m2, m3⟩ : StrX h (fr h 170 a) T.1) h2
  exact ⟨a1, by rw [e]; exact s.1, by rw [e]; exact s.2, (a3.1 171).trans m4, (a3.1 172).trans m5, m6⟩
theorem TyM_fr {S : Nat → Bool} {h h' : HP} {a : Nat} {T : Ty} (f : Fr S h h') (m : TyM h a T) (h1 : S 48 = true) (h2 : S 71 = true) : TyM h' a T := by
  obtain ⟨m1, m2, m3, m4, m5, m6⟩ := m
  obtain ⟨a1, a2, a3⟩ := f.at m1 (by decide) h1
  have e : fr h' 380 a = fr h 380 a := a3.2.2.1 380
  have s := StrX_fr f (⟨m2, m3⟩ : StrX h (fr h 380 a) T.1) h2
  exact ⟨a1, by rw [e]; exact s.1, by rw [e]; exact s.2, (a3.1 381).trans m4, (a3.1 382).trans m5, (a3.1 383).trans m6⟩
theorem QtX_fr {S : Nat → Bool} {h h' : HP} {a : Nat} {s : List Nat} (f : Fr S h h') (m : QtX h a s) (h1 : S 18 = true) (h2 : S 71 = true) : QtX h' a s := by
  obtain ⟨a1, a2, a3⟩ := f.at m.1 (by decide) h1
  exact ⟨a1, by rw [a3.2.2.1 189]; exact StrX_fr f m.2 h2⟩
theorem ToM_fr {S : Nat → Bool} {h h' : HP} {a : Nat} {s : Td} (f : Fr S h h') (m : ToM h a s) (h1 : S 45 = true) (h2 : S 71 = true) : ToM h' a s := by
  obtain ⟨a1, a2, a3⟩ := f.at m.1 (by decide) h1
  exact ⟨a1, by rw [a3.2.2.1 353]; exact StrX_fr f m.2.1 h2, (a3.1 354).trans m.2.2⟩
theorem TyO_fr {S : Nat → Bool} {h h' : HP} {a : Nat} {o : Option Ty} (f : Fr S h h') (m : TyO h a o) (h1 : S 48 = true) (h2 : S 71 = true) : TyO h' a o := by
  cases o with
  | none => exact m
  | some T => exact TyM_fr f m h1 h2
theorem ItM_fr {S : Nat → Bool} {h h' : HP} {a : Nat} {I : It} (f : Fr S h h') (m : ItM h a I) (h1 : S 51 = true) (h2 : S 71 = true) (h3 : S 48 = true) : ItM h' a I := by
  obtain ⟨m1, m2, m3, m4, m5, m6, m7⟩ := m
  obtain ⟨a1, a2, a3⟩ := f.at m1 (by decide) h1
  refine ⟨a1, (a3.1 395).trans m2, (a3.1 396).trans m3, by rw [a3.2.2.1 397]; exact StrX_fr f m4 h2, (a3.2.1 398).trans m5, (a3.1 399).trans m6, ?_⟩
  rw [a3.2.2.1 400]
  exact TyO_fr f m7 h3 h2
