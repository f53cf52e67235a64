/-! PHASE B parser 2: what both parsers stand on -/
set_option maxRecDepth 100000
abbrev EE : Type := Nat × Nat × Nat × Nat × Nat × Nat × Nat × Nat × Nat × Nat × Nat × Nat × Nat × List Nat × List Tk × List Td
def EE.P (e : EE) : Nat := e.1
def EE.t (e : EE) : Nat := e.2.1
def EE.st (e : EE) : Nat := e.2.2.1
def EE.tl (e : EE) : Nat := e.2.2.2.1
def EE.ql (e : EE) : Nat := e.2.2.2.2.1
def EE.cl (e : EE) : Nat := e.2.2.2.2.2.1
def EE.Q (e : EE) : Nat := e.2.2.2.2.2.2.1
def EE.tr (e : EE) : Nat := e.2.2.2.2.2.2.2.1
def EE.pl (e : EE) : Nat := e.2.2.2.2.2.2.2.2.1
def EE.nl (e : EE) : Nat := e.2.2.2.2.2.2.2.2.2.1
def EE.il (e : EE) : Nat := e.2.2.2.2.2.2.2.2.2.2.1
def EE.yl (e : EE) : Nat := e.2.2.2.2.2.2.2.2.2.2.2.1
def EE.xl (e : EE) : Nat := e.2.2.2.2.2.2.2.2.2.2.2.2.1
def EE.B (e : EE) : List Nat := e.2.2.2.2.2.2.2.2.2.2.2.2.2.1
def EE.TS (e : EE) : List Tk := e.2.2.2.2.2.2.2.2.2.2.2.2.2.2.1
def EE.NL (e : EE) : List Td := e.2.2.2.2.2.2.2.2.2.2.2.2.2.2.2
abbrev EE.xx (e : EE) : List Nat := [e.t, e.st, e.tl, e.ql]
abbrev EE.mm (e : EE) : List Nat := [e.Q, e.tr, e.il, e.yl, e.xl]
def PS (e : EE) (h : HP) : Prop :=
  (kc h e.P = 11 ∨ kc h e.P = 12) ∧ fr h 156 e.P = e.t ∧ fr h 157 e.P = e.st ∧ fr h 158 e.P = e.tl ∧ fr h 159 e.P = e.ql ∧ fr h 160 e.P = e.cl ∧ kc h e.tl = 106 ∧ kc h e.ql = 105 ∧
  (100 ≤ kc h e.cl ∧ kc h e.cl < 130 ∧ kc h e.cl ≠ 105 ∧ (kc h e.cl ≠ 106 ∧ kc h e.cl ≠ 107) ∧ cp h e.cl ≠ RAW ∧ A2 (StrX h) (ls h e.cl) (e.NL.map Prod.fst) ∧ e.NL.length ≤ 300)
def PT (e : EE) (h : HP) (i : Nat) : Prop := TokO h e.t e.B e.st ∧ TkX h e.t (tk e.TS i) ∧ i < e.TS.length ∧ Lx e.B e.TS
def PL (e : EE) (h : HP) (i : Nat) (TY : List Ty) (QU : List (List Nat)) : Prop :=
  cp h e.tl ≠ RAW ∧ A2 (TyX h) (ls h e.tl) TY ∧ cp h e.ql ≠ RAW ∧ A2 (QtX h) (ls h e.ql) QU ∧ TY.length ≤ i ∧ QU.length ≤ i
def PX (e : EE) (h : HP) (i : Nat) (TY : List Ty) (QU : List (List Nat)) : Prop := WG h ∧ PS e h ∧ PT e h i ∧ PL e h i TY QU
/-- all kinds but the tokens, the stop, the parser's lists -/
def sX0 (k : Nat) : Bool := decide (k ≠ 10 ∧ k ≠ 2 ∧ k ≠ 105 ∧ k ≠ 106)
theorem PX.ks {e : EE} {h : HP} {i : Nat} {TY : List Ty} {QU : List (List Nat)} (p : PX e h i TY QU) : ∀ x ∈ e.xx, kc h x = 10 ∨ kc h x = 2 ∨ kc h x = 105 ∨ kc h x = 106 := by
  intro x hx
  simp only [List.mem_cons, List.not_mem_nil, or_false] at hx
  rcases hx with z | z | z | z
  · rw [z]; exact .inl p.2.2.1.1.1
  · rw [z]; exact .inr (.inl p.2.2.1.1.2.2.2.2.1)
  · rw [z]; exact .inr (.inr (.inr p.2.1.2.2.2.2.2.2.1))
  · rw [z]; exact .inr (.inr (.inl p.2.1.2.2.2.2.2.2.2.1))
theorem PX.fr0 {e : EE} {h h' : HP} {i a : Nat} {TY : List Ty} {QU : List (List Nat)} (p : PX e h i TY QU) (s : St [] e.xx a h h') : Fr sX0 h h' :=
  s.fr (by simp) (fun x hx => .inr (by rcases p.ks x hx with z | z | z | z <;> rw [z] <;> decide))
theorem PX.ps {e : EE} {h h' : HP} {i a : Nat} {TY : List Ty} {QU : List (List Nat)} (p : PX e h i TY QU) (s : St [] e.xx a h h') : PS e h' := by
  have F := p.fr0 s
  obtain ⟨_, ⟨k1, f1, f2, f3, f4, f5, k2, k3, c1, c2, c3, c4, c5, c6, c7⟩, _⟩ := p
  have kP0 : kc h e.P ≠ 0 := by rcases k1 with z | z <;> rw [z] <;> decide
  have kPs : sX0 (kc h e.P) = true := by rcases k1 with z | z <;> rw [z] <;> decide
  obtain ⟨a1, a2, a3⟩ := F.at rfl kP0 kPs
  obtain ⟨b1, b2, b3⟩ := F.at (p := e.cl) rfl (by omega) (by unfold sX0; simp; omega)
  refine ⟨by rw [a1]; exact k1, (a3.2.2.1 156).trans f1, (a3.2.2.1 157).trans f2, (a3.2.2.1 158).trans f3, (a3.2.2.1 159).trans f4, (a3.2.2.1 160).trans f5, s.2.kk k2 (by decide), s.2.kk k3 (by decide), by rw [b1]; exact c1, by rw [b1]; exact c2, by rw [b1]; exact c3, by rw [b1]; exact c4, by rw [b3.2.2.2.2.2.2.2.2]; exact c5, ?_, c7⟩
  rw [b3.2.2.2.2.2.2.1]
  exact c6.imp fun a _ b z => StrX_fr F z (by decide)
/-- nothing that was there is changed -/
theorem PX.new {e : EE} {h h' : HP} {i a : Nat} {TY : List Ty} {QU : List (List Nat)} (p : PX e h i TY QU) (s : St [] [] a h h') : PX e h' i TY QU := by
  have s' : St [] e.xx a h h' := s.wk (fun _ z => z) (fun x hx => by simp at hx) (Nat.le_refl _)
  have F : Fr (fun _ => true) h h' := s.fr (by simp) (by simp)
  have q := p.ps s'
  obtain ⟨w, ps, ⟨T, X, hi, L⟩, l1, l2, l3, l4, l5, l6⟩ := p
  obtain ⟨a1, a2, a3⟩ := F.at T.1 (by decide) rfl
  obtain ⟨b1, b2, b3⟩ := F.at ps.2.2.2.2.2.2.1 (by decide) rfl
  obtain ⟨c1, c2, c3⟩ := F.at ps.2.2.2.2.2.2.2.1 (by decide) rfl
  refine ⟨s.1, q, ⟨TokO_mono (t' := 0) T s (fun x hx => by simp at hx), ?_, hi, L⟩, by rw [b3.2.2.2.2.2.2.2.2]; exact l1, ?_, by rw [c3.2.2.2.2.2.2.2.2]; exact l3, ?_, l5, l6⟩
  · obtain ⟨x1, x2, x3, x4, x5, x6⟩ := X
    have hs := StrX_fr F (⟨x4, x5⟩ : StrX h (fr h 154 e.t) _) rfl
    refine ⟨(a3.1 151).trans x1, (a3.1 152).trans x2, (a3.1 153).trans x3, by rw [a3.2.2.1 154]; exact hs.1, by rw [a3.2.2.1 154]; exact hs.2, fun y z => (a3.2.1 155).trans (x6 y z)⟩
  · rw [b3.2.2.2.2.2.2.1]; exact l2.imp fun a _ b z => TyX_fr F z rfl rfl
  · rw [c3.2.2.2.2.2.2.1]; exact l4.imp fun a _ b z => QtX_fr F z rfl rfl
/-- lists of arguments may have changed -/
theorem PX.f107 {e : EE} {h h' : HP} {i : Nat} {TY : List Ty} {QU : List (List Nat)} (p : PX e h i TY QU) (w' : WG h') (F : Fr (fun k => decide (k ≠ 107)) h h') : PX e h' i TY QU := by
  obtain ⟨w, ⟨k1, f1, f2, f3, f4, f5, k2, k3, c1, c2, c3, c4, c5, c6, c7⟩, ⟨T, X, hi, L⟩, l1, l2, l3, l4, l5, l6⟩ := p
  have kP0 : kc h e.P ≠ 0 := by rcases k1 with z | z <;> rw [z] <;> decide
  have kPs : decide (kc h e.P ≠ 107) = true := by rcases k1 with z | z <;> rw [z] <;> decide
  obtain ⟨q1, q2, q3⟩ := F.at rfl kP0 kPs
  obtain ⟨r1, r2, r3⟩ := F.at (p := e.cl) rfl (by omega) (decide_eq_true (by omega))
  obtain ⟨a1, _, a3⟩ := F.at T.1 (by decide) (by decide)
  obtain ⟨b1, b2, b3⟩ := F.at k2 (by decide) (by decide)
  obtain ⟨d1, d2, d3⟩ := F.at k3 (by decide) (by decide)
  refine ⟨w', ⟨by rw [q1]; exact k1, (q3.2.2.1 156).trans f1, (q3.2.2.1 157).trans f2, (q3.2.2.1 158).trans f3, (q3.2.2.1 159).trans f4, (q3.2.2.1 160).trans f5, b1, d1, by rw [r1]; exact c1, by rw [r1]; exact c2, by rw [r1]; exact c3, by rw [r1]; exact c4, by rw [r3.2.2.2.2.2.2.2.2]; exact c5, ?_, c7⟩, ⟨?_, ?_, hi, L⟩, by rw [b3.2.2.2.2.2.2.2.2]; exact l1, ?_, by rw [d3.2.2.2.2.2.2.2.2]; exact l3, ?_, l5, l6⟩
  · rw [r3.2.2.2.2.2.2.1]; exact c6.imp fun a _ b z => StrX_fr F z (by decide)
  · obtain ⟨t1, t2, t3, t4, t5, t6⟩ := T
    obtain ⟨s1, _, s3⟩ := F.at t5 (by decide) (by decide)
    refine ⟨a1, (a3.1 149).trans t2, ?_, (a3.2.2.1 150).trans t4, s1, ?_⟩
    · rw [a3.2.2.1 148]
      have k200 : 200 ≤ kc h (fr h 148 e.t) := Nat.le_of_not_lt fun z => by
        have := t3.1; unfold tiK at this; rw [if_pos z] at this; omega
      exact ByA_fr F t3 (decide_eq_true (by omega))
    · rw [s3.2.2.1 27]; exact (F.at t6 (by decide) (by decide)).1
  · obtain ⟨x1, x2, x3, x4, x5, x6⟩ := X
    have hs := StrX_fr F (⟨x4, x5⟩ : StrX h (fr h 154 e.t) _) (by decide)
    exact ⟨(a3.1 151).trans x1, (a3.1 152).trans x2, (a3.1 153).trans x3, by rw [a3.2.2.1 154]; exact hs.1, by rw [a3.2.2.1 154]; exact hs.2, fun y z => (a3.2.1 155).trans (x6 y z)⟩
  · rw [b3.2.2.2.2.2.2.1]; exact l2.imp fun a _ b z => TyX_fr F z (by decide) (by decide)
  · rw [d3.2.2.2.2.2.2.1]; exact l4.imp fun a _ b z => QtX_fr F z (by decide) (by decide)
/-- the tokens have moved -/
theorem PX.tok {e : EE} {h h' : HP} {i j a : Nat} {TY : List Ty} {QU : List (List Nat)} (p : PX e h i TY QU) (s : St [] [e.t, e.st] a h h') (T : TokO h' e.t e.B e.st) (X : TkX h' e.t (tk e.TS j)) (hj : j < e.TS.length) (hij : i ≤ j) : PX e h' j TY QU := by
  have s' : St [] e.xx a h h' := s.wk (fun _ z => z) (fun x hx => .inl (by simp at hx; rcases hx with z | z <;> simp [z])) (Nat.le_refl _)
  have q := p.ps s'
  have F := p.fr0 s'
  obtain ⟨w, ps, ⟨T0, X0, hi, L⟩, l1, l2, l3, l4, l5, l6⟩ := p
  have kt := T0.1
  have kst := T0.2.2.2.2.1
  have b := s.2.eq ps.2.2.2.2.2.2.1 (by decide) (by simp) (by simp; exact ⟨fun z => by have := ps.2.2.2.2.2.2.1; rw [z, kt] at this; omega, fun z => by have := ps.2.2.2.2.2.2.1; rw [z, kst] at this; omega⟩)
  have c := s.2.eq ps.2.2.2.2.2.2.2.1 (by decide) (by simp) (by simp; exact ⟨fun z => by have := ps.2.2.2.2.2.2.2.1; rw [z, kt] at this; omega, fun z => by have := ps.2.2.2.2.2.2.2.1; rw [z, kst] at this; omega⟩)
  refine ⟨s.1, q, ⟨T, X, hj, L⟩, by rw [b.2.2.2.2.2.2.2.2]; exact l1, ?_, by rw [c.2.2.2.2.2.2.2.2]; exact l3, ?_, by omega, by omega⟩
  · rw [b.2.2.2.2.2.2.1]; exact l2.imp fun a _ b z => TyX_fr F z (by decide) (by decide)
  · rw [c.2.2.2.2.2.2.1]; exact l4.imp fun a _ b z => QtX_fr F z (by decide) (by decide)
def StopX (e : EE) (h : HP) (p : Nat) : Prop := fi h 28 e.st = 1 ∧ fi h 29 e.st = nI p
theorem PX.kP {e : EE} {h : HP} {i : Nat} {TY : List Ty} {QU : List (List Nat)} (p : PX e h i TY QU) : kc h e.P ∈ ksParser := by
  rcases p.2.1.1 with z | z <;> rw [z] <;> decide
theorem PX.V {e : EE} {h : HP} {i : Nat} {TY : List Ty} {QU : List (List Nat)} (p : PX e h i TY QU) : tkV (tk e.TS i) := p.2.2.1.2.2.2.2.2.2.2.2.1 i
theorem xP_e {e : EE} {h : HP} {i : Nat} {TY : List Ty} {QU : List (List Nat)} (p : PX e h i TY QU) {β : Type} {A : Rs β} : (if kc h e.P ∈ [11, 12] then A else none) = A := if_pos p.kP
theorem xt_e {e : EE} {h : HP} {i : Nat} {TY : List Ty} {QU : List (List Nat)} (p : PX e h i TY QU) {β : Type} {K : Nat → Rs β} : ldMR ksParser 156 e.P h K = K e.t := by rw [ldMR_e p.kP, p.2.1.2.1]
theorem x10_e {e : EE} {h : HP} {i : Nat} {TY : List Ty} {QU : List (List Nat)} (p : PX e h i TY QU) {β : Type} {A : Rs β} : (if kc h e.t = 10 then A else none) = A := if_pos p.2.2.1.1.1
theorem xplc_e {e : EE} {h : HP} {i : Nat} {TY : List Ty} {QU : List (List Nat)} (p : PX e h i TY QU) {β : Type} {K : Int32 → Rs β} : ldI 10 152 e.t h K = K (nI (tk e.TS i).2.1) := by rw [ldI_e p.2.2.1.1.1, p.2.2.1.2.1.2.1]
theorem xknd_e {e : EE} {h : HP} {i : Nat} {TY : List Ty} {QU : List (List Nat)} (p : PX e h i TY QU) {β : Type} {K : Int32 → Rs β} : ldI 10 151 e.t h K = K (nI (tk e.TS i).1) := by rw [ldI_e p.2.2.1.1.1, p.2.2.1.2.1.1]
theorem xwrd_e {e : EE} {h : HP} {i : Nat} {TY : List Ty} {QU : List (List Nat)} (p : PX e h i TY QU) {β : Type} {K : Nat → Rs β} : ldR 10 154 e.t h K = K (fr h 154 e.t) := by rw [ldR_e p.2.2.1.1.1]
theorem PX.wrd {e : EE} {h : HP} {i : Nat} {TY : List Ty} {QU : List (List Nat)} (p : PX e h i TY QU) : StrX h (fr h 154 e.t) (tk e.TS i).2.2.1 := ⟨p.2.2.1.2.1.2.2.2.1, p.2.2.1.2.1.2.2.2.2.1⟩
/-- whether the token is a sign or a word -/
theorem xis_e {e : EE} {h : HP} {i : Nat} {TY : List Ty} {QU : List (List Nat)} (p : PX e h i TY QU) {s : Nat} {w : List Nat} (h1 : 1 ≤ s) (h2 : s ≤ nStr) (hw : codes (cStr.getD (s - 1) "") = w) {β : Type} {K : Int32 → HP → Rs β} :
    bd (f_X9_is e.t s h) K = if isX (tk e.TS i) w then K 1 h else K 0 h := by
  have w0 := p.1
  have V := p.V.2.2.2.2.2.2.2
  have hwd := p.wrd
  unfold f_X9_is f_X9_is_b17
  rw [xknd_e p, xknd_e p, xwrd_e p, txEq_c w0 hwd.1 hwd.2 h1 h2 hw]
  by_cases a : (tk e.TS i).1 = 8
  · rw [if_pos ((nk _ (c := 8) (C := (8 : Int32)) rfl (by omega) (by omega)).mpr a)]
    by_cases b : (tk e.TS i).2.2.1 = w
    · rw [if_pos b, if_neg (by decide), bd_ok, if_pos ⟨.inl a, b⟩]
    · rw [if_neg b, if_pos rfl, bd_ok, if_neg (fun z => b z.2)]
  · rw [if_neg (fun z => a ((nk _ (c := 8) (C := (8 : Int32)) rfl (by omega) (by omega)).mp z))]
    by_cases a2 : (tk e.TS i).1 = 2
    · rw [if_pos ((nk _ (c := 2) (C := (2 : Int32)) rfl (by omega) (by omega)).mpr a2)]
      by_cases b : (tk e.TS i).2.2.1 = w
      · rw [if_pos b, if_neg (by decide), bd_ok, if_pos ⟨.inr a2, b⟩]
      · rw [if_neg b, if_pos rfl, bd_ok, if_neg (fun z => b z.2)]
    · rw [if_neg (fun z => a2 ((nk _ (c := 2) (C := (2 : Int32)) rfl (by omega) (by omega)).mp z)), bd_ok, if_neg (fun z => by rcases z.1 with y | y; exact a y; exact a2 y)]
/-- the next token: there, or none -/
theorem xnext {e : EE} {h : HP} {i : Nat} {TY : List Ty} {QU : List (List Nat)} (p : PX e h i TY QU) (g : tkGo (tk e.TS i)) :
    ((tk e.TS (i + 1)).1 ≠ 9 ∧ ∃ h', (∀ (β : Type) (K : HP → Rs β), bd (f_X9_next e.t h) (fun _ h2 => K h2) = K h') ∧ St [] [e.t, e.st] 20 h h' ∧ PX e h' (i + 1) TY QU) ∨
    ((tk e.TS (i + 1)).1 = 9 ∧ ∃ h', (∀ (β : Type) (K : HP → Rs β), bd (f_X9_next e.t h) (fun _ h2 => K h2) = rex h') ∧ St [] [e.t, e.st] 20 h h' ∧ StopX e h' (tk e.TS (i + 1)).2.1) := by
  obtain ⟨T, X, hi, L⟩ := p.2.2.1
  have hi1 := L.go hi g
  obtain ⟨g1, g2, g3⟩ := L.2.2.2.1 i hi1
  have N := x_next L.1 p.1 T X.2.2.1 g2
  rw [← g3] at N
  by_cases c : (tk e.TS (i + 1)).1 = 9
  · obtain ⟨h', e1, s1, T1, f1, f2⟩ := N.2 c
    exact .inr ⟨c, h', fun β K => by rw [e1]; rfl, s1, f1, f2⟩
  · obtain ⟨h', e1, s1, T1, X1⟩ := N.1 c
    exact .inl ⟨c, h', fun β K => by rw [e1]; rfl, s1, p.tok s1 T1 X1 hi1 (by omega)⟩
theorem xwrong {e : EE} {h : HP} {i : Nat} {TY : List Ty} {QU : List (List Nat)} (p : PX e h i TY QU) :
    ∃ h', (∀ (β : Type), (bd (f_X9_wrong e.t h) (fun x1 h2 => if kc h2 x1 = 69 then (rex h2 : Rs β) else none)) = rex h') ∧ St [] [e.t, e.st] 0 h h' ∧ StopX e h' (tk e.TS i).2.1 := by
  obtain ⟨T, X, hi, L⟩ := p.2.2.1
  obtain ⟨h', e1, s1, T1, f1, f2⟩ := x_wrong p.1 T X.2.1
  rw [if_pos T.1] at e1
  refine ⟨h', fun β => ?_, s1, f1, f2⟩
  cases hr : f_X9_wrong e.t h with
  | none => rw [hr] at e1; exact absurd e1 (by intro z; cases z)
  | some v =>
    rw [hr] at e1
    cases v with
    | inl x => exact congrArg (fun z => some (Sum.inl z)) (by simpa [bdc, rex] using e1)
    | inr x =>
      have e2 : (if kc x.2 x.1 = 69 then (rex x.2 : Rs Unit) else none) = rex h' := e1
      show (if kc x.2 x.1 = 69 then (rex x.2 : Rs β) else none) = rex h'
      by_cases c : kc x.2 x.1 = 69
      · rw [if_pos c] at e2 ⊢
        exact congrArg (fun z => some (Sum.inl z)) (by simpa [rex] using e2)
      · rw [if_neg c] at e2; exact absurd e2 (by intro z; cases z)
theorem xexpY {e : EE} {h : HP} {i : Nat} {TY : List Ty} {QU : List (List Nat)} (p : PX e h i TY QU) {s : Nat} {w : List Nat} (h1 : 1 ≤ s) (h2 : s ≤ nStr) (hw : codes (cStr.getD (s - 1) "") = w) (hx : isX (tk e.TS i) w) {β : Type} {K : HP → Rs β} :
    bd (f_X9_expect e.t s h) (fun _ h2 => K h2) = bd (f_X9_next e.t h) (fun _ h2 => K h2) := by
  unfold f_X9_expect
  rw [x10_e p, xis_e p h1 h2 hw, if_pos hx, if_neg (by decide), x10_e p, bd_u]
theorem xexpN {e : EE} {h : HP} {i : Nat} {TY : List Ty} {QU : List (List Nat)} (p : PX e h i TY QU) {s : Nat} {w : List Nat} (h1 : 1 ≤ s) (h2 : s ≤ nStr) (hw : codes (cStr.getD (s - 1) "") = w) (hx : ¬ isX (tk e.TS i) w) :
    ∃ h', (∀ (β : Type) (K : HP → Rs β), bd (f_X9_expect e.t s h) (fun _ h2 => K h2) = rex h') ∧ St [] [e.t, e.st] 0 h h' ∧ StopX e h' (tk e.TS i).2.1 := by
  obtain ⟨h', e1, s1, f1⟩ := xwrong p
  refine ⟨h', fun β K => ?_, s1, f1⟩
  unfold f_X9_expect
  rw [x10_e p, xis_e p h1 h2 hw, if_neg hx, if_pos rfl, x10_e p, e1]; rfl
theorem xaccY {e : EE} {h : HP} {i : Nat} {TY : List Ty} {QU : List (List Nat)} (p : PX e h i TY QU) {s : Nat} {w : List Nat} (h1 : 1 ≤ s) (h2 : s ≤ nStr) (hw : codes (cStr.getD (s - 1) "") = w) (hx : isX (tk e.TS i) w) {β : Type} {K : Int32 → HP → Rs β} :
    bd (f_X9_accept e.t s h) K = bd (f_X9_next e.t h) (fun _ h2 => K 1 h2) := by
  unfold f_X9_accept
  rw [x10_e p, xis_e p h1 h2 hw, if_pos hx, if_neg (by decide), x10_e p]
  cases f_X9_next e.t h with
  | none => rfl
  | some v => cases v <;> rfl
theorem xaccN {e : EE} {h : HP} {i : Nat} {TY : List Ty} {QU : List (List Nat)} (p : PX e h i TY QU) {s : Nat} {w : List Nat} (h1 : 1 ≤ s) (h2 : s ≤ nStr) (hw : codes (cStr.getD (s - 1) "") = w) (hx : ¬ isX (tk e.TS i) w) {β : Type} {K : Int32 → HP → Rs β} :
    bd (f_X9_accept e.t s h) K = K 0 h := by
  unfold f_X9_accept
  rw [x10_e p, xis_e p h1 h2 hw, if_neg hx, if_pos rfl, bd_ok]
theorem xnameY {e : EE} {h : HP} {i : Nat} {TY : List Ty} {QU : List (List Nat)} (p : PX e h i TY QU) (hx : (tk e.TS i).1 = 1) {β : Type} {K : Nat → HP → Rs β} :
    bd (f_X9_name e.t h) K = bd (f_X9_next e.t h) (fun _ h2 => K (fr h 154 e.t) h2) := by
  unfold f_X9_name
  rw [xknd_e p, if_pos ((nk _ (c := 1) (C := (1 : Int32)) rfl (by omega) (by omega)).mpr hx), xwrd_e p, x10_e p]
  cases f_X9_next e.t h with
  | none => rfl
  | some v => cases v <;> rfl
theorem xnameN {e : EE} {h : HP} {i : Nat} {TY : List Ty} {QU : List (List Nat)} (p : PX e h i TY QU) (hx : (tk e.TS i).1 ≠ 1) :
    ∃ h', (∀ (β : Type) (K : Nat → HP → Rs β), bd (f_X9_name e.t h) K = rex h') ∧ St [] [e.t, e.st] 0 h h' ∧ StopX e h' (tk e.TS i).2.1 := by
  obtain ⟨h', e1, s1, f1⟩ := xwrong p
  have V := p.V.2.2.2.2.2.2.2
  refine ⟨h', fun β K => ?_, s1, f1⟩
  unfold f_X9_name
  rw [xknd_e p, if_neg (fun z => hx ((nk _ (c := 1) (C := (1 : Int32)) rfl (by omega) (by omega)).mp z)), x10_e p, e1]; rfl
theorem xdeepY {e : EE} {h : HP} {d : Nat} (hd : d < 30) {β : Type} {K : Int32 → HP → Rs β} : bd (f_X10_deeper e.P (nI d) h) K = K (nI (d + 1)) h := by
  unfold f_X10_deeper
  rw [if_neg (show ¬ nI d = (30 : Int32) from fun z => by have := (nk d (c := 30) (C := (30 : Int32)) rfl (by omega) (by omega)).mp z; omega), bd_ok, show nI d + (1 : Int32) = nI (d + 1) from nI_1 d]
theorem xdeepN {e : EE} {h : HP} {i : Nat} {TY : List Ty} {QU : List (List Nat)} (p : PX e h i TY QU) {d : Nat} (hd : d = 30) :
    ∃ h', (∀ (β : Type) (K : Int32 → HP → Rs β), bd (f_X10_deeper e.P (nI d) h) K = rex h') ∧ St [] [e.t, e.st] 0 h h' ∧ StopX e h' (tk e.TS i).2.1 := by
  obtain ⟨h', e1, s1, f1⟩ := xwrong p
  refine ⟨h', fun β K => ?_, s1, f1⟩
  unfold f_X10_deeper
  rw [if_pos (by rw [hd]; rfl), xt_e p, x10_e p, e1]; rfl
