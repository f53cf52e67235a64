/-! PHASE B parser 4: signs between operands; trees of nodes and their items -/
set_option maxRecDepth 100000
/-- signs between operands: the component's number, the rank -/
def WT : List (List Nat × Nat × Nat) := [("||", 19, 0), ("&&", 18, 1), ("|", 17, 2), ("^", 16, 3), ("&", 15, 4), ("==", 13, 5), ("!=", 14, 5), ("<", 9, 6), (">", 10, 6), ("<=", 11, 6), (">=", 12, 6), ("<<", 6, 7), (">>", 7, 7), (">>>", 8, 7), ("+", 1, 8), ("-", 2, 8), ("*", 3, 9), ("/", 4, 9), ("%", 5, 9)].map fun x => (codes x.1, x.2)
def wf (w : List Nat) : Nat × Nat := match WT.find? (fun x => x.1 == w) with
  | some x => x.2
  | none => (0, 99)
def wh (w : List Nat) : Nat := (wf w).1
def rk (w : List Nat) : Nat := (wf w).2
theorem rk_wh : ∀ w ∈ SW, (wh w = 0 ↔ rk w = 99) ∧ (wh w ≠ 0 → rk w ≤ 9) ∧ wh w ≤ 19 := by decide +kernel
theorem x_sgc_w : ∀ w ∈ SW, 1 ≤ w.length ∧ w.length ≤ 3 := by decide +kernel
def lvI (n : Nat) : Int32 := if n = 19 then 0 else if n = 18 then 1 else if n = 17 then 2 else if n = 16 then 3 else if n = 15 then 4 else if n < 13 then (if n < 9 then (if n < 6 then (if n < 3 then (if n < 1 then -1 else 8) else 9) else 7) else 6) else 5
theorem x_level {n : Nat} (hn : n ≤ 19) (h : HP) : f_X10_level (nI n) h = rok (lvI n) h := by
  unfold f_X10_level
  simp only [spI]
  congr 1
  exact (by decide +kernel : ∀ n, n < 20 → (if nI n = (19 : Int32) then (0 : Int32) else if nI n = (18 : Int32) then 1 else if nI n = (17 : Int32) then 2 else if nI n = (16 : Int32) then 3 else if nI n = (15 : Int32) then 4 else if nI n < (13 : Int32) then (if nI n < (9 : Int32) then (if nI n < (6 : Int32) then (if nI n < (3 : Int32) then (if nI n < (1 : Int32) then -1 else 8) else 9) else 7) else 6) else 5) = lvI n) n (by omega)
theorem lv_rk : ∀ w ∈ SW, wh w ≠ 0 → lvI (wh w) = nI (rk w) := by decide +kernel
/-- what the component's sign means -/
def sgW (w : List Nat) : Int32 :=
  if w.length = 3 then 8 else if w.length = 2 then (if w.getD 0 0 = 60 then (if w.getD 1 0 = 60 then 6 else 11) else if w.getD 0 0 = 62 then (if w.getD 1 0 = 62 then 7 else 12) else if w.getD 0 0 = 61 then 13 else if w.getD 0 0 = 33 then 14 else if w.getD 0 0 = 38 then 18 else 19)
  else if w.getD 0 0 = 37 then 5 else if w.getD 0 0 = 38 then 15 else if w.getD 0 0 = 42 then 3 else if w.getD 0 0 = 43 then 1 else if w.getD 0 0 = 45 then 2 else if w.getD 0 0 = 47 then 4 else if w.getD 0 0 = 60 then 9 else if w.getD 0 0 = 62 then 10 else if w.getD 0 0 = 94 then 16 else if w.getD 0 0 = 124 then 17 else 0
theorem sgW_wh : ∀ w ∈ SW, sgW w = nI (wh w) ∧ (∀ c ∈ w, c < 256) := by decide +kernel
/-- what the sign at the present token is between operands -/
def tw (T : Tk) : Nat := if T.1 = 8 then wh T.2.2.1 else 0
theorem xsign_e {e : EE} {h : HP} {i : Nat} {TY : List Ty} {QU : List (List Nat)} (p : PX e h i TY QU) {β : Type} {K : Int32 → HP → Rs β} : bd (f_X10_sign e.P h) K = K (nI (tw (tk e.TS i))) h := by
  have V := p.V
  have V9 := V.2.2.2.2.2.2.2
  have wd := p.wrd
  unfold f_X10_sign tw
  rw [xt_e p, xknd_e p]
  by_cases a : (tk e.TS i).1 = 8
  · have m := V.2.1 a
    obtain ⟨l1, l2⟩ := x_sgc_w _ m
    obtain ⟨s1, s2⟩ := sgW_wh _ m
    rw [if_pos ((nk _ (c := 8) (C := (8 : Int32)) rfl (by omega) (by omega)).mpr a), if_pos a, ← s1, xt_e p, xwrd_e p]
    generalize (tk e.TS i).2.2.1 = w at *
    obtain ⟨k1, t1⟩ := wd
    have c0 := s2 _ (List.getElem_mem (show 0 < w.length by omega))
    have g0 : w.getD 0 0 = w[0] := gD_in _
    rw [show (0 : Int32) = nI 0 from rfl, txAt_ok (c := w[0]) k1 (by rw [t1]; omega) (by rw [t1]; omega) (by rw [t1]; exact g0)]
    simp only [xt_e p, xwrd_e p]
    rw [txLen_e k1, t1]
    unfold sgW
    rw [g0]
    have cI : ∀ {v : Nat} {V : Int32}, V = nI v → v < 256 → ((nI w[0] = V) ↔ w[0] = v) := fun hV hv => by rw [hV]; exact nI_eq (by omega) (by omega)
    by_cases l3 : w.length = 3
    · rw [if_pos ((nk _ (c := 3) (C := (3 : Int32)) rfl (by omega) (by omega)).mpr l3), if_pos l3, bd_ok]
    · rw [if_neg (fun z => l3 ((nk _ (c := 3) (C := (3 : Int32)) rfl (by omega) (by omega)).mp z)), if_neg l3]
      by_cases l2 : w.length = 2
      · have c1 := s2 _ (List.getElem_mem (show 1 < w.length by omega))
        have g1 : w.getD 1 0 = w[1] := gD_in _
        have cJ : ∀ {v : Nat} {V : Int32}, V = nI v → v < 256 → ((nI w[1] = V) ↔ w[1] = v) := fun hV hv => by rw [hV]; exact nI_eq (by omega) (by omega)
        rw [if_pos ((nk _ (c := 2) (C := (2 : Int32)) rfl (by omega) (by omega)).mpr l2), if_pos l2, show (1 : Int32) = nI 1 from rfl, txAt_ok (c := w[1]) k1 (by rw [t1]; omega) (by rw [t1]; omega) (by rw [t1]; exact g1), g1]
        unfold f_X10_longSign
        simp only [spI, bd_ok, cI (v := 60) (V := 60) rfl (by omega), cI (v := 62) (V := 62) rfl (by omega), cI (v := 61) (V := 61) rfl (by omega), cI (v := 33) (V := 33) rfl (by omega), cI (v := 38) (V := 38) rfl (by omega), cJ (v := 60) (V := 60) rfl (by omega), cJ (v := 62) (V := 62) rfl (by omega)]
      · rw [if_neg (fun z => l2 ((nk _ (c := 2) (C := (2 : Int32)) rfl (by omega) (by omega)).mp z)), if_neg l2]
        simp only [spI, bd_ok, cI (v := 37) (V := 37) rfl (by omega), cI (v := 38) (V := 38) rfl (by omega), cI (v := 42) (V := 42) rfl (by omega), cI (v := 43) (V := 43) rfl (by omega), cI (v := 45) (V := 45) rfl (by omega), cI (v := 47) (V := 47) rfl (by omega), cI (v := 60) (V := 60) rfl (by omega), cI (v := 62) (V := 62) rfl (by omega), cI (v := 94) (V := 94) rfl (by omega), cI (v := 124) (V := 124) rfl (by omega)]
        rfl
  · rw [if_neg (fun z => a ((nk _ (c := 8) (C := (8 : Int32)) rfl (by omega) (by omega)).mp z)), if_neg a, bd_ok]; rfl
def hMax (L : List (List It × Nat)) (m : Nat) : Nat := L.foldl (fun m p => max m (p.2 + 1)) m
def flat (L : List (List It × Nat)) : List It := (L.map Prod.fst).flatten
/-- new since a heap -/
def Nw (h : HP) (q : Nat) : Prop := kc h q = 0 ∧ nx h ≤ q
theorem St.nw {K X : List Nat} {a : Nat} {h h1 : HP} (s : St K X a h h1) : Nw h (nx h1) := ⟨s.new, s.2.1⟩
theorem St.nwb {K X : List Nat} {a q : Nat} {h h1 : HP} (s : St K X a h h1) (z : Nw h1 q) : Nw h q := ⟨Classical.byContradiction fun y => y ((s.2.2.2.2 q y).1.symm.trans z.1), Nat.le_trans s.2.1 z.2⟩
/-- places of things' own -/
def Dj (B : Nat → Nat → Prop) : Prop := ∀ a b q, B a q → B b q → a = b
/-- a node, its items, its height; F: its places -/
def Nd (e : EE) (F : Nat → Prop) : Nat → HP → Nat → List It → Nat → Prop
  | 0, _, _, _, _ => False
  | d + 1, h, n, its, H =>
    (∃ x at', Nd e F d h n x H ∧ its = x ++ [(0, at', [], 0, 0, none)] ∧ ∀ b s, x = [(5, b, s, 0, 0, none)] → s ∉ e.NL.map Prod.fst) ∨
    (∃ at', fi h 182 n = nI at' ∧ fr h 183 n = 0 ∧ fi h 184 n = nI H ∧ H ≤ 1000 ∧ F n ∧ (
      (kc h n = 17 ∧ H = 1 ∧ ∃ k bits, k < 8 ∧ nu_ok k bits ∧ fi h 187 n = nI k ∧ fj h 188 n = bits ∧ its = [(1, at', [], bits, k, none)]) ∨
      (kc h n = 17 ∧ H = 1 ∧ fi h 187 n = -1 ∧ fj h 188 n = 0 ∧ its = [(3, at', [], 0, 0, none)]) ∨
      (kc h n = 18 ∧ H = 1 ∧ n ∈ ls h e.ql ∧ ∃ s, StrX h (fr h 189 n) s ∧ its = [(2, at', s, 0, 0, none)]) ∨
      (kc h n = 19 ∧ H = 1 ∧ its = [(4, at', [], 0, 0, none)]) ∨
      (kc h n = 21 ∧ H = 1 ∧ fr h 198 n = 0 ∧ ∃ s, StrX h (fr h 196 n) s ∧ its = [(5, at', s, 0, 0, none)]) ∨
      (kc h n = 23 ∧ fi h 203 n = 0 ∧ fr h 204 n = 0 ∧ ∃ s x Ha, StrX h (fr h 202 n) s ∧ Nd e (fun q => F q ∧ q ≠ n) d h (fr h 201 n) x Ha ∧ H = Ha + 1 ∧ its = x ++ [(6, at', s, 0, 0, none)]) ∨
      (kc h n = 20 ∧ F (fr h 193 n) ∧ fr h 194 n = 0 ∧ fi h 195 n = 0 ∧ kc h (fr h 193 n) = 107 ∧ cp h (fr h 193 n) ≠ RAW ∧ ∃ s L B, StrX h (fr h 192 n) s ∧ ((Dj B ∧ ∀ c, ¬ B c n) ∧ (ls h (fr h 193 n)).Nodup ∧ A2 (fun a p => Nd e (fun q => F q ∧ B a q) d h a p.1 p.2) (ls h (fr h 193 n)) L) ∧ L.length ≤ 300 ∧
        ((fr h 191 n = 0 ∧ H = hMax L 1 ∧ its = flat L ++ [(7, at', s, 0, L.length, none)]) ∨
         (fr h 191 n ≠ 0 ∧ fr h 191 n ∉ ls h (fr h 193 n) ∧ ∃ x Ha, Nd e (fun q => F q ∧ B (fr h 191 n) q) d h (fr h 191 n) x Ha ∧ H = hMax L (Ha + 1) ∧ its = x ++ flat L ++ [(7, at', s, 1, L.length, none)]))) ∨
      (kc h n = 22 ∧ ∃ x y Ha Hb B, (Dj B ∧ fr h 199 n ≠ fr h 200 n ∧ ∀ c, ¬ B c n) ∧ Nd e (fun q => F q ∧ B (fr h 199 n) q) d h (fr h 199 n) x Ha ∧ Nd e (fun q => F q ∧ B (fr h 200 n) q) d h (fr h 200 n) y Hb ∧ H = max (Ha + 1) (Hb + 1) ∧ its = x ++ y ++ [(8, at', [], 0, 0, none)]) ∨
      (kc h n = 16 ∧ ∃ c x Ha, (c = 45 ∨ c = 33 ∨ c = 126) ∧ fi h 185 n = nI c ∧ Nd e (fun q => F q ∧ q ≠ n) d h (fr h 186 n) x Ha ∧ H = Ha + 1 ∧ its = x ++ [(9, at', [c], 0, 0, none)]) ∨
      (kc h n = 24 ∧ fr h 206 n ∈ ls h e.tl ∧ ∃ T x Ha, TyX h (fr h 206 n) T ∧ Nd e (fun q => F q ∧ q ≠ n) d h (fr h 207 n) x Ha ∧ H = Ha + 1 ∧ its = x ++ [(10, at', [], 0, 0, some T)]) ∨
      (kc h n = 27 ∧ fr h 216 n ∈ ls h e.tl ∧ ∃ T x Ha, TyX h (fr h 216 n) T ∧ Nd e (fun q => F q ∧ q ≠ n) d h (fr h 215 n) x Ha ∧ H = Ha + 1 ∧ its = x ++ [(12, at', [], 0, 0, some T)]) ∨
      (kc h n = 28 ∧ fi h 220 n = -1 ∧ ∃ w x y Ha Hb B, w ∈ SW ∧ wh w ≠ 0 ∧ (fi h 217 n = nI (wh w) ∧ Dj B ∧ fr h 218 n ≠ fr h 219 n ∧ ∀ c, ¬ B c n) ∧ Nd e (fun q => F q ∧ B (fr h 218 n) q) d h (fr h 218 n) x Ha ∧ Nd e (fun q => F q ∧ B (fr h 219 n) q) d h (fr h 219 n) y Hb ∧ H = max (Ha + 1) (Hb + 1) ∧
        its = if rk w < 2 then x ++ [(13, at', w, 0, 0, none)] ++ y ++ [(14, at', w, 0, 0, none)] else x ++ y ++ [(11, at', w, 0, 0, none)]) ∨
      (kc h n = 29 ∧ ∃ x y z Ha Hb Hc B, (Dj B ∧ fr h 221 n ≠ fr h 222 n ∧ fr h 221 n ≠ fr h 223 n ∧ fr h 222 n ≠ fr h 223 n ∧ ∀ c, ¬ B c n) ∧ Nd e (fun q => F q ∧ B (fr h 221 n) q) d h (fr h 221 n) x Ha ∧ Nd e (fun q => F q ∧ B (fr h 222 n) q) d h (fr h 222 n) y Hb ∧ Nd e (fun q => F q ∧ B (fr h 223 n) q) d h (fr h 223 n) z Hc ∧ H = max (max (Ha + 1) (Hb + 1)) (Hc + 1) ∧
        its = x ++ [(15, at', [], 0, 0, none)] ++ y ++ [(16, at', [], 0, 0, none)] ++ z ++ [(17, at', [], 0, 0, none)]) ∨
      (kc h n = 25 ∧ kc h (fr h 210 n) = 26 ∧ fr h 214 (fr h 210 n) = 0 ∧ ∃ q s x y Ha Hb B, q < 4 ∧ (fi h 208 n = nI q ∧ (Dj B ∧ fr h 213 (fr h 210 n) ≠ fr h 211 n ∧ (∀ c, ¬ B c n) ∧ ∀ c, ¬ B c (fr h 210 n)) ∧ F (fr h 210 n) ∧ s ∉ PW) ∧ StrX h (fr h 209 n) s ∧ Nd e (fun q => F q ∧ B (fr h 213 (fr h 210 n)) q) d h (fr h 213 (fr h 210 n)) x Ha ∧ Nd e (fun q => F q ∧ B (fr h 211 n) q) d h (fr h 211 n) y Hb ∧ H = max (Ha + 1) (Hb + 1) ∧
        its = x ++ [(18, at', s, 0, q + 1, none)] ++ y ++ [(19, at', s, 0, q + 1, none)])))
theorem Nd_S {e : EE} {d : Nat} : ∀ {F : Nat → Prop} {h : HP} {n : Nat} {its : List It} {H : Nat}, Nd e F d h n its H → Nd e F (d + 1) h n its H := by
  induction d with
  | zero => intro F h n its H x; exact x.elim
  | succ d ih =>
    intro F h n its H x
    rcases x with ⟨x, at', a, b⟩ | ⟨at', p1, p2, p3, p4, pF, c⟩
    · exact .inl ⟨x, at', ih a, b⟩
    · refine .inr ⟨at', p1, p2, p3, p4, pF, ?_⟩
      rcases c with c | c | c | c | c | c | c | c | c | c | c | c | c | c
      · exact .inl c
      · exact .inr (.inl c)
      · exact .inr (.inr (.inl c))
      · exact .inr (.inr (.inr (.inl c)))
      · exact .inr (.inr (.inr (.inr (.inl c))))
      · obtain ⟨k1, k2, k3, s, x, Ha, q1, q2, q3⟩ := c
        exact .inr (.inr (.inr (.inr (.inr (.inl ⟨k1, k2, k3, s, x, Ha, q1, ih q2, q3⟩)))))
      · obtain ⟨k1, k0, k2, k3, k4, k5, s, L, B, q1, ⟨b1, b2, q2⟩, q3, q4⟩ := c
        refine .inr (.inr (.inr (.inr (.inr (.inr (.inl ⟨k1, k0, k2, k3, k4, k5, s, L, B, q1, ⟨b1, b2, q2.imp fun a _ b z => ih z⟩, q3, ?_⟩))))))
        rcases q4 with q4 | ⟨q4, q7, x, Ha, q5, q6⟩
        · exact .inl q4
        · exact .inr ⟨q4, q7, x, Ha, ih q5, q6⟩
      · obtain ⟨k1, x, y, Ha, Hb, B, bb, q1, q2, q3⟩ := c
        exact .inr (.inr (.inr (.inr (.inr (.inr (.inr (.inl ⟨k1, x, y, Ha, Hb, B, bb, ih q1, ih q2, q3⟩)))))))
      · obtain ⟨k1, cc, x, Ha, q0, q1, q2, q3⟩ := c
        exact .inr (.inr (.inr (.inr (.inr (.inr (.inr (.inr (.inl ⟨k1, cc, x, Ha, q0, q1, ih q2, q3⟩))))))))
      · obtain ⟨k1, k2, T, x, Ha, q1, q2, q3⟩ := c
        exact .inr (.inr (.inr (.inr (.inr (.inr (.inr (.inr (.inr (.inl ⟨k1, k2, T, x, Ha, q1, ih q2, q3⟩)))))))))
      · obtain ⟨k1, k2, T, x, Ha, q1, q2, q3⟩ := c
        exact .inr (.inr (.inr (.inr (.inr (.inr (.inr (.inr (.inr (.inr (.inl ⟨k1, k2, T, x, Ha, q1, ih q2, q3⟩))))))))))
      · obtain ⟨k1, k2, w, x, y, Ha, Hb, B, q1, q2, q3, q4, q5, q6⟩ := c
        exact .inr (.inr (.inr (.inr (.inr (.inr (.inr (.inr (.inr (.inr (.inr (.inl ⟨k1, k2, w, x, y, Ha, Hb, B, q1, q2, q3, ih q4, ih q5, q6⟩)))))))))))
      · obtain ⟨k1, x, y, z, Ha, Hb, Hc, B, bb, q1, q2, q3, q4⟩ := c
        exact .inr (.inr (.inr (.inr (.inr (.inr (.inr (.inr (.inr (.inr (.inr (.inr (.inl ⟨k1, x, y, z, Ha, Hb, Hc, B, bb, ih q1, ih q2, ih q3, q4⟩))))))))))))
      · obtain ⟨k1, k2, k3, q, s, x, y, Ha, Hb, B, q1, q2, q3, q4, q5, q6⟩ := c
        exact .inr (.inr (.inr (.inr (.inr (.inr (.inr (.inr (.inr (.inr (.inr (.inr (.inr ⟨k1, k2, k3, q, s, x, y, Ha, Hb, B, q1, q2, q3, ih q4, ih q5, q6⟩))))))))))))
/-- the lists' condition may be weakened -/
theorem Nd_F' {e : EE} {d : Nat} : ∀ {F G : Nat → Prop} {h : HP} {n : Nat} {its : List It} {H : Nat}, (∀ q, F q → kc h q ≠ 0 → G q) → Nd e F d h n its H → Nd e G d h n its H := by
  induction d with
  | zero => intro F G h n its H fg x; exact x.elim
  | succ d ih =>
    intro F G h n its H fg x
    rcases x with ⟨x, at', a, b⟩ | ⟨at', p1, p2, p3, p4, pF, c⟩
    · exact .inl ⟨x, at', ih fg a, b⟩
    · have kn : kc h n ≠ 0 := by rcases c with c | c | c | c | c | c | c | c | c | c | c | c | c | c <;> rw [c.1] <;> decide
      refine .inr ⟨at', p1, p2, p3, p4, fg _ pF kn, ?_⟩
      rcases c with c | c | c | c | c | c | c | c | c | c | c | c | c | c
      · exact .inl c
      · exact .inr (.inl c)
      · exact .inr (.inr (.inl c))
      · exact .inr (.inr (.inr (.inl c)))
      · exact .inr (.inr (.inr (.inr (.inl c))))
      · obtain ⟨k1, k2, k3, s, x, Ha, q1, q2, q3⟩ := c
        exact .inr (.inr (.inr (.inr (.inr (.inl ⟨k1, k2, k3, s, x, Ha, q1, ih (fun q y y0 => ⟨fg q y.1 y0, y.2⟩) q2, q3⟩)))))
      · obtain ⟨k1, k0, k2, k3, k4, k5, s, L, B, q1, ⟨b1, b2, q2⟩, q3, q4⟩ := c
        refine .inr (.inr (.inr (.inr (.inr (.inr (.inl ⟨k1, fg _ k0 (by rw [k4]; decide), k2, k3, k4, k5, s, L, B, q1, ⟨b1, b2, q2.imp fun a _ b z => ih (fun q y y0 => ⟨fg q y.1 y0, y.2⟩) z⟩, q3, ?_⟩))))))
        rcases q4 with q4 | ⟨q4, q7, x, Ha, q5, q6⟩
        · exact .inl q4
        · exact .inr ⟨q4, q7, x, Ha, ih (fun q y y0 => ⟨fg q y.1 y0, y.2⟩) q5, q6⟩
      · obtain ⟨k1, x, y, Ha, Hb, B, bb, q1, q2, q3⟩ := c
        exact .inr (.inr (.inr (.inr (.inr (.inr (.inr (.inl ⟨k1, x, y, Ha, Hb, B, bb, ih (fun q y y0 => ⟨fg q y.1 y0, y.2⟩) q1, ih (fun q y y0 => ⟨fg q y.1 y0, y.2⟩) q2, q3⟩)))))))
      · obtain ⟨k1, cc, x, Ha, q0, q1, q2, q3⟩ := c
        exact .inr (.inr (.inr (.inr (.inr (.inr (.inr (.inr (.inl ⟨k1, cc, x, Ha, q0, q1, ih (fun q y y0 => ⟨fg q y.1 y0, y.2⟩) q2, q3⟩))))))))
      · obtain ⟨k1, k2, T, x, Ha, q1, q2, q3⟩ := c
        exact .inr (.inr (.inr (.inr (.inr (.inr (.inr (.inr (.inr (.inl ⟨k1, k2, T, x, Ha, q1, ih (fun q y y0 => ⟨fg q y.1 y0, y.2⟩) q2, q3⟩)))))))))
      · obtain ⟨k1, k2, T, x, Ha, q1, q2, q3⟩ := c
        exact .inr (.inr (.inr (.inr (.inr (.inr (.inr (.inr (.inr (.inr (.inl ⟨k1, k2, T, x, Ha, q1, ih (fun q y y0 => ⟨fg q y.1 y0, y.2⟩) q2, q3⟩))))))))))
      · obtain ⟨k1, k2, w, x, y, Ha, Hb, B, q1, q2, q3, q4, q5, q6⟩ := c
        exact .inr (.inr (.inr (.inr (.inr (.inr (.inr (.inr (.inr (.inr (.inr (.inl ⟨k1, k2, w, x, y, Ha, Hb, B, q1, q2, q3, ih (fun q y y0 => ⟨fg q y.1 y0, y.2⟩) q4, ih (fun q y y0 => ⟨fg q y.1 y0, y.2⟩) q5, q6⟩)))))))))))
      · obtain ⟨k1, x, y, z, Ha, Hb, Hc, B, bb, q1, q2, q3, q4⟩ := c
        exact .inr (.inr (.inr (.inr (.inr (.inr (.inr (.inr (.inr (.inr (.inr (.inr (.inl ⟨k1, x, y, z, Ha, Hb, Hc, B, bb, ih (fun q y y0 => ⟨fg q y.1 y0, y.2⟩) q1, ih (fun q y y0 => ⟨fg q y.1 y0, y.2⟩) q2, ih (fun q y y0 => ⟨fg q y.1 y0, y.2⟩) q3, q4⟩))))))))))))
      · obtain ⟨k1, k2, k3, q, s, x, y, Ha, Hb, B, q1, q2, q3, q4, q5, q6⟩ := c
        exact .inr (.inr (.inr (.inr (.inr (.inr (.inr (.inr (.inr (.inr (.inr (.inr (.inr ⟨k1, k2, k3, q, s, x, y, Ha, Hb, B, q1, ⟨q2.1, q2.2.1, fg _ q2.2.2.1 (by rw [k2]; decide), q2.2.2.2⟩, q3, ih (fun q y y0 => ⟨fg q y.1 y0, y.2⟩) q4, ih (fun q y y0 => ⟨fg q y.1 y0, y.2⟩) q5, q6⟩))))))))))))
theorem Nd_F {e : EE} {F G : Nat → Prop} (fg : ∀ q, F q → G q) {d : Nat} {h : HP} {n : Nat} {its : List It} {H : Nat} (x : Nd e F d h n its H) : Nd e G d h n its H := Nd_F' (fun q z _ => fg q z) x
/-- what is there is there -/
theorem Nd_res {e : EE} {F : Nat → Prop} {d : Nat} {h : HP} {n : Nat} {its : List It} {H : Nat} (x : Nd e F d h n its H) : Nd e (fun q => F q ∧ kc h q ≠ 0) d h n its H := Nd_F' (fun _ z y => ⟨z, y⟩) x
/-- a node lies where it may -/
theorem Nd_at {e : EE} {F : Nat → Prop} {d : Nat} : ∀ {h : HP} {n : Nat} {its : List It} {H : Nat}, Nd e F d h n its H → F n := by
  induction d with
  | zero => intro h n its H x; exact x.elim
  | succ d ih =>
    intro h n its H x
    rcases x with ⟨x, at', a, b⟩ | ⟨at', p1, p2, p3, p4, pF, c⟩
    · exact ih a
    · exact pF
/-- two things, the second made behind the first -/
def B2 (a b : Nat) (h1 h2 : HP) : Nat → Nat → Prop := fun c q => (c = a ∧ kc h1 q ≠ 0) ∨ (c = b ∧ kc h1 q = 0 ∧ kc h2 q ≠ 0)
theorem B2_dj (a b : Nat) (h1 h2 : HP) : Dj (B2 a b h1 h2) := by
  rintro x y q (⟨z, u⟩ | ⟨z, u, _⟩) (⟨w, v⟩ | ⟨w, v, _⟩)
  · rw [z, w]
  · exact absurd v u
  · exact absurd u v
  · rw [z, w]
def B3 (a b c : Nat) (h1 h2 h3 : HP) : Nat → Nat → Prop := fun x q => (x = a ∧ kc h1 q ≠ 0) ∨ (x = b ∧ kc h1 q = 0 ∧ kc h2 q ≠ 0) ∨ (x = c ∧ kc h1 q = 0 ∧ kc h2 q = 0 ∧ kc h3 q ≠ 0)
theorem B3_dj (a b c : Nat) (h1 h2 h3 : HP) : Dj (B3 a b c h1 h2 h3) := by
  rintro x y q (⟨z, u⟩ | ⟨z, u, u'⟩ | ⟨z, u, u', _⟩) (⟨w, v⟩ | ⟨w, v, v'⟩ | ⟨w, v, v', _⟩)
  · rw [z, w]
  · exact absurd v u
  · exact absurd v u
  · exact absurd u v
  · rw [z, w]
  · exact absurd v' u'
  · exact absurd u v
  · exact absurd u' v'
  · rw [z, w]
theorem Nd_le {e : EE} {F : Nat → Prop} {d c : Nat} (hdc : d ≤ c) {h : HP} {n : Nat} {its : List It} {H : Nat} (x : Nd e F d h n its H) : Nd e F c h n its H := by
  obtain ⟨k, rfl⟩ : ∃ k, c = d + k := ⟨c - d, by omega⟩
  induction k with
  | zero => exact x
  | succ k ih => exact Nd_S (ih (by omega))
/-- kinds of nodes -/
theorem Nd_k {e : EE} {F : Nat → Prop} {d : Nat} : ∀ {h : HP} {n : Nat} {its : List It} {H : Nat}, Nd e F d h n its H → kc h n ∈ ksNode ∧ fi h 184 n = nI H ∧ H ≤ 1000 := by
  induction d with
  | zero => intro h n its H x; exact x.elim
  | succ d ih =>
    intro h n its H x
    rcases x with ⟨x, at', a, b⟩ | ⟨at', p1, p2, p3, p4, pF, c⟩
    · exact ih a
    · refine ⟨?_, p3, p4⟩
      rcases c with c | c | c | c | c | c | c | c | c | c | c | c | c | c <;> rw [c.1] <;> decide
/-- nodes stay -/
def sNd (k : Nat) : Bool := decide ((16 ≤ k ∧ k ≤ 29) ∨ k = 14 ∨ k = 71)
theorem Nd_fr {e : EE} {F : Nat → Prop} {h h' : HP} {S : Nat → Bool} (f : Fr S h h') (hL : ∀ q, F q → kc h q = 107 → kc h' q = 107 ∧ ls h' q = ls h q ∧ cp h' q = cp h q) (hS : ∀ k, sNd k = true → S k = true) (hq : ∀ x ∈ ls h e.ql, x ∈ ls h' e.ql) (ht : ∀ x ∈ ls h e.tl, x ∈ ls h' e.tl) {d : Nat} : ∀ {n : Nat} {its : List It} {H : Nat}, Nd e F d h n its H → Nd e F d h' n its H := by
  have str : ∀ {a s}, StrX h a s → StrX h' a s := fun x => StrX_fr f x (hS _ (by decide))
  have tyx : ∀ {a T}, TyX h a T → TyX h' a T := fun x => TyX_fr f x (hS _ (by decide)) (hS _ (by decide))
  have atk : ∀ {p c}, kc h p = c → c ≠ 0 → sNd c = true → kc h' p = c ∧ xl h' p = xl h p ∧ Eq1 h h' p := fun a b c => f.at a b (hS _ c)
  induction d generalizing F with
  | zero => intro n its H x; exact x.elim
  | succ d ih =>
    intro n its H x
    rcases x with ⟨x, at', a, b⟩ | ⟨at', p1, p2, p3, p4, pF, c⟩
    · exact .inl ⟨x, at', ih hL a, b⟩
    · have hk : kc h n ∈ ksNode := by rcases c with c | c | c | c | c | c | c | c | c | c | c | c | c | c <;> rw [c.1] <;> decide
      have hk2 : ∀ k, k ∈ ksNode → k ≠ 0 ∧ sNd k = true := by decide
      obtain ⟨e1, _, e2⟩ := atk rfl (hk2 _ hk).1 (hk2 _ hk).2
      refine .inr ⟨at', (e2.1 _).trans p1, (e2.2.2.1 _).trans p2, (e2.1 _).trans p3, p4, pF, ?_⟩
      rw [e1]
      simp only [e2.1, e2.2.1, e2.2.2.1]
      rcases c with c | c | c | c | c | c | c | c | c | c | c | c | c | c
      · exact .inl c
      · exact .inr (.inl c)
      · obtain ⟨k1, k2, k3, s, q1, q2⟩ := c
        exact .inr (.inr (.inl ⟨k1, k2, hq _ k3, s, str q1, q2⟩))
      · exact .inr (.inr (.inr (.inl c)))
      · obtain ⟨k1, k2, k3, s, q1, q2⟩ := c
        exact .inr (.inr (.inr (.inr (.inl ⟨k1, k2, k3, s, str q1, q2⟩))))
      · obtain ⟨k1, k2, k3, s, x, Ha, q1, q2, q3⟩ := c
        exact .inr (.inr (.inr (.inr (.inr (.inl ⟨k1, k2, k3, s, x, Ha, str q1, ih (fun q y => hL q y.1) q2, q3⟩)))))
      · obtain ⟨k1, k0, k2, k3, k4, k5, s, L, B, q1, ⟨b1, b2, q2⟩, q3, q4⟩ := c
        obtain ⟨a1, a2, a3⟩ := hL _ k0 k4
        refine .inr (.inr (.inr (.inr (.inr (.inr (.inl ⟨k1, k0, k2, k3, a1, by rw [a3]; exact k5, s, L, B, str q1, ⟨b1, by rw [a2]; exact b2, by rw [a2]; exact q2.imp fun a _ b z => ih (fun q y => hL q y.1) z⟩, q3, ?_⟩))))))
        rcases q4 with q4 | ⟨q4, q7, x, Ha, q5, q6⟩
        · exact .inl q4
        · exact .inr ⟨q4, by rw [a2]; exact q7, x, Ha, ih (fun q y => hL q y.1) q5, q6⟩
      · obtain ⟨k1, x, y, Ha, Hb, B, bb, q1, q2, q3⟩ := c
        exact .inr (.inr (.inr (.inr (.inr (.inr (.inr (.inl ⟨k1, x, y, Ha, Hb, B, bb, ih (fun q y => hL q y.1) q1, ih (fun q y => hL q y.1) q2, q3⟩)))))))
      · obtain ⟨k1, cc, x, Ha, q0, q1, q2, q3⟩ := c
        exact .inr (.inr (.inr (.inr (.inr (.inr (.inr (.inr (.inl ⟨k1, cc, x, Ha, q0, q1, ih (fun q y => hL q y.1) q2, q3⟩))))))))
      · obtain ⟨k1, k2, T, x, Ha, q1, q2, q3⟩ := c
        exact .inr (.inr (.inr (.inr (.inr (.inr (.inr (.inr (.inr (.inl ⟨k1, ht _ k2, T, x, Ha, tyx q1, ih (fun q y => hL q y.1) q2, q3⟩)))))))))
      · obtain ⟨k1, k2, T, x, Ha, q1, q2, q3⟩ := c
        exact .inr (.inr (.inr (.inr (.inr (.inr (.inr (.inr (.inr (.inr (.inl ⟨k1, ht _ k2, T, x, Ha, tyx q1, ih (fun q y => hL q y.1) q2, q3⟩))))))))))
      · obtain ⟨k1, k2, w, x, y, Ha, Hb, B, q1, q2, q3, q4, q5, q6⟩ := c
        exact .inr (.inr (.inr (.inr (.inr (.inr (.inr (.inr (.inr (.inr (.inr (.inl ⟨k1, k2, w, x, y, Ha, Hb, B, q1, q2, q3, ih (fun q y => hL q y.1) q4, ih (fun q y => hL q y.1) q5, q6⟩)))))))))))
      · obtain ⟨k1, x, y, z, Ha, Hb, Hc, B, bb, q1, q2, q3, q4⟩ := c
        exact .inr (.inr (.inr (.inr (.inr (.inr (.inr (.inr (.inr (.inr (.inr (.inr (.inl ⟨k1, x, y, z, Ha, Hb, Hc, B, bb, ih (fun q y => hL q y.1) q1, ih (fun q y => hL q y.1) q2, ih (fun q y => hL q y.1) q3, q4⟩))))))))))))
      · obtain ⟨k1, k2, k3, q, s, x, y, Ha, Hb, B, q1, q2, q3, q4, q5, q6⟩ := c
        obtain ⟨a1, _, a2⟩ := atk k2 (by decide) (by decide)
        rw [a2.2.2.1 213]
        exact .inr (.inr (.inr (.inr (.inr (.inr (.inr (.inr (.inr (.inr (.inr (.inr (.inr ⟨k1, a1, (a2.2.2.1 214).trans k3, q, s, x, y, Ha, Hb, B, q1, q2, str q3, ih (fun q y => hL q y.1) q4, ih (fun q y => hL q y.1) q5, q6⟩))))))))))))
