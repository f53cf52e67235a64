/-! PHASE B parser 7: casts, types, ranks; what the twin does where there is no token -/
set_option maxRecDepth 100000
def pkI (l : List Nat) : Int32 := if l = codes "double" then 7 else if l = codes "int" then 4 else if l = codes "byte" then 1 else if l = codes "char" then 3 else if l = codes "long" then 5 else if l = codes "boolean" then 0 else if l = codes "float" then 6 else if l = codes "short" then 2 else (-1 : Int32)
theorem pkI_PW : ∀ w ∈ KW, (pkI w < 0 ↔ w ∉ PW) := by decide +kernel
theorem rkI_SW : ∀ w ∈ SW, (if w = codes "%" then (9 : Int32) else if w = codes "&" then 4 else if w = codes "*" then 9 else if w = codes "+" then 8 else if w = codes "-" then 8 else if w = codes "/" then 9 else if w = codes "<" then 6 else if w = codes ">" then 6 else if w = codes "^" then 3 else if w = codes "|" then 2 else if w = codes "!=" then 5 else if w = codes "&&" then 1 else if w = codes "<<" then 7 else if w = codes "<=" then 6 else if w = codes "==" then 5 else if w = codes ">=" then 6 else if w = codes ">>" then 7 else if w = codes "||" then 0 else if w = codes ">>>" then 7 else (-1 : Int32)) = (if rk w = 99 then -1 else nI (rk w)) := by decide +kernel
variable {e : EE} {h h' : HP} {i j a : Nat} {IT : List It} {TY : List Ty} {QU : List (List Nat)}
theorem mrank_e (w0 : WG h) {s : Nat} {w : List Nat} (hs : StrX h s w) (hw : w ∈ SW) {β : Type} {K : Int32 → HP → Rs β} : bd (f_X4_rankOf s h) K = K (if rk w = 99 then -1 else nI (rk w)) h := by
  rw [m_rankOf w0 hs.1 hs.2, bd_ok, ← rkI_SW w hw]
theorem mplain_e (w0 : WG h) {s : Nat} {w : List Nat} (hs : StrX h s w) {β : Type} {K : Int32 → HP → Rs β} : bd (f_X4_plainKind s h) K = K (pkI w) h := by
  rw [m_plainKind w0 hs.1 hs.2, bd_ok]; rfl
abbrev plT (T : Tk) : Prop := T.1 = 2 ∧ T.2.2.1 ∈ PW
theorem mbeg_e (p : PM e h j IT TY QU) {β : Type} {K : Int32 → HP → Rs β} : bd (f_X48_beginsType e.Q h) K = if (tk e.TS j).1 = 1 ∨ plT (tk e.TS j) then K 1 h else K 0 h := by
  obtain ⟨m1, m2, m3, m4, m5, m6⟩ := p.mt0
  have V := p.V
  have V9 := V.2.2.2.2.2.2.2
  unfold f_X48_beginsType
  rw [m46_e p, mtok_e p, ldI_e m1, m2]
  by_cases a : (tk e.TS j).1 = 1
  · rw [if_pos ((nk _ (c := 1) (C := (1 : Int32)) rfl (by omega) (by omega)).mpr a), bd_ok, if_pos (.inl a)]
  · rw [if_neg (fun z => a ((nk _ (c := 1) (C := (1 : Int32)) rfl (by omega) (by omega)).mp z)), m46_e p, mtok_e p, ldI_e m1, m2]
    by_cases b : (tk e.TS j).1 = 2
    · rw [if_pos ((nk _ (c := 2) (C := (2 : Int32)) rfl (by omega) (by omega)).mpr b), m46_e p, mtok_e p, ldR_e m1, mplain_e p.1 ⟨m4, m5⟩]
      have q := pkI_PW _ (V.1 b)
      by_cases c : (tk e.TS j).2.2.1 ∈ PW
      · rw [if_neg (fun z => q.mp z c), bd_ok, if_pos (.inr ⟨b, c⟩)]
      · rw [if_pos (q.mpr c), bd_ok, if_neg (fun z => by rcases z with z | z; exact a z; exact c z.2)]
    · rw [if_neg (fun z => b ((nk _ (c := 2) (C := (2 : Int32)) rfl (by omega) (by omega)).mp z)), bd_ok, if_neg (fun z => by rcases z with z | z; exact a z; exact b z.1)]
theorem xplain_e (p : PX e h i TY QU) {β : Type} {K : Int32 → HP → Rs β} : bd (f_X10_isPlainWord e.P h) K = if plT (tk e.TS i) then K 1 h else K 0 h := by
  have V := p.V
  have V9 := V.2.2.2.2.2.2.2
  have w3 := cst_k p.1 (p := 3) (by decide) (by decide)
  have t3 : tx h 3 = 32 :: wtail PW := (cst_t p.1 (by decide) (by decide)).trans PW_w
  unfold f_X10_isPlainWord
  rw [xt_e p, xknd_e p]
  by_cases b : (tk e.TS i).1 = 2
  · obtain ⟨k1, k2⟩ := p.wrd
    rw [if_pos ((nk _ (c := 2) (C := (2 : Int32)) rfl (by omega) (by omega)).mpr b), xt_e p, xwrd_e p, x_isIn w3 t3 (by decide) PW_b k1 k2 (by have := V.2.2.2.1; omega) V.2.2.2.2.1 (by decide), bd_ok]
    by_cases c : (tk e.TS i).2.2.1 ∈ PW
    · rw [zBt c, if_neg (by decide), bd_ok, if_pos ⟨b, c⟩]
    · rw [zBf c, if_pos rfl, bd_ok, if_neg (fun z => c z.2)]
  · rw [if_neg (fun z => b ((nk _ (c := 2) (C := (2 : Int32)) rfl (by omega) (by omega)).mp z)), bd_ok, if_neg (fun z => b z.1)]
theorem A2.drop {α β : Type} {P : α → β → Prop} : ∀ {l : List α} {m : List β} (k : Nat), A2 P l m → A2 P (l.drop k) (m.drop k)
  | l, m, 0, h => h
  | [], [], k + 1, _ => True.intro
  | _ :: l, _ :: m, k + 1, h => A2.drop k h.2
  | [], _ :: _, _ + 1, h => h.elim
  | _ :: _, [], _ + 1, h => h.elim
theorem x_isIn2_l {l s : Nat} {L : List (List Nat)} {u : List Nat} (kl : lsK h l) (A : A2 (StrX h) (ls h l) L) (hL : L.length ≤ 300) (hs : StrX h s u) (n : Nat) : ∀ k, L.length - k < n → k ≤ L.length → f_X10_isIn_l2 l s n (nI k) h = rok (if u ∈ L.drop k then Sum.inl () else Sum.inr ()) h := by
  have hlen := A.len
  induction n with
  | zero => intro k h1; omega
  | succ n ih =>
    intro k h1 h2
    rw [f_X10_isIn_l2_s]
    unfold b_X10_isIn_l2
    rw [lsSize_e kl, hlen]
    by_cases g : L.length ≤ k
    · rw [if_pos ((nI_leI (by omega) (by omega)).mpr g), List.drop_eq_nil_of_le g]; simp
    · have hk : k < (ls h l).length := by omega
      have hk2 : k < L.length := by omega
      have hx := A.get hk hk2
      rw [if_neg (fun z => g ((nI_leI (by omega) (by omega)).mp z)), lsGet_e ⟨kl, inA_nI hk (by omega)⟩, nI_clamp (by omega), gD_in hk, castR_e (.inr (by rw [hx.1]; simp)), txEq_e ⟨hx.1, hs.1⟩, hx.2, hs.2]
      simp only [lt3, nI_1]
      rw [ih (k + 1) (by omega) (by omega), List.drop_eq_getElem_cons hk2]
      by_cases q : L[k] = u
      · rw [if_pos q, if_neg (by decide), if_pos (by rw [q]; exact List.mem_cons_self ..)]
      · rw [if_neg q, if_pos rfl]
        congr 1
        by_cases m : u ∈ L.drop (k + 1)
        · rw [if_pos m, if_pos (List.mem_cons_of_mem _ m)]
        · rw [if_neg m, if_neg (fun z => by rcases List.mem_cons.mp z with y | y; exact q y.symm; exact m y)]
theorem xisIn_e (p : PX e h i TY QU) {s : Nat} {u : List Nat} (hs : StrX h s u) {β : Type} {K : Int32 → HP → Rs β} : bd (f_X10_isIn e.cl s h) K = if u ∈ e.NL.map Prod.fst then K 1 h else K 0 h := by
  obtain ⟨_, ⟨_, _, _, _, _, _, _, _, c1, c2, c3, c4, c5, c6, c7⟩, _⟩ := p
  unfold f_X10_isIn
  rw [show (0 : Int32) = nI 0 from rfl, x_isIn2_l ⟨c1, by omega, c5⟩ c6 (by rw [List.length_map]; exact c7) hs NN 0 (by rw [List.length_map]; have := NN_ge (k := 301) (by omega); omega) (Nat.zero_le _), bd_ok, List.drop_zero]
  by_cases m : u ∈ e.NL.map Prod.fst
  · rw [if_pos m, if_pos m]; rfl
  · rw [if_neg m, if_neg m]; rfl
theorem m_cast_l (p : PM e h j IT TY QU) {t : Nat} {T : Tk} (ht : MT h t T) (n : Nat) : ∀ k, e.NL.length - k < n → k ≤ e.NL.length → f_X48_isCast_l81 e.Q t n (nI k) h = rok (if T.2.2.1 ∈ (e.NL.map Prod.fst).drop k then Sum.inl () else Sum.inr ()) h := by
  obtain ⟨t1, t2, t3, t4, t5, t6⟩ := ht
  have pp := p
  obtain ⟨w, k1, f1, k2, f2, k3, c3, a3, f4, n4, a4, n5, _⟩ := p
  have hlen := a4.len
  have kl : lsK h e.nl := ⟨by omega, n4.2.1, n4.2.2.2.2.2.2⟩
  induction n with
  | zero => intro k h1; omega
  | succ n ih =>
    intro k h1 h2
    rw [f_X48_isCast_l81_s]
    unfold b_X48_isCast_l81
    rw [ldR_e k1, f4, lsSize_e kl, hlen]
    by_cases g : e.NL.length ≤ k
    · rw [if_pos ((nI_leI (by omega) (by omega)).mpr g), List.drop_eq_nil_of_le (by rw [List.length_map]; exact g)]; simp
    · have hk : k < (ls h e.nl).length := by omega
      have hk2 : k < e.NL.length := by omega
      have hk3 : k < (e.NL.map Prod.fst).length := by rw [List.length_map]; exact hk2
      obtain ⟨x1, x2, x3⟩ := a4.get hk hk2
      rw [if_neg (fun z => g ((nI_leI (by omega) (by omega)).mp z)), ldR_e k1, f4, lsGet_e ⟨kl, inA_nI hk (by omega)⟩, nI_clamp (by omega), gD_in hk, castR_e (.inr (by rw [x1]; simp)), ldR_e x1, ldR_e t1, txEq_e ⟨x2.1, t4⟩, x2.2, t5]
      simp only [lt3, nI_1]
      rw [ih (k + 1) (by omega) (by omega), List.drop_eq_getElem_cons hk3, List.getElem_map]
      by_cases q : e.NL[k].1 = T.2.2.1
      · rw [if_pos q, if_neg (by decide), if_pos (by rw [q]; exact List.mem_cons_self ..)]
      · rw [if_neg q, if_pos rfl]
        congr 1
        by_cases m : T.2.2.1 ∈ (e.NL.map Prod.fst).drop (k + 1)
        · rw [if_pos m, if_pos (List.mem_cons_of_mem _ m)]
        · rw [if_neg m, if_neg (fun z => by rcases List.mem_cons.mp z with y | y; exact q y.symm; exact m y)]
/-- whether a token behind a bracket begins a cast -/
abbrev caT (e : EE) (T : Tk) : Prop := plT T ∨ (T.1 = 1 ∧ (T.2.2.1 = codes "Object" ∨ T.2.2.1 = codes "Text" ∨ T.2.2.1 ∈ e.NL.map Prod.fst))
theorem mcast_e (p : PM e h j IT TY QU) (hj : j + 1 < e.TS.length) {β : Type} {K : Int32 → HP → Rs β} : bd (f_X48_isCast e.Q h) K = if caT e (tk e.TS (j + 1)) then K 1 h else K 0 h := by
  have mt := p.mt hj
  obtain ⟨m1, m2, m3, m4, m5, m6⟩ := p.mt hj
  have V := p.jj.2.1.2.2.2.2.2.1 (j + 1)
  have V9 := V.2.2.2.2.2.2.2
  have h3 := p.jj.2.2.2
  have p' := p
  obtain ⟨w, k1, f1, k2, f2, k3, c3, a3, _⟩ := p'
  unfold f_X48_isCast
  rw [ldR_e k1, f2, ldI_e k1, p.jj.2.2.1, show nI j + (1 : Int32) = nI (j + 1) from nI_1 j, p.get hj, castR_e (.inr (by rw [m1]; simp)), ldI_e m1, m2]
  generalize tk e.TS (j + 1) = T at *
  by_cases b : T.1 = 2
  · rw [if_pos ((nk _ (c := 2) (C := (2 : Int32)) rfl (by omega) (by omega)).mpr b), ldR_e m1, mplain_e w ⟨m4, m5⟩]
    have q := pkI_PW _ (V.1 b)
    by_cases c : T.2.2.1 ∈ PW
    · rw [if_neg (fun z => q.mp z c), bd_ok, if_pos (.inl ⟨b, c⟩)]
    · rw [if_pos (q.mpr c), bd_ok, if_neg (fun z => by rcases z with z | z; exact c z.2; omega)]
  · rw [if_neg (fun z => b ((nk _ (c := 2) (C := (2 : Int32)) rfl (by omega) (by omega)).mp z)), ldI_e m1, m2]
    by_cases a1 : T.1 = 1
    · rw [if_pos ((nk _ (c := 1) (C := (1 : Int32)) rfl (by omega) (by omega)).mpr a1), ldR_e m1, txEq_c w m4 m5 (by decide) (by decide) (show codes (cStr.getD (30 - 1) "") = codes "Object" by decide)]
      by_cases o : T.2.2.1 = codes "Object"
      · rw [if_pos o, if_neg (by decide), bd_ok, if_pos (.inr ⟨a1, .inl o⟩)]
      · rw [if_neg o, if_pos rfl, ldR_e m1, txEq_c w m4 m5 (by decide) (by decide) (show codes (cStr.getD (31 - 1) "") = codes "Text" by decide)]
        by_cases t : T.2.2.1 = codes "Text"
        · rw [if_pos t, if_neg (by decide), bd_ok, if_pos (.inr ⟨a1, .inr (.inl t)⟩)]
        · rw [if_neg t, if_pos rfl, show (0 : Int32) = nI 0 from rfl, m_cast_l p mt NN 0 (by have := NN_ge (k := 301) (by omega); have := p.2.2.2.2.2.2.2.2.2.2.2.1; omega) (Nat.zero_le _), bd_ok, List.drop_zero]
          by_cases m : T.2.2.1 ∈ e.NL.map Prod.fst
          · rw [if_pos m, if_pos (.inr ⟨a1, .inr (.inr m)⟩)]; rfl
          · rw [if_neg m, if_neg (fun z => by rcases z with z | z; exact b z.1; rcases z.2 with y | y | y; exact o y; exact t y; exact m y)]; rfl
    · rw [if_neg (fun z => a1 ((nk _ (c := 1) (C := (1 : Int32)) rfl (by omega) (by omega)).mp z)), bd_ok, if_neg (fun z => by rcases z with z | z; exact b z.1; exact a1 z.1)]
/-- the twin stands where there is no token -/
def PN (e : EE) (h : HP) (p N : Nat) : Prop := ∃ j IT TY QU, PM e h j IT TY QU ∧ (tk e.TS j).1 = 9 ∧ (tk e.TS j).2.1 = p ∧ IT.length ≤ N
/-- the twin has failed there, or goes on there -/
def MF {β : Type} (e : EE) (h : HP) (p N a : Nat) (r : Rs β) : Prop :=
  (∃ h', r = rex h' ∧ St [] e.mm a h h' ∧ StopM e h' p) ∨ (∃ v h', r = rok v h' ∧ St [] e.mm a h h' ∧ PN e h' p N)
theorem MF.le {β : Type} {p N a N2 a2 : Nat} {r : Rs β} (m : MF e h p N a r) (hN : N ≤ N2) (ha : a ≤ a2) : MF e h p N2 a2 r := by
  rcases m with ⟨h', a1, b, c⟩ | ⟨v, h', a1, b, j, IT, TY, QU, c, d, f, g⟩
  · exact .inl ⟨h', a1, b.le ha, c⟩
  · exact .inr ⟨v, h', a1, b.le ha, j, IT, TY, QU, c, d, f, by omega⟩
theorem MF.pre {β : Type} {p N a b : Nat} {h1 : HP} {r : Rs β} (s : St [] e.mm a h h1) (m : MF e h1 p N b r) : MF e h p N (a + b) r := by
  rcases m with ⟨h', a1, b, c⟩ | ⟨v, h', a1, b, c⟩
  · exact .inl ⟨h', a1, s.trans b, c⟩
  · exact .inr ⟨v, h', a1, s.trans b, c⟩
theorem MF.bd {α β : Type} {p N N2 a b : Nat} {r : Rs α} {K : α → HP → Rs β} (m : MF e h p N a r) (hk : ∀ v h', PN e h' p N → MF e h' p N2 b (K v h')) : MF e h p N2 (a + b) (bd r K) := by
  rcases m with ⟨h', a1, b1, c⟩ | ⟨v, h', a1, b1, c⟩
  · exact .inl ⟨h', by rw [a1]; rfl, b1.le (by omega), c⟩
  · rw [a1]; exact (hk v h' c).pre b1
theorem MF.ok {β : Type} {p N : Nat} (q : PN e h p N) (v : β) : MF e h p N 0 (rok v h) := by
  obtain ⟨j, IT, TY, QU, c, d⟩ := q
  exact .inr ⟨v, h, rfl, St.refl c.1 _ _, j, IT, TY, QU, c, d⟩
theorem MF.ex {β : Type} {p N a : Nat} {r : Rs β} (hr : r = rex h') (s : St [] [e.tr] a h h') (hs : StopM e h' p) : MF e h p N a r := .inl ⟨h', hr, s.wk (fun _ z => z) (fun x hx => .inl (by rw [List.mem_singleton.mp hx]; simp)) (Nat.le_refl _), hs⟩
section
variable {β : Type} {p N N2 b : Nat}
theorem v46 (q : PN e h p N) {A : Rs β} (m : MF e h p N2 b A) : MF e h p N2 b (if kc h e.Q = 46 then A else none) := by
  obtain ⟨j, IT, TY, QU, c, d⟩ := q; rw [m46_e c]; exact m
theorem vS (q : PN e h p N) {s : Nat} (h1 : 1 ≤ s) (h2 : s ≤ nStr) {K : Int32 → HP → Rs β} (m : MF e h p N2 b (K 0 h)) : MF e h p N2 b (bd (f_X48_isSign e.Q s h) K) := by
  obtain ⟨j, IT, TY, QU, c, d⟩ := q; rw [misS_e c h1 h2 rfl, if_neg (fun z => by have := z.1; omega)]; exact m
theorem vK (q : PN e h p N) {s : Nat} (h1 : 1 ≤ s) (h2 : s ≤ nStr) {K : Int32 → HP → Rs β} (m : MF e h p N2 b (K 0 h)) : MF e h p N2 b (bd (f_X48_isKey e.Q s h) K) := by
  obtain ⟨j, IT, TY, QU, c, d⟩ := q; rw [misK_e c h1 h2 rfl, if_neg (fun z => by have := z.1; omega)]; exact m
theorem vG (q : PN e h p N) {s : Nat} (h1 : 1 ≤ s) (h2 : s ≤ nStr) {K : Int32 → HP → Rs β} (m : MF e h p N2 b (K 0 h)) : MF e h p N2 b (bd (f_X48_gone e.Q s h) K) := by
  obtain ⟨j, IT, TY, QU, c, d⟩ := q; rw [mgone_e c h1 h2 rfl, if_neg (fun z => by have := z.1; omega)]; exact m
theorem vB (q : PN e h p N) {K : Int32 → HP → Rs β} (m : MF e h p N2 b (K 0 h)) : MF e h p N2 b (bd (f_X48_beginsType e.Q h) K) := by
  obtain ⟨j, IT, TY, QU, c, d⟩ := q; rw [mbeg_e c, if_neg (fun z => by rcases z with z | z; omega; have := z.1; omega)]; exact m
theorem vT (q : PN e h p N) {K : Nat → HP → Rs β} (m : ∀ t T, MT h t T → T.1 = 9 → MF e h p N2 b (K t h)) : MF e h p N2 b (bd (f_X48_token e.Q h) K) := by
  obtain ⟨j, IT, TY, QU, c, d⟩ := q; rw [mtok_e c]; exact m _ _ c.mt0 d.1
theorem vSgn (q : PN e h p N) {s : Nat} (h1 : 1 ≤ s) (h2 : s ≤ nStr) {K : HP → Rs β} : MF e h p N2 1 (bd (f_X48_sign e.Q s h) (fun _ h2 => K h2)) := by
  obtain ⟨j, IT, TY, QU, c, d⟩ := q
  obtain ⟨h', e1, s1, f1⟩ := msgnN c h1 h2 rfl (fun z => by have := z.1; omega)
  exact MF.ex (e1 _ _) s1 (d.2.1 ▸ f1)
theorem vKey (q : PN e h p N) {s : Nat} (h1 : 1 ≤ s) (h2 : s ≤ nStr) {K : HP → Rs β} : MF e h p N2 1 (bd (f_X48_key e.Q s h) (fun _ h2 => K h2)) := by
  obtain ⟨j, IT, TY, QU, c, d⟩ := q
  obtain ⟨h', e1, s1, f1⟩ := mkeyN c h1 h2 rfl (fun z => by have := z.1; omega)
  exact MF.ex (e1 _ _) s1 (d.2.1 ▸ f1)
theorem vName (q : PN e h p N) {K : Nat → HP → Rs β} : MF e h p N2 1 (bd (f_X48_name e.Q h) K) := by
  obtain ⟨j, IT, TY, QU, c, d⟩ := q
  obtain ⟨h', e1, s1, f1⟩ := mnameN c (by omega)
  exact MF.ex (e1 _ _) s1 (d.2.1 ▸ f1)
theorem vWr (q : PN e h p N) : MF e h p N2 1 (bd (f_X48_wrong e.Q h) (fun x1 h2 => if kc h2 x1 = 69 then (rex h2 : Rs β) else none)) := by
  obtain ⟨j, IT, TY, QU, c, d⟩ := q
  obtain ⟨h', e1, s1, f1⟩ := mwrong c
  exact MF.ex (e1 _) s1 (d.2.1 ▸ f1)
theorem vDeep (q : PN e h p N) {d : Nat} (hd : d ≤ 30) {K : Int32 → HP → Rs β} (m : d < 30 → MF e h p N2 b (K (nI (d + 1)) h)) : MF e h p N2 (b + 1) (bd (f_X48_deeper e.Q (nI d) h) K) := by
  by_cases c : d = 30
  · obtain ⟨j, IT, TY, QU, q, r⟩ := q
    obtain ⟨h', e1, s1, f1⟩ := mdeepN q c
    exact (MF.ex (e1 _ _) s1 (r.2.1 ▸ f1)).le (Nat.le_refl _) (by omega)
  · rw [mdeepY (by omega)]; exact (m (by omega)).le (Nat.le_refl _) (by omega)
theorem vItm (q : PN e h p N) (hN : N ≤ 900 ∧ e.il ≠ 0) {op at' s n ty : Nat} {bits : Int64} {w : List Nat} {o : Option Ty} (hs : StrX h s w) (ho : TyO h ty o) {K : HP → Rs β} (m : ∀ h', PN e h' p (N + 1) → MF e h' p N2 b (K h')) : MF e h p N2 (22 + b) (bd (f_X48_item e.Q (nI op) (nI at') s bits (nI n) ty h) (fun _ h2 => K h2)) := by
  obtain ⟨j, IT, TY, QU, c, d1, d2, d3⟩ := q
  obtain ⟨h', e1, s1, p1⟩ := mitm c (by omega) (op := op) (at' := at') (n := n) (bits := bits) hs ho
  rw [e1]
  exact (m h' ⟨j, _, TY, QU, p1, d1, d2, by rw [List.length_append, List.length_singleton]; omega⟩).pre (s1.wk (fun _ z => z) (fun x hx => .inl (by rw [List.mem_singleton.mp hx]; simp)) (Nat.le_refl _))
end
