/-! PHASE B parser 3: the twin's parser -/
set_option maxRecDepth 100000
/-- the list of items: none, or there -/
def ILp (e : EE) (h : HP) (IT : List It) : Prop := (e.il = 0 ∧ IT = []) ∨ (fr h 359 e.Q = e.il ∧ (kc h e.il = 133 ∨ kc h e.il = 142) ∧ cp h e.il ≠ RAW ∧ A2 (ItM h) (ls h e.il) IT)
theorem ILp_fr {e : EE} {S : Nat → Bool} {h h' : HP} {IT : List It} (f : Fr S h h') (h0 : fr h' 359 e.Q = fr h 359 e.Q) (x : ILp e h IT) (h1 : S 133 = true) (h2 : S 142 = true) (h3 : S 51 = true) (h4 : S 71 = true) (h5 : S 48 = true) : ILp e h' IT := by
  rcases x with x | ⟨x0, x1, x2, x3⟩
  · exact .inl x
  · have a := f.at (p := e.il) rfl (by rcases x1 with y | y <;> omega) (by rcases x1 with y | y <;> rw [y] <;> assumption)
    exact .inr ⟨h0.trans x0, by rw [a.1]; exact x1, by rw [a.2.2.2.2.2.2.2.2.2.2]; exact x2, by rw [a.2.2.2.2.2.2.2.2.1]; exact x3.imp fun a _ b z => ItM_fr f z h3 h4 h5⟩
def PM (e : EE) (h : HP) (j : Nat) (IT : List It) (TY : List Ty) (QU : List (List Nat)) : Prop :=
  WG h ∧ kc h e.Q = 46 ∧ fr h 355 e.Q = e.tr ∧ kc h e.tr = 6 ∧ fr h 356 e.Q = e.pl ∧ kc h e.pl = 131 ∧ cp h e.pl ≠ RAW ∧ A2 (MT h) (ls h e.pl) e.TS ∧
  fr h 357 e.Q = e.nl ∧ (130 ≤ kc h e.nl ∧ kc h e.nl < 200 ∧ kc h e.nl ≠ 133 ∧ kc h e.nl ≠ 140 ∧ kc h e.nl ≠ 141 ∧ kc h e.nl ≠ 142 ∧ cp h e.nl ≠ RAW) ∧ A2 (ToM h) (ls h e.nl) e.NL ∧ e.NL.length ≤ 300 ∧
  fi h 358 e.Q = nI j ∧ j < e.TS.length ∧ Lx e.B e.TS ∧
  ILp e h IT ∧
  fr h 360 e.Q = e.yl ∧ kc h e.yl = 141 ∧ cp h e.yl ≠ RAW ∧ A2 (TyM h) (ls h e.yl) (TY.filter fun T => decide (T.2.2 ≠ 0)) ∧ TY.length ≤ j ∧
  fr h 361 e.Q = e.xl ∧ kc h e.xl = 140 ∧ cp h e.xl ≠ RAW ∧ A2 (fun a s => ∃ x, ToM h a (s, x)) (ls h e.xl) QU ∧ QU.length ≤ j
/-- kinds of the twin that don't change while it reads: all but the parser, the trouble, the lists of items, types, texts -/
def sM0 (k : Nat) : Bool := decide (k ≠ 46 ∧ k ≠ 6 ∧ k ≠ 133 ∧ k ≠ 142 ∧ k ≠ 140 ∧ k ≠ 141)
def StopM (e : EE) (h : HP) (p : Nat) : Prop := fi h 131 e.tr = 1 ∧ fi h 132 e.tr = nI p
variable {e : EE} {h h' : HP} {i j a : Nat} {IT : List It} {TY : List Ty} {QU : List (List Nat)}
theorem PM.w (p : PM e h j IT TY QU) : WG h := p.1
theorem PM.kQ (p : PM e h j IT TY QU) : kc h e.Q = 46 := p.2.1
theorem PM.ks (p : PM e h j IT TY QU) : ∀ x ∈ e.mm, kc h x = 0 ∨ sM0 (kc h x) = false := by
  obtain ⟨w, k1, f1, k2, f2, k3, c3, a3, f4, n4, a4, n5, f5, hj, L, k6, f7, k7, c7, a7, n7, f8, k8, c8, a8, n8⟩ := p
  intro x hx
  simp only [List.mem_cons, List.not_mem_nil, or_false] at hx
  rcases hx with z | z | z | z | z
  · rw [z, k1]; decide
  · rw [z, k2]; decide
  · rcases k6 with ⟨y, _⟩ | ⟨_, y, _⟩
    · exact .inl (by rw [z, y]; exact (w.2.2 0 (by omega)).1.trans (by decide))
    · rw [z]; rcases y with y | y <;> rw [y] <;> decide
  · rw [z, k7]; decide
  · rw [z, k8]; decide
theorem PM.fr0 (p : PM e h j IT TY QU) (s : St [] e.mm a h h') : Fr sM0 h h' := s.fr (by simp) (fun x hx => p.ks x hx)
/-- nothing that was there is changed but the place -/
theorem PM.step (p : PM e h j IT TY QU) {X : List Nat} (s : St [] X a h h') (hX : ∀ x ∈ X, x = e.Q ∨ x = e.tr) (g1 : fr h' 355 e.Q = e.tr) (g2 : fr h' 356 e.Q = e.pl) (g3 : fr h' 357 e.Q = e.nl) (g4 : fr h' 359 e.Q = fr h 359 e.Q) (g5 : fr h' 360 e.Q = e.yl) (g6 : fr h' 361 e.Q = e.xl) (hf : fi h' 358 e.Q = nI i) (hij : j ≤ i) (hi : i < e.TS.length) : PM e h' i IT TY QU := by
  have kk : ∀ x ∈ X, kc h x = 46 ∨ kc h x = 6 := fun x hx => by
    rcases hX x hx with z | z
    · rw [z]; exact .inl p.2.1
    · rw [z]; exact .inr p.2.2.2.1
  have F : Fr (fun k => decide (k ≠ 46 ∧ k ≠ 6)) h h' := s.fr (by simp) (fun x hx => .inr (by rcases kk x hx with z | z <;> rw [z] <;> decide))
  obtain ⟨w, k1, f1, k2, f2, k3, c3, a3, f4, n4, a4, n5, f5, hj, L, k6, f7, k7, c7, a7, n7, f8, k8, c8, a8, n8⟩ := p
  have fp := F.at k3 (by decide) (by decide)
  have fn := F.at (p := e.nl) rfl (by omega) (by simp; omega)
  have fy := F.at k7 (by decide) (by decide)
  have fx := F.at k8 (by decide) (by decide)
  refine ⟨s.1, s.2.kk k1 (by decide), g1, s.2.kk k2 (by decide), g2, fp.1, by rw [fp.2.2.2.2.2.2.2.2.2.2]; exact c3, ?_, g3, by rw [fn.1, fn.2.2.2.2.2.2.2.2.2.2]; exact n4, ?_, n5, hf, hi, L, ILp_fr F g4 k6 (by decide) (by decide) (by decide) (by decide) (by decide), g5, fy.1, by rw [fy.2.2.2.2.2.2.2.2.2.2]; exact c7, ?_, by omega, g6, fx.1, by rw [fx.2.2.2.2.2.2.2.2.2.2]; exact c8, ?_, by omega⟩
  · rw [fp.2.2.2.2.2.2.2.2.1]; exact a3.imp fun a _ b z => MT_fr F z (by decide) (by decide)
  · rw [fn.2.2.2.2.2.2.2.2.1]; exact a4.imp fun a _ b z => ToM_fr F z (by decide) (by decide)
  · rw [fy.2.2.2.2.2.2.2.2.1]; exact a7.imp fun a _ b z => TyM_fr F z (by decide) (by decide)
  · rw [fx.2.2.2.2.2.2.2.2.1]; exact a8.imp fun a _ b z => z.imp fun x y => ToM_fr F y (by decide) (by decide)
theorem PM.new (p : PM e h j IT TY QU) (s : St [] [] a h h') : PM e h' j IT TY QU := by
  have b := s.2.eq p.2.1 (by decide) (by simp) (by simp)
  have q := p
  obtain ⟨w, k1, f1, k2, f2, k3, c3, a3, f4, n4, a4, n5, f5, hj, L, k6, f7, k7, c7, a7, n7, f8, k8, c8, a8, n8⟩ := q
  exact p.step s (fun x hx => by simp at hx) ((b.2.2.1 355).trans f1) ((b.2.2.1 356).trans f2) ((b.2.2.1 357).trans f4) (b.2.2.1 359) ((b.2.2.1 360).trans f7) ((b.2.2.1 361).trans f8) ((b.1 358).trans f5) (Nat.le_refl _) hj
theorem m46_e (p : PM e h j IT TY QU) {β : Type} {A : Rs β} : (if kc h e.Q = 46 then A else none) = A := if_pos p.2.1
/-- the present token -/
def EE.tok (e : EE) (h : HP) (j : Nat) : Nat := (ls h e.pl).getD j 0
theorem PM.mt (p : PM e h j IT TY QU) {k : Nat} (hk : k < e.TS.length) : MT h (e.tok h k) (tk e.TS k) := by
  obtain ⟨w, k1, f1, k2, f2, k3, c3, a3, _⟩ := p
  exact a3.getD hk
theorem PM.mt0 (p : PM e h j IT TY QU) : MT h (e.tok h j) (tk e.TS j) := p.mt (by obtain ⟨w, k1, f1, k2, f2, k3, c3, a3, f4, n4, a4, n5, f5, hj, _⟩ := p; exact hj)
theorem PM.jj (p : PM e h j IT TY QU) : j < e.TS.length ∧ Lx e.B e.TS ∧ fi h 358 e.Q = nI j ∧ e.TS.length ≤ 300 := by
  obtain ⟨w, k1, f1, k2, f2, k3, c3, a3, f4, n4, a4, n5, f5, hj, L, _⟩ := p; exact ⟨hj, L, f5, L.2.2.1⟩
theorem PM.V (p : PM e h j IT TY QU) : tkV (tk e.TS j) := p.jj.2.1.2.2.2.2.2.1 j
theorem PM.get (p : PM e h j IT TY QU) {k : Nat} (hk : k < e.TS.length) {β : Type} {K : Nat → Rs β} : lsGet e.pl (nI k) h K = K (e.tok h k) := by
  obtain ⟨hj, L, f5, h3⟩ := p.jj
  obtain ⟨w, k1, f1, k2, f2, k3, c3, a3, _⟩ := p
  rw [lsGet_e ⟨⟨by rw [k3]; decide, by rw [k3]; decide, c3⟩, inA_nI (by rw [a3.len]; exact hk) (by rw [a3.len]; omega)⟩, nI_clamp (by omega)]; rfl
theorem mtok_e (p : PM e h j IT TY QU) {β : Type} {K : Nat → HP → Rs β} : bd (f_X48_token e.Q h) K = K (e.tok h j) h := by
  have pp := p
  obtain ⟨hj, L, f5, h3⟩ := p.jj
  unfold f_X48_token
  obtain ⟨w, k1, f1, k2, f2, _⟩ := p
  rw [ldR_e k1, f2, ldI_e k1, f5, pp.get hj, castR_e (.inr (by rw [pp.mt0.1]; simp)), bd_ok]
theorem misS_e (p : PM e h j IT TY QU) {s : Nat} {w : List Nat} (h1 : 1 ≤ s) (h2 : s ≤ nStr) (hw : codes (cStr.getD (s - 1) "") = w) {β : Type} {K : Int32 → HP → Rs β} :
    bd (f_X48_isSign e.Q s h) K = if isS (tk e.TS j) w then K 1 h else K 0 h := by
  obtain ⟨m1, m2, m3, m4, m5, m6⟩ := p.mt0
  have V := p.V.2.2.2.2.2.2.2
  unfold f_X48_isSign
  rw [m46_e p, mtok_e p, ldI_e m1, m2]
  by_cases a : (tk e.TS j).1 = 8
  · rw [if_pos ((nk _ (c := 8) (C := (8 : Int32)) rfl (by omega) (by omega)).mpr a), m46_e p, mtok_e p, ldR_e m1, txEq_c p.1 m4 m5 h1 h2 hw]
    by_cases b : (tk e.TS j).2.2.1 = w
    · rw [if_pos b, if_neg (by decide), bd_ok, if_pos ⟨a, b⟩]
    · rw [if_neg b, if_pos rfl, bd_ok, if_neg (fun z => b z.2)]
  · rw [if_neg (fun z => a ((nk _ (c := 8) (C := (8 : Int32)) rfl (by omega) (by omega)).mp z)), bd_ok, if_neg (fun z => a z.1)]
theorem misK_e (p : PM e h j IT TY QU) {s : Nat} {w : List Nat} (h1 : 1 ≤ s) (h2 : s ≤ nStr) (hw : codes (cStr.getD (s - 1) "") = w) {β : Type} {K : Int32 → HP → Rs β} :
    bd (f_X48_isKey e.Q s h) K = if isW (tk e.TS j) w then K 1 h else K 0 h := by
  obtain ⟨m1, m2, m3, m4, m5, m6⟩ := p.mt0
  have V := p.V.2.2.2.2.2.2.2
  unfold f_X48_isKey
  rw [m46_e p, mtok_e p, ldI_e m1, m2]
  by_cases a : (tk e.TS j).1 = 2
  · rw [if_pos ((nk _ (c := 2) (C := (2 : Int32)) rfl (by omega) (by omega)).mpr a), m46_e p, mtok_e p, ldR_e m1, txEq_c p.1 m4 m5 h1 h2 hw]
    by_cases b : (tk e.TS j).2.2.1 = w
    · rw [if_pos b, if_neg (by decide), bd_ok, if_pos ⟨a, b⟩]
    · rw [if_neg b, if_pos rfl, bd_ok, if_neg (fun z => b z.2)]
  · rw [if_neg (fun z => a ((nk _ (c := 2) (C := (2 : Int32)) rfl (by omega) (by omega)).mp z)), bd_ok, if_neg (fun z => a z.1)]
/-- the heap behind a step forward -/
def fwd (e : EE) (h : HP) (j : Nat) : HP := sI h 358 e.Q (nI (j + 1))
theorem mfwd_e (p : PM e h j IT TY QU) {β : Type} {K : HP → Rs β} : ldI 46 358 e.Q h (fun x => stI 46 358 e.Q (x + (1 : Int32)) h K) = K (fwd e h j) := by
  rw [ldI_e p.kQ, p.jj.2.2.1, stI_e p.kQ, show nI j + (1 : Int32) = nI (j + 1) from nI_1 j]; rfl
theorem mfwd_s (p : PM e h j IT TY QU) (g : tkGo (tk e.TS j)) : St [] [e.Q] 0 h (fwd e h j) ∧ PM e (fwd e h j) (j + 1) IT TY QU := by
  have s : St [] [e.Q] 0 h (fwd e h j) := (St.refl p.1 [] [e.Q]).sI p.kQ (by decide) (.inr (.inr (by simp)))
  have q := p
  have hj1 := p.jj.2.1.go p.jj.1 g
  obtain ⟨w, k1, f1, k2, f2, k3, c3, a3, f4, n4, a4, n5, f5, hj, L, k6, f7, k7, c7, a7, n7, f8, k8, c8, a8, n8⟩ := q
  exact ⟨s, p.step s (fun x hx => .inl (List.mem_singleton.mp hx)) f1 f2 f4 rfl f7 f8 (by unfold fwd; rw [fi_sI, if_pos ⟨rfl, rfl⟩]) (by omega) hj1⟩
theorem nwE_e {h : HP} {β : Type} {K : Nat → HP → Rs β} : nwE h K = K (nx h) (nO h 69 6) := rfl
theorem isInit_e {h : HP} {p : Nat} {β : Type} {K : HP → Rs β} (hk : kc h p = 69) : isInit p h K = K h := if_pos hk
theorem mwrong (p : PM e h j IT TY QU) :
    ∃ h', (∀ (β : Type), (bd (f_X48_wrong e.Q h) (fun x1 h2 => if kc h2 x1 = 69 then (rex h2 : Rs β) else none)) = rex h') ∧ St [] [e.tr] 1 h h' ∧ StopM e h' (tk e.TS j).2.1 := by
  obtain ⟨m1, m2, m3, m4, m5, m6⟩ := p.mt0
  have q := p
  obtain ⟨w, k1, f1, k2, _⟩ := q
  have s1 : St [] [e.tr] 0 h (sI h 131 e.tr 1) := (St.refl w [] [e.tr]).sI k2 (by decide) (.inr (.inr (by simp)))
  have s2 : St [] [e.tr] 0 h (sI (sI h 131 e.tr 1) 132 e.tr (nI (tk e.TS j).2.1)) := s1.sI k2 (by decide) (.inr (.inr (by simp)))
  have s3 : St [] [e.tr] (0 + 1) h (nO (sI (sI h 131 e.tr 1) 132 e.tr (nI (tk e.TS j).2.1)) 69 6) := s2.nO (by omega) (by omega)
  have kn : kc (nO (sI (sI h 131 e.tr 1) 132 e.tr (nI (tk e.TS j).2.1)) 69 6) (nx (sI (sI h 131 e.tr 1) 132 e.tr (nI (tk e.TS j).2.1))) = 69 := kc_nO_n
  refine ⟨_, fun β => ?_, s3, ?_, ?_⟩
  · unfold f_X48_wrong
    rw [ldR_e k1, f1, m46_e p, mtok_e p, ldI_e m1, m3, if_pos k2]
    unfold f_X5_at
    rw [stI_e k2, stI_e (show kc (sI h 131 e.tr 1) e.tr = 6 from k2), nwE_e, isInit_e kn, bd_ok, bd_ok]
    exact if_pos kn
  · show fi (sI (sI h 131 e.tr 1) 132 e.tr (nI (tk e.TS j).2.1)) 131 e.tr = 1
    rw [fi_sI, if_neg (fun z => absurd z.1 (by decide)), fi_sI, if_pos ⟨rfl, rfl⟩]
  · show fi (sI (sI h 131 e.tr 1) 132 e.tr (nI (tk e.TS j).2.1)) 132 e.tr = _
    rw [fi_sI, if_pos ⟨rfl, rfl⟩]
theorem msgnY (p : PM e h j IT TY QU) {s : Nat} {w : List Nat} (h1 : 1 ≤ s) (h2 : s ≤ nStr) (hw : codes (cStr.getD (s - 1) "") = w) (hx : isS (tk e.TS j) w) {β : Type} {K : HP → Rs β} :
    bd (f_X48_sign e.Q s h) (fun _ h2 => K h2) = K (fwd e h j) := by
  unfold f_X48_sign
  rw [m46_e p, misS_e p h1 h2 hw, if_pos hx, if_neg (by decide), mfwd_e p, bd_ok]
theorem msgnN (p : PM e h j IT TY QU) {s : Nat} {w : List Nat} (h1 : 1 ≤ s) (h2 : s ≤ nStr) (hw : codes (cStr.getD (s - 1) "") = w) (hx : ¬ isS (tk e.TS j) w) :
    ∃ h', (∀ (β : Type) (K : HP → Rs β), bd (f_X48_sign e.Q s h) (fun _ h2 => K h2) = rex h') ∧ St [] [e.tr] 1 h h' ∧ StopM e h' (tk e.TS j).2.1 := by
  obtain ⟨h', e1, s1, f1⟩ := mwrong p
  refine ⟨h', fun β K => ?_, s1, f1⟩
  unfold f_X48_sign
  rw [m46_e p, misS_e p h1 h2 hw, if_neg hx, if_pos rfl, m46_e p, e1]; rfl
theorem mkeyY (p : PM e h j IT TY QU) {s : Nat} {w : List Nat} (h1 : 1 ≤ s) (h2 : s ≤ nStr) (hw : codes (cStr.getD (s - 1) "") = w) (hx : isW (tk e.TS j) w) {β : Type} {K : HP → Rs β} :
    bd (f_X48_key e.Q s h) (fun _ h2 => K h2) = K (fwd e h j) := by
  unfold f_X48_key
  rw [m46_e p, misK_e p h1 h2 hw, if_pos hx, if_neg (by decide), mfwd_e p, bd_ok]
theorem mkeyN (p : PM e h j IT TY QU) {s : Nat} {w : List Nat} (h1 : 1 ≤ s) (h2 : s ≤ nStr) (hw : codes (cStr.getD (s - 1) "") = w) (hx : ¬ isW (tk e.TS j) w) :
    ∃ h', (∀ (β : Type) (K : HP → Rs β), bd (f_X48_key e.Q s h) (fun _ h2 => K h2) = rex h') ∧ St [] [e.tr] 1 h h' ∧ StopM e h' (tk e.TS j).2.1 := by
  obtain ⟨h', e1, s1, f1⟩ := mwrong p
  refine ⟨h', fun β K => ?_, s1, f1⟩
  unfold f_X48_key
  rw [m46_e p, misK_e p h1 h2 hw, if_neg hx, if_pos rfl, m46_e p, e1]; rfl
theorem mgone_e (p : PM e h j IT TY QU) {s : Nat} {w : List Nat} (h1 : 1 ≤ s) (h2 : s ≤ nStr) (hw : codes (cStr.getD (s - 1) "") = w) {β : Type} {K : Int32 → HP → Rs β} :
    bd (f_X48_gone e.Q s h) K = if isS (tk e.TS j) w then K 1 (fwd e h j) else K 0 h := by
  unfold f_X48_gone rokZ
  rw [m46_e p, misS_e p h1 h2 hw]
  by_cases c : isS (tk e.TS j) w
  · rw [if_pos c, if_pos c, if_neg (by decide), mfwd_e p, if_pos (.inr rfl), bd_ok]
  · rw [if_neg c, if_neg c, if_pos rfl, if_pos (.inl rfl), bd_ok]
theorem mdeepY {d : Nat} (hd : d < 30) {β : Type} {K : Int32 → HP → Rs β} : bd (f_X48_deeper e.Q (nI d) h) K = K (nI (d + 1)) h := by
  unfold f_X48_deeper
  rw [if_neg (show ¬ nI d = (30 : Int32) from fun z => by have := (nk d (c := 30) (C := (30 : Int32)) rfl (by omega) (by omega)).mp z; omega), bd_ok, show nI d + (1 : Int32) = nI (d + 1) from nI_1 d]
theorem mdeepN (p : PM e h j IT TY QU) {d : Nat} (hd : d = 30) :
    ∃ h', (∀ (β : Type) (K : Int32 → HP → Rs β), bd (f_X48_deeper e.Q (nI d) h) K = rex h') ∧ St [] [e.tr] 1 h h' ∧ StopM e h' (tk e.TS j).2.1 := by
  obtain ⟨h', e1, s1, f1⟩ := mwrong p
  refine ⟨h', fun β K => ?_, s1, f1⟩
  unfold f_X48_deeper
  rw [if_pos (by rw [hd]; rfl), m46_e p, e1]; rfl
theorem mnameN (p : PM e h j IT TY QU) (hx : (tk e.TS j).1 ≠ 1) :
    ∃ h', (∀ (β : Type) (K : Nat → HP → Rs β), bd (f_X48_name e.Q h) K = rex h') ∧ St [] [e.tr] 1 h h' ∧ StopM e h' (tk e.TS j).2.1 := by
  obtain ⟨h', e1, s1, f1⟩ := mwrong p
  obtain ⟨m1, m2, _⟩ := p.mt0
  have V := p.V.2.2.2.2.2.2.2
  refine ⟨h', fun β K => ?_, s1, f1⟩
  unfold f_X48_name
  rw [m46_e p, mtok_e p, ldI_e m1, m2, if_neg (fun z => hx ((nk _ (c := 1) (C := (1 : Int32)) rfl (by omega) (by omega)).mp z)), m46_e p, e1]; rfl
/-- a name told is made -/
theorem mtold (w : WG h) {s : Nat} {v : Int32} : ∃ h', (∀ (β : Type) (K : HP → Rs β), bd (f_X47_init (nx h) s v (nO h 45 2)) (fun _ h2 => K h2) = K h') ∧ St [] [] 1 h h' ∧ kc h' (nx h) = 45 ∧ fr h' 353 (nx h) = s ∧ fi h' 354 (nx h) = v := by
  have hn0 : nx h ≠ 0 := by have := w.1; omega
  have hnew : kc h (nx h) = 0 := w.new
  have s1 : St [] [] (0 + 1) h (nO h 45 2) := (St.refl w [] []).nO (by omega) (by omega)
  have k1 : kc (nO h 45 2) (nx h) = 45 := kc_nO_n
  have s2 : St [] [] (0 + 1) h (sR (nO h 45 2) 353 (nx h) s) := s1.sR k1 (by decide) (.inl hnew)
  have s3 : St [] [] (0 + 1) h (sI (sR (nO h 45 2) 353 (nx h) s) 354 (nx h) v) := s2.sI k1 (by decide) (.inl hnew)
  refine ⟨_, fun β K => ?_, s3, k1, ?_, by rw [fi_sI, if_pos ⟨rfl, rfl⟩]⟩
  · unfold f_X47_init
    rw [if_neg hn0, stR_e k1, stI_e (show kc (sR (nO h 45 2) 353 (nx h) s) (nx h) = 45 from k1), bd_ok]
  · show fr (sR (nO h 45 2) 353 (nx h) s) 353 (nx h) = s
    rw [fr_sR, if_pos ⟨rfl, rfl⟩]
theorem mnameY (p : PM e h j IT TY QU) (hx : (tk e.TS j).1 = 1) :
    ∃ n h', (∀ (β : Type) (K : Nat → HP → Rs β), bd (f_X48_name e.Q h) K = K n h') ∧ St [] [e.Q] 1 h h' ∧ PM e h' (j + 1) IT TY QU ∧ ToM h' n ((tk e.TS j).2.2.1, (tk e.TS j).2.1) ∧ kc h n = 0 := by
  have g : tkGo (tk e.TS j) := ⟨by omega, by omega⟩
  obtain ⟨m1, m2, m3, m4, m5, m6⟩ := p.mt0
  obtain ⟨s1, p1⟩ := mfwd_s p g
  have kt1 : kc (fwd e h j) (e.tok h j) = 44 := m1
  obtain ⟨h3, e3, s3, k3, f3, g3⟩ := mtold (h := fwd e h j) p1.1 (s := fr h 351 (e.tok h j)) (v := nI (tk e.TS j).2.1)
  refine ⟨nx (fwd e h j), h3, fun β K => ?_, (s1.cat s3 (fun _ z => z) (fun x hx => by simp at hx)).le (by omega), p1.new s3, ⟨k3, ?_, g3⟩, s1.new⟩
  · unfold f_X48_name
    rw [m46_e p, mtok_e p, ldI_e m1, m2, if_pos ((nk _ (c := 1) (C := (1 : Int32)) rfl (by omega) (by omega)).mpr hx), mfwd_e p, nwO_e]
    have ktn : kc (nO (fwd e h j) 45 2) (e.tok h j) = 44 := kc_nO_o p1.1 kt1 (by decide)
    have kn : kc (nO (fwd e h j) 45 2) (nx (fwd e h j)) = 45 := kc_nO_n
    have f1 : fr (nO (fwd e h j) 45 2) 351 (e.tok h j) = fr h 351 (e.tok h j) := rfl
    have f2 : fi (nO (fwd e h j) 45 2) 350 (e.tok h j) = nI (tk e.TS j).2.1 := by
      show fi (sI h 358 e.Q (nI (j + 1))) 350 (e.tok h j) = _
      rw [fi_sI, if_neg (fun z => absurd z.1 (by decide))]; exact m3
    rw [ldR_e ktn, f1, ldI_e ktn, f2, if_pos kn, e3, bd_ok]
  · rw [f3]
    exact ⟨s3.2.kk (show kc (fwd e h j) (fr h 351 (e.tok h j)) = 71 from m4) (by decide), ((s3.2.eq (show kc (fwd e h j) (fr h 351 (e.tok h j)) = 71 from m4) (by decide) (by simp) (by simp)).2.2.2.2.2.2.2.1).trans m5⟩
/-- an item is put down -/
theorem mitm (p : PM e h j IT TY QU) (hn : IT.length ≤ 900 ∧ e.il ≠ 0) {op at' s n ty : Nat} {bits : Int64} {w : List Nat} {o : Option Ty} (hs : StrX h s w) (ho : TyO h ty o) :
    ∃ h', (∀ (β : Type) (K : HP → Rs β), bd (f_X48_item e.Q (nI op) (nI at') s bits (nI n) ty h) (fun _ h2 => K h2) = K h') ∧ St [] [e.il] 22 h h' ∧ PM e h' j (IT ++ [(op, at', w, bits, n, o)]) TY QU := by
  have q := p
  obtain ⟨w0, k1, f1, k2, f2, k3, c3, a3, f4, n4, a4, n5, f5, hj, L, k6, f7, k7, c7, a7, n7, f8, k8, c8, a8, n8⟩ := q
  have h300 := L.2.2.1
  have hn0 : nx h ≠ 0 := by have := w0.1; omega
  have hnew : kc h (nx h) = 0 := w0.new
  have s1 : St [] [] (0 + 1) h (nO h 51 6) := (St.refl w0 [] []).nO (by omega) (by omega)
  have kn : kc (nO h 51 6) (nx h) = 51 := kc_nO_n
  generalize hg1 : nO h 51 6 = h1 at *
  have s2 : St [] [] (0 + 1) h (sI h1 395 (nx h) (nI op)) := s1.sI kn (by decide) (.inl hnew)
  have s3 : St [] [] (0 + 1) h (sI (sI h1 395 (nx h) (nI op)) 396 (nx h) (nI at')) := s2.sI kn (by decide) (.inl hnew)
  have s4 : St [] [] (0 + 1) h (sR (sI (sI h1 395 (nx h) (nI op)) 396 (nx h) (nI at')) 397 (nx h) s) := s3.sR kn (by decide) (.inl hnew)
  have s5 : St [] [] (0 + 1) h (sJ (sR (sI (sI h1 395 (nx h) (nI op)) 396 (nx h) (nI at')) 397 (nx h) s) 398 (nx h) bits) := s4.sJ kn (by decide) (.inl hnew)
  have s6 : St [] [] (0 + 1) h (sI (sJ (sR (sI (sI h1 395 (nx h) (nI op)) 396 (nx h) (nI at')) 397 (nx h) s) 398 (nx h) bits) 399 (nx h) (nI n)) := s5.sI kn (by decide) (.inl hnew)
  have s7 : St [] [] (0 + 1) h (sR (sI (sJ (sR (sI (sI h1 395 (nx h) (nI op)) 396 (nx h) (nI at')) 397 (nx h) s) 398 (nx h) bits) 399 (nx h) (nI n)) 400 (nx h) ty) := s6.sR kn (by decide) (.inl hnew)
  have hinit : f_X53_init (nx h) (nI op) (nI at') s bits (nI n) ty h1 = rok () (sR (sI (sJ (sR (sI (sI h1 395 (nx h) (nI op)) 396 (nx h) (nI at')) 397 (nx h) s) 398 (nx h) bits) 399 (nx h) (nI n)) 400 (nx h) ty) := by
    unfold f_X53_init
    rw [if_neg hn0, stI_e kn, stI_e (show kc (sI h1 395 (nx h) (nI op)) (nx h) = 51 from kn), stR_e (show kc (sI (sI h1 395 (nx h) (nI op)) 396 (nx h) (nI at')) (nx h) = 51 from kn), stJ_e (show kc (sR (sI (sI h1 395 (nx h) (nI op)) 396 (nx h) (nI at')) 397 (nx h) s) (nx h) = 51 from kn), stI_e (show kc (sJ (sR (sI (sI h1 395 (nx h) (nI op)) 396 (nx h) (nI at')) 397 (nx h) s) 398 (nx h) bits) (nx h) = 51 from kn), stR_e (show kc (sI (sJ (sR (sI (sI h1 395 (nx h) (nI op)) 396 (nx h) (nI at')) 397 (nx h) s) 398 (nx h) bits) 399 (nx h) (nI n)) (nx h) = 51 from kn)]
  have v1 : fi (sR (sI (sJ (sR (sI (sI h1 395 (nx h) (nI op)) 396 (nx h) (nI at')) 397 (nx h) s) 398 (nx h) bits) 399 (nx h) (nI n)) 400 (nx h) ty) 395 (nx h) = nI op := by simp [fi_sI, fi_sR, fi_sJ]
  have v2 : fi (sR (sI (sJ (sR (sI (sI h1 395 (nx h) (nI op)) 396 (nx h) (nI at')) 397 (nx h) s) 398 (nx h) bits) 399 (nx h) (nI n)) 400 (nx h) ty) 396 (nx h) = nI at' := by simp [fi_sI, fi_sR, fi_sJ]
  have v3 : fr (sR (sI (sJ (sR (sI (sI h1 395 (nx h) (nI op)) 396 (nx h) (nI at')) 397 (nx h) s) 398 (nx h) bits) 399 (nx h) (nI n)) 400 (nx h) ty) 397 (nx h) = s := by simp [fr_sI, fr_sR, fr_sJ]
  have v4 : fj (sR (sI (sJ (sR (sI (sI h1 395 (nx h) (nI op)) 396 (nx h) (nI at')) 397 (nx h) s) 398 (nx h) bits) 399 (nx h) (nI n)) 400 (nx h) ty) 398 (nx h) = bits := by simp [fj_sI, fj_sR, fj_sJ]
  have v5 : fi (sR (sI (sJ (sR (sI (sI h1 395 (nx h) (nI op)) 396 (nx h) (nI at')) 397 (nx h) s) 398 (nx h) bits) 399 (nx h) (nI n)) 400 (nx h) ty) 399 (nx h) = nI n := by simp [fi_sI, fi_sR, fi_sJ]
  have v6 : fr (sR (sI (sJ (sR (sI (sI h1 395 (nx h) (nI op)) 396 (nx h) (nI at')) 397 (nx h) s) 398 (nx h) bits) 399 (nx h) (nI n)) 400 (nx h) ty) 400 (nx h) = ty := by simp [fr_sI, fr_sR, fr_sJ]
  have kn7 : kc (sR (sI (sJ (sR (sI (sI h1 395 (nx h) (nI op)) 396 (nx h) (nI at')) 397 (nx h) s) 398 (nx h) bits) 399 (nx h) (nI n)) 400 (nx h) ty) (nx h) = 51 := kn
  generalize sR (sI (sJ (sR (sI (sI h1 395 (nx h) (nI op)) 396 (nx h) (nI at')) 397 (nx h) s) 398 (nx h) bits) 399 (nx h) (nI n)) 400 (nx h) ty = h7 at *
  have p7 : PM e h7 j IT TY QU := p.new s7
  have F7 : Fr (fun _ => true) h h7 := s7.fr (by simp) (by simp)
  have hs7 := StrX_fr F7 hs rfl
  have It7 : ItM h7 (nx h) (op, at', w, bits, n, o) := by
    refine ⟨kn7, v1, v2, by rw [v3]; exact hs7, v4, v5, ?_⟩
    show TyO h7 (fr h7 400 (nx h)) o
    rw [v6]
    exact TyO_fr F7 ho rfl rfl
  obtain ⟨x0, y1, g1, y2, g2, y3, d3, b3, g4, m4, b4, m5, g5, hj', L', y6', g7, y7, d7, b7, m7, g8, y8, d8, b8, m8⟩ := p7
  obtain ⟨g6, y6, d6, b6⟩ : fr h7 359 e.Q = e.il ∧ (kc h7 e.il = 133 ∨ kc h7 e.il = 142) ∧ cp h7 e.il ≠ RAW ∧ A2 (ItM h7) (ls h7 e.il) IT := y6'.resolve_left (fun z => hn.2 z.1)
  have kil7 : 100 ≤ kc h7 e.il ∧ kc h7 e.il < 200 := by rcases y6 with y | y <;> omega
  have K7 : lsK h7 e.il := ⟨kil7.1, kil7.2, d6⟩
  have len7 : (ls h7 e.il).length = IT.length := b6.len
  have s8 : St [] [e.il] (0 + 1 + 20) h (lad h7 e.il (nx h)) := (s7.wk (fun _ z => z) (fun x hx => by simp at hx) (Nat.le_refl _)).ladd (c := kc h7 e.il) rfl (by unfold okc; exact decide_eq_true (by omega)) (.inr (.inr (by simp))) (by omega) (by rw [len7]; omega)
  have KK := lad_K (v := nx h) K7 (by rw [len7]; omega)
  have s78 : St [] [e.il] (0 + 20) h7 (lad h7 e.il (nx h)) := (St.refl x0 [] [e.il]).ladd (c := kc h7 e.il) rfl (by unfold okc; exact decide_eq_true (by omega)) (.inr (.inr (by simp))) (by omega) (by rw [len7]; omega)
  have F8 : Fr (fun k => decide (k ≠ 133 ∧ k ≠ 142)) h7 (lad h7 e.il (nx h)) := s78.fr (by simp) (fun x hx => .inr (by rw [List.mem_singleton.mp hx]; rcases y6 with y | y <;> rw [y] <;> decide))
  have eQ := F8.at y1 (by decide) (by decide)
  have ep := F8.at y3 (by decide) (by decide)
  have en := F8.at (p := e.nl) rfl (by omega) (by simp; omega)
  have ey := F8.at y7 (by decide) (by decide)
  have ex := F8.at y8 (by decide) (by decide)
  refine ⟨lad h7 e.il (nx h), fun β K => ?_, s8.le (by omega), ?_⟩
  · unfold f_X48_item
    rw [ldR_e k1, (k6.resolve_left (fun z => hn.2 z.1)).1, nwO_e, hg1, if_pos kn, hinit, bd_ok, lsAdd_e K7 (.inr (.inr (.inr (by rw [kn7]; decide)))) (by rw [len7]; omega), bd_ok]
  · refine ⟨s8.1, eQ.1, (eQ.2.2.2.2.1 355).trans g1, F8.at y2 (by decide) (by decide) |>.1, (eQ.2.2.2.2.1 356).trans g2, ep.1, by rw [ep.2.2.2.2.2.2.2.2.2.2]; exact d3, ?_, (eQ.2.2.2.2.1 357).trans g4, by rw [en.1, en.2.2.2.2.2.2.2.2.2.2]; exact m4, ?_, m5, (eQ.2.2.1 358).trans g5, hj, L, .inr ⟨(eQ.2.2.2.2.1 359).trans g6, y6, KK.2.2, ?_⟩, (eQ.2.2.2.2.1 360).trans g7, ey.1, by rw [ey.2.2.2.2.2.2.2.2.2.2]; exact d7, ?_, m7, (eQ.2.2.2.2.1 361).trans g8, ex.1, by rw [ex.2.2.2.2.2.2.2.2.2.2]; exact d8, ?_, m8⟩
    · rw [ep.2.2.2.2.2.2.2.2.1]; exact b3.imp fun a _ b z => MT_fr F8 z (by decide) (by decide)
    · rw [en.2.2.2.2.2.2.2.2.1]; exact b4.imp fun a _ b z => ToM_fr F8 z (by decide) (by decide)
    · rw [lad_ls]
      exact (b6.imp fun a _ b z => ItM_fr F8 z (by decide) (by decide) (by decide)).app (A2.one (ItM_fr F8 It7 (by decide) (by decide) (by decide)))
    · rw [ey.2.2.2.2.2.2.2.2.1]; exact b7.imp fun a _ b z => TyM_fr F8 z (by decide) (by decide)
    · rw [ex.2.2.2.2.2.2.2.2.1]; exact b8.imp fun a _ b z => z.imp fun x y => ToM_fr F8 y (by decide) (by decide)
