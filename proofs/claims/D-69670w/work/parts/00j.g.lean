/-! PHASE B declarations 7: both read declarations: states, failures; the faces' names -/
set_option maxRecDepth 100000
def EE.wil (e : EE) (l : Nat) : EE := (e.1, e.2.1, e.2.2.1, e.2.2.2.1, e.2.2.2.2.1, e.2.2.2.2.2.1, e.2.2.2.2.2.2.1, e.2.2.2.2.2.2.2.1, e.2.2.2.2.2.2.2.2.1, e.2.2.2.2.2.2.2.2.2.1, l, e.2.2.2.2.2.2.2.2.2.2.2)
variable {e : EE} {Zx Zm : List Nat} {hx hm h h' hx0 hm0 : HP} {i j a b k X Y bx bm : Nat} {IT : List It} {TY : List Ty} {QU : List (List Nat)} {num : Nat × Nat}
/-- what is so from the beginning on -/
def Dc (e : EE) (Zx Zm : List Nat) (hx0 hm0 : HP) : Prop := e.il = 0 ∧ WG hx0 ∧ WG hm0 ∧ kc hx0 e.cl = 129 ∧ kc hx0 e.P = 12 ∧ kc hm0 e.nl = 168 ∧ (∀ x ∈ e.xx, x ∈ Zx ∨ kc hx0 x = 0) ∧ ∀ x ∈ e.mm, x ∈ Zm ∨ kc hm0 x = 0
/-- both parsers, from a beginning on -/
def Dq (e : EE) (Zx Zm : List Nat) (hx0 hm0 : HP) (X Y : Nat) (hx hm : HP) (i : Nat) (TY : List Ty) (QU : List (List Nat)) (IT : List It) : Prop := St [] Zx X hx0 hx ∧ St [] Zm Y hm0 hm ∧ (PX e hx i TY QU ∧ Kq e hx0 hx) ∧ PM e hm i IT TY QU
/-- the component has failed; the twin too, or it stands where there is no token -/
def DF {α β : Type} (e : EE) (Zx Zm : List Nat) (hx0 hm0 : HP) (X Y : Nat) (rx : Rs α) (rm : Rs β) : Prop := ∃ p hx', rx = rex hx' ∧ St [] Zx X hx0 hx' ∧ StopX e hx' p ∧
  ((∃ hm', rm = rex hm' ∧ St [] Zm Y hm0 hm' ∧ StopM e hm' p) ∨ ∃ v hm' il N, rm = rok v hm' ∧ St [] Zm Y hm0 hm' ∧ PN (e.wil il) hm' p N ∧ kc hm0 il = 0)
theorem DF.le {α β : Type} {X2 Y2 : Nat} {rx : Rs α} {rm : Rs β} (f : DF e Zx Zm hx0 hm0 X Y rx rm) (hX : X ≤ X2) (hY : Y ≤ Y2) : DF e Zx Zm hx0 hm0 X2 Y2 rx rm := by
  obtain ⟨p, hx', e1, s1, f1, m⟩ := f
  refine ⟨p, hx', e1, s1.le hX, f1, ?_⟩
  rcases m with ⟨hm', a1, a2, a3⟩ | ⟨v, hm', il, N, a1, a2, a3⟩
  · exact .inl ⟨hm', a1, a2.le hY, a3⟩
  · exact .inr ⟨v, hm', il, N, a1, a2.le hY, a3⟩
theorem Dq.tr (C : Dc e Zx Zm hx0 hm0) (S : Dq e Zx Zm hx0 hm0 X Y hx hm i TY QU IT) {TY' : List Ty} {QU' : List (List Nat)} {IT' : List It} {hx' hm' : HP} (s : XS e a hx hx') (t : MS e b hm hm') (p : PX e hx' j TY' QU') (q : PM e hm' j IT' TY' QU') : Dq e Zx Zm hx0 hm0 (X + a) (Y + b) hx' hm' j TY' QU' IT' := by
  refine ⟨S.1.cat s.1 (fun _ z => z) (fun x hx => ?_), S.2.1.cat t (fun _ z => z) (fun x hx => ?_), ⟨p, S.2.2.1.2.trans (XS.kq S.2.2.1.1 s)⟩, q⟩
  · rcases C.2.2.2.2.2.2.1 x hx with z | z
    · exact .inl z
    · exact .inr (.inl z)
  · rcases C.2.2.2.2.2.2.2 x hx with z | z
    · exact .inl z
    · exact .inr (.inl z)
/-- changes of what is new, or may be changed -/
theorem Dq.chX (S : Dq e Zx Zm hx0 hm0 X Y hx hm i TY QU IT) {hx' : HP} {Z : List Nat} (s : St [] Z a hx hx') (hZ : ∀ x ∈ Z, x ∈ Zx ∨ kc hx0 x = 0) (p : PX e hx' i TY QU) (kp : Kq e hx hx') : Dq e Zx Zm hx0 hm0 (X + a) Y hx' hm i TY QU IT :=
  ⟨S.1.cat s (fun _ z => z) (fun x hx => by rcases hZ x hx with z | z; exact .inl z; exact .inr (.inl z)), S.2.1, ⟨p, S.2.2.1.2.trans kp⟩, S.2.2.2⟩
theorem Dq.chM (S : Dq e Zx Zm hx0 hm0 X Y hx hm i TY QU IT) {hm' : HP} {Z : List Nat} (s : St [] Z a hm hm') (hZ : ∀ x ∈ Z, x ∈ Zm ∨ kc hm0 x = 0) (q : PM e hm' i IT TY QU) : Dq e Zx Zm hx0 hm0 X (Y + a) hx hm' i TY QU IT :=
  ⟨S.1, S.2.1.cat s (fun _ z => z) (fun x hx => by rcases hZ x hx with z | z; exact .inl z; exact .inr (.inl z)), S.2.2.1, q⟩
theorem Dq.cl (C : Dc e Zx Zm hx0 hm0) (S : Dq e Zx Zm hx0 hm0 X Y hx hm i TY QU IT) : kc hx e.cl = 129 ∧ kc hx e.P = 12 ∧ kc hm e.nl = 168 := ⟨S.1.2.kk C.2.2.2.1 (by decide), S.1.2.kk C.2.2.2.2.1 (by decide), S.2.1.2.kk C.2.2.2.2.2.1 (by decide)⟩
theorem xt12_e (hP : kc h e.P = 12) (p : PX e h i TY QU) {β : Type} {K : Nat → Rs β} : ldR 12 156 e.P h K = K e.t := by rw [ldR_e hP, p.2.1.2.1]
/-- both fail at the present token -/
theorem Dq.err {α β : Type} {P : Nat} (C : Dc e Zx Zm hx0 hm0) (S : Dq e Zx Zm hx0 hm0 X Y hx hm i TY QU IT) {hx' hm' : HP} (s1 : St [] [e.t, e.st] 0 hx hx') (f1 : StopX e hx' P) (s2 : St [] [e.tr] 1 hm hm') (f2 : StopM e hm' P) : DF e Zx Zm hx0 hm0 X (Y + 1) (rex hx' : Rs α) (rex hm' : Rs β) := by
  have p := S.2.2.1.1
  refine ⟨P, hx', rfl, S.1.cat (XS.tok p s1).1 (fun _ z => z) (fun x hx => ?_), f1, .inl ⟨hm', rfl, S.2.1.cat s2 (fun _ z => z) (fun x hx => ?_), f2⟩⟩
  · rcases C.2.2.2.2.2.2.1 x hx with z | z
    · exact .inl z
    · exact .inr (.inl z)
  · rcases C.2.2.2.2.2.2.2 x (by rw [List.mem_singleton.mp hx]; simp) with z | z
    · exact .inl z
    · exact .inr (.inl z)
/-- the component has failed onto no token; what the twin does there -/
theorem Dq.none {α β : Type} {P N c : Nat} (C : Dc e Zx Zm hx0 hm0) (S : Dq e Zx Zm hx0 hm0 X Y hx hm i TY QU IT) {hx' hm' : HP} {rm : Rs β} (s1 : XS e 20 hx hx') (f1 : StopX e hx' P) (t : MS e b hm hm') (m : MF e hm' P N c rm) : DF e Zx Zm hx0 hm0 (X + 20) (Y + b + c) (rex hx' : Rs α) rm := by
  have mm : ∀ {hA hB : HP} {Y c : Nat}, St [] Zm Y hm0 hA → MS e c hA hB → St [] Zm (Y + c) hm0 hB := fun s u => s.cat u (fun _ z => z) (fun x hx => by
    rcases C.2.2.2.2.2.2.2 x hx with z | z
    · exact .inl z
    · exact .inr (.inl z))
  refine ⟨P, hx', rfl, S.1.cat s1.1 (fun _ z => z) (fun x hx => ?_), f1, ?_⟩
  · rcases C.2.2.2.2.2.2.1 x hx with z | z
    · exact .inl z
    · exact .inr (.inl z)
  · have s2 := mm S.2.1 t
    rcases m with ⟨h5, a1, a2, a3⟩ | ⟨v, h5, a1, a2, a3⟩
    · exact .inl ⟨h5, a1, mm s2 a2, a3⟩
    · exact .inr ⟨v, h5, e.il, N, a1, mm s2 a2, a3, by rw [C.1]; exact (C.2.2.1.2.2 0 (by omega)).1⟩
/-- a name is read by both -/
theorem nam (p : PX e hx i TY QU) (q : PM e hm i IT TY QU) (c : (tk e.TS i).1 = 1) :
    ∃ n hm', (∀ (β : Type) (K : Nat → HP → Rs β), bd (f_X48_name e.Q hm) K = K n hm') ∧ MS e 1 hm hm' ∧ ToM hm' n ((tk e.TS i).2.2.1, (tk e.TS i).2.1) ∧ kc hm n = 0 ∧ PM e hm' (i + 1) IT TY QU ∧
    ((∃ hx', (∀ (β : Type) (K : HP → Rs β), bd (f_X9_next e.t hx) (fun _ h2 => K h2) = K hx') ∧ XS e 20 hx hx' ∧ PX e hx' (i + 1) TY QU) ∨
     (∃ hx' P, (∀ (β : Type) (K : HP → Rs β), bd (f_X9_next e.t hx) (fun _ h2 => K h2) = rex hx') ∧ XS e 20 hx hx' ∧ StopX e hx' P ∧ PN e hm' P IT.length)) := by
  obtain ⟨n, hm', e1, s1, q1, tm, n0⟩ := mnameY q c
  refine ⟨n, hm', e1, MS.Q s1, tm, n0, q1, ?_⟩
  rcases xnext p ⟨by omega, by omega⟩ with ⟨c, hx', e2, s2, p2⟩ | ⟨c, hx', e2, s2, f2⟩
  · exact .inl ⟨hx', e2, XS.tok p s2, p2⟩
  · exact .inr ⟨hx', _, e2, XS.tok p s2, f2, ⟨_, _, _, _, q1, c, rfl, Nat.le_refl _⟩⟩
/-- a declaration in the component's heap grows with the heap -/
theorem DX_up {F G : Nat → Prop} {d : DC} (f : FxX e F ALLX h h') (x : DX e F h a num d) (hG : ∀ l, F l → G l) : DX e G h' a num d := DXg_wk hG (DXg_fx f (fun k hk => by unfold ALLX; simp at hk ⊢; omega) x)
theorem KdM_up {F G : Nat → Prop} {num : Nat} {d : DC} (f : FxM F ALLM h h') (x : KdM F h a num d) (hG : ∀ l, F l → G l) : KdM G h' a num d := KdMg_wk (e := (0, 0, 0, 0, 0, 0, 0, 0, 0, 0, 0, 0, 0, [], [], [])) hG (KdMg_fx (e := (0, 0, 0, 0, 0, 0, 0, 0, 0, 0, 0, 0, 0, [], [], [])) f (fun k hk => by unfold ALLM; simp at hk ⊢; omega) x)
def addI (d : DC) (ts : List Td) : DC := (d.1, d.2.1, d.2.2.1, d.2.2.2.1, d.2.2.2.2.1 ++ ts, d.2.2.2.2.2.1, d.2.2.2.2.2.2)
theorem addI_nil (d : DC) : addI d [] = d := by unfold addI; rw [List.append_nil]
theorem addI_add (d : DC) (ts us : List Td) : addI (addI d ts) us = addI d (ts ++ us) := by unfold addI; simp
/-- the present declaration in both -/
def Cur (e : EE) (bx bm : Nat) (hx hm : HP) (a k : Nat) (num : Nat × Nat) (d : DC) : Prop := DX e (Fb bx (nx hx)) hx a num d ∧ KdM (Fb bm (nx hm)) hm k num.1 d
/-- where lists of the declarations may lie: behind the beginning -/
def Bx (Zx Zm : List Nat) (hx0 hm0 : HP) (bx bm : Nat) : Prop := (∀ l, bx ≤ l → l ∈ Zx ∨ kc hx0 l = 0) ∧ ∀ l, bm ≤ l → l ∈ Zm ∨ kc hm0 l = 0
theorem new_of (w : WG hx0) {l : Nat} (hb : nx hx0 ≤ bx) (hl : Fb bx b l) : kc hx0 l = 0 := (w.2.1 l (by have := hl.1; omega)).1
theorem XS.nx (s : XS e a h h') : nx h ≤ nx h' := s.1.2.1
/-- the faces' names -/
theorem row_l (C : Dc e Zx Zm hx0 hm0) (B : Bx Zx Zm hx0 hm0 bx bm) (N : Nat) : ∀ (hx hm : HP) (i X Y : Nat) (d : DC) (NX NM : Nat), N < NX → N < NM → e.TS.length - i < N → d.2.2.2.2.1.length ≤ i → Dq e Zx Zm hx0 hm0 X Y hx hm i TY QU IT → Cur e bx bm hx hm a k num d →
    (∃ hx' hm' j ts, f_X11_faces_l0 e.P a NX hx = rok () hx' ∧ (if kc hm e.Q = 46 then bd (f_X48_name e.Q hm) (fun x1 h2 => lsAdd (fr hm 370 k) x1 h2 fun h3 => f_X48_row_l9 e.Q (fr hm 370 k) NM h3) else none) = rok () hm' ∧ i < j ∧ Dq e Zx Zm hx0 hm0 (X + 88 * (j - i)) (Y + 88 * (j - i)) hx' hm' j TY QU IT ∧ Cur e bx bm hx' hm' a k num (addI d ts) ∧ (d.2.2.2.2.1 ++ ts).length ≤ j ∧ ts.length + i ≤ j) ∨
    DF e Zx Zm hx0 hm0 (X + 88 * (e.TS.length - i)) (Y + 88 * (e.TS.length - i)) (f_X11_faces_l0 e.P a NX hx) (if kc hm e.Q = 46 then bd (f_X48_name e.Q hm) (fun x1 h2 => lsAdd (fr hm 370 k) x1 h2 fun h3 => f_X48_row_l9 e.Q (fr hm 370 k) NM h3) else none) := by
  induction N with
  | zero => intro hx hm i X Y d NX NM _ _ h1; omega
  | succ N ih =>
    intro hx hm i X Y d NX NM hNX hNM h1 hdl S Cu
    obtain ⟨NX, rfl⟩ : ∃ k, NX = k + 1 := ⟨NX - 1, by omega⟩
    obtain ⟨NM, rfl⟩ : ∃ k, NM = k + 1 := ⟨NM - 1, by omega⟩
    obtain ⟨cl, kP, nl⟩ := S.cl C
    have p := S.2.2.1.1
    have q := S.2.2.2
    have hi := q.jj.1
    have h3 := q.jj.2.2.2
    have V := p.V
    obtain ⟨DXa, KMa⟩ := Cu
    have ka : kc hx a = 13 := DXa.1
    have kk : kc hm k = 47 := KMa.1
    rw [f_X11_faces_l0_s, m46_e q]
    unfold b_X11_faces_l0
    -- the place
    obtain ⟨h5, v, e1, s1, iv, kv⟩ := ivOf_e p.1 (n := (tk e.TS i).2.1) (by have := V.2.2.2.2.2.1; omega)
    have p5 := p.new s1
    have Z5 : FxX e (Fb bx (nx hx)) ALLX hx h5 := p.decF (Z := []) s1.fx (by simp) (by simp)
    have n5 : nx hx ≤ nx h5 := s1.2.1
    have D5 := DX_up (G := Fb bx (nx h5)) Z5 DXa (fun l z => ⟨z.1, by have := z.2; omega⟩)
    have E5 := Z5.ob ka (by decide) (by decide)
    obtain ⟨e6, s6, p6, D6, k6, F6, f6⟩ := DXg_167 p5 (s1.2.kk cl (by decide)) D5 (by rw [List.length_map]; omega) (.inr (.inr (.inl kv))) iv
    have S6 := (S.chX s1 (by simp) p5 (p.keep (Z := []) s1.fx (by simp))).chX s6 (fun x hx => (by rw [List.mem_singleton.mp hx]; exact B.1 _ F6.1)) p6 f6
    have a167 : fr h5 167 a = fr hx 167 a := E5.2.2.2.2.1 167
    have kP6 := (S6.cl C).2.1
    have ka6 : kc (lad h5 (fr h5 167 a) v) a = 13 := D6.1
    rw [ldR_e ka, xt12_e kP p, xplc_e p, e1, ← a167, e6, ldR_e ka6, xt12_e kP6 p6, x10_e p6]
    have nx6 : nx (lad h5 (fr h5 167 a) v) = nx h5 := rfl
    generalize lad h5 (fr h5 167 a) v = h6 at *
    by_cases c : (tk e.TS i).1 = 1
    · obtain ⟨n, hm1, g1, t1, To, n0, q1, r⟩ := nam p6 q c
      rw [xnameY p6 c, g1]
      have wd := p6.wrd
      -- the twin's list
      have M1 : FxM (Fb bm (nx hm)) ALLM hm hm1 := MS.fxm q C.1 t1 (by decide)
      have nm1 : nx hm ≤ nx hm1 := t1.2.1
      have KM1 := KdM_up (G := Fb bm (nx hm1)) M1 KMa (fun l z => ⟨z.1, by have := z.2; omega⟩)
      obtain ⟨g2, t2, q2, KM2, k2, F2, f2⟩ := KdMg_370 (e := e) q1 (t1.2.kk nl (by decide)) KM1 (by omega) (.inr (.inr (.inr (by rw [To.1]; decide)))) To
      have m370 : fr hm1 370 k = fr hm 370 k := (M1.ob kk (by decide) (by decide)).2.2.2.2.1 370
      have nl1 : (fr hm1 370 k) ∈ Zm ∨ kc hm0 (fr hm1 370 k) = 0 := B.2 _ F2.1
      rw [← m370, g2]
      rcases r with ⟨hx7, e7, s7, p7⟩ | ⟨hx7, P, e7, s7, f7, n7⟩
      · have S7 := (S6.tr C s7 t1 p7 q1).chM t2 (fun x hx => (by rw [List.mem_singleton.mp hx]; exact nl1)) q2
        have Z7 : FxX e (Fb bx (nx h5)) ALLX h6 hx7 := XS.fxx p6 s7 (by decide)
        have n7 : nx h6 ≤ nx hx7 := s7.nx
        have D7 := DXg_wk (G := Fb bx (nx hx7)) (fun l z => ⟨z.1, by have := z.2; omega⟩) (DXg_fx Z7 (fun k hk => by unfold ALLX; simp at hk ⊢; omega) D6)
        have wd7 : StrX hx7 (fr h6 154 e.t) (tk e.TS i).2.2.1 := StrX_fr (p6.fr0 s7.1) wd (by decide)
        obtain ⟨e8, s8, p8, D8, k8, F8, f8⟩ := DXg_166 p7 (S7.cl C).1 D7 (by rw [List.length_map]; omega) (.inr (.inl wd7.1)) wd7
        have a166 : fr hx7 166 a = fr h6 166 a := (Z7.ob ka6 (by decide) (by decide)).2.2.2.2.1 166
        have S8 := S7.chX s8 (fun x hx => (by rw [List.mem_singleton.mp hx]; exact B.1 _ F8.1)) p8 f8
        have nx8 : nx (lad hx7 (fr hx7 166 a) (fr h6 154 e.t)) = nx hx7 := rfl
        have nxm2 : nx (lad hm1 (fr hm1 370 k) n) = nx hm1 := rfl
        have hm370 : fr (lad hm1 (fr hm1 370 k) n) 370 k = fr hm1 370 k := rfl
        have kP8 := (S8.cl C).2.1
        rw [e7, ← a166, e8, xt12_e kP8 p8, x10_e p8, f_X48_row_l9_s]
        unfold b_X48_row_l9
        rw [m46_e q2, mgone_e q2 (by decide) (by decide) rfl]
        have Cu8 : Cur e bx bm (lad hx7 (fr hx7 166 a) (fr h6 154 e.t)) (lad hm1 (fr hm1 370 k) n) a k num (addI d [((tk e.TS i).2.2.1, (tk e.TS i).2.1)]) := by
          refine ⟨?_, ?_⟩
          · unfold DX addI
            rw [nx8, List.map_append, List.map_append]; exact D8
          · rw [nxm2]; exact KM2
        have hi1 := q1.jj.1
        generalize lad hx7 (fr hx7 166 a) (fr h6 154 e.t) = hx8 at *
        generalize hm2' : lad hm1 (fr hm1 370 k) n = hm2 at *
        have hw : codes (cStr.getD (13 - 1) "") ∈ SW := by decide
        by_cases c2 : isX (tk e.TS (i + 1)) (codes (cStr.getD (13 - 1) ""))
        · have c3 := (isX_S p8.V hw).mp c2
          rw [xaccY p8 (by decide) (by decide) rfl c2, if_pos c3, if_neg z10]
          rcases adv p8 q2 (go_of c3) with ⟨hx9, e9, s9, p9, q9, t9⟩ | ⟨hx9, P, e9, s9, f9, n9, t9⟩
          · have S9 := S8.tr C s9 t9 p9 q9
            have hi9 := q9.jj.1
            have Cu9 : Cur e bx bm hx9 (fwd e hm2 (i + 1)) a k num (addI d [((tk e.TS i).2.2.1, (tk e.TS i).2.1)]) := by
              have y1 := s9.nx
              have y2 := t9.2.1
              exact ⟨DX_up (XS.fxx p8 s9 (by decide)) Cu8.1 (fun l z => ⟨z.1, by have := z.2; omega⟩), KdM_up (MS.fxm q2 C.1 t9 (by decide)) Cu8.2 (fun l z => ⟨z.1, by have := z.2; omega⟩)⟩
            have l9 : fr (fwd e hm2 (i + 1)) 370 k = fr hm1 370 k := hm370
            rw [e9, if_neg z10]
            rcases ih hx9 (fwd e hm2 (i + 1)) (i + 1 + 1) _ _ _ NX NM (by omega) (by omega) (by omega) (by unfold addI; simp; omega) S9 Cu9 with ⟨hxa, hma, j, ts, x1, x2, x3, x4, x5, x6, x7⟩ | f
            · rw [l9] at x2
              refine .inl ⟨hxa, hma, j, ((tk e.TS i).2.2.1, (tk e.TS i).2.1) :: ts, x1, x2, by omega, ⟨x4.1.le (by omega), x4.2.1.le (by omega), x4.2.2⟩, ?_, ?_, by simp only [List.length_cons]; omega⟩
              · rw [addI_add] at x5; exact x5
              · unfold addI at x6; simp at x6 ⊢; omega
            · rw [l9] at f
              exact .inr (f.le (by omega) (by omega))
          · rw [e9]
            have M := vName (N2 := 0) n9 (K := fun x3 h4 => lsAdd (fr hm1 370 k) x3 h4 fun h5 => f_X48_row_l9 e.Q (fr hm1 370 k) NM h5)
            exact .inr ((Dq.none C S8 s9 f9 t9 (v46 n9 M)).le (by omega) (by omega))
        · rw [xaccN p8 (by decide) (by decide) rfl c2, if_neg (fun z => c2 ((isX_S p8.V hw).mpr z)), if_pos y00, if_pos y00]
          exact .inl ⟨hx8, hm2, i + 1, [((tk e.TS i).2.2.1, (tk e.TS i).2.1)], rfl, rfl, by omega, ⟨S8.1.le (by omega), S8.2.1.le (by omega), S8.2.2⟩, Cu8, by simp; omega, by simp only [List.length_cons, List.length_nil]; omega⟩
      · have S6' := (S6.1.cat s7.1 (fun _ z => z) (fun x hx => by
          rcases C.2.2.2.2.2.2.1 x hx with z | z
          · exact .inl z
          · exact .inr (.inl z)) : St [] Zx _ hx0 hx7)
        have Sm := (S6.2.1.cat t1 (fun _ z => z) (fun x hx => by
          rcases C.2.2.2.2.2.2.2 x hx with z | z
          · exact .inl z
          · exact .inr (.inl z)) : St [] Zm _ hm0 hm1)
        have Sm2 := Sm.cat t2 (fun _ z => z) (fun x hx => (by rw [List.mem_singleton.mp hx]; exact Or.imp id Or.inl nl1))
        have N7 : (tk e.TS (i + 1)).1 = 9 ∧ (tk e.TS (i + 1)).2.1 = P := PN_at n7 q1
        rw [e7, f_X48_row_l9_s]
        unfold b_X48_row_l9
        rw [m46_e q2, mgone_e q2 (by decide) (by decide) rfl, if_neg (fun z => by have := z.1; omega), if_pos y00]
        exact .inr ⟨P, hx7, rfl, S6'.le (by omega), f7, .inr ⟨(), _, e.il, IT.length, rfl, Sm2.le (by omega), ⟨_, _, _, _, q2, N7.1, N7.2, Nat.le_refl _⟩, by rw [C.1]; exact (C.2.2.1.2.2 0 (by omega)).1⟩⟩
    · obtain ⟨hx7, e7, s7, f7⟩ := xnameN p6 c
      obtain ⟨hm7, e8, s8, f8⟩ := mnameN q c
      rw [e7, e8]
      exact .inr ((Dq.err C S6 s7 f7 s8 f8).le (by omega) (by omega))
