/-! PHASE B declarations 8: constants -/
set_option maxRecDepth 100000
variable {e : EE} {Zx Zm : List Nat} {hx hm h h' hx0 hm0 : HP} {i j a b k X Y bx bm : Nat} {IT : List It} {TY : List Ty} {QU : List (List Nat)} {num : Nat × Nat}
theorem Dq.up (C : Dc e Zx Zm hx0 hm0) (S : Dq e Zx Zm hx0 hm0 X Y hx hm i TY QU IT) {hx' hm' : HP} (s : XS e a hx hx') (t : MS e b hm hm') : St [] Zx (X + a) hx0 hx' ∧ St [] Zm (Y + b) hm0 hm' := by
  refine ⟨S.1.cat s.1 (fun _ z => z) (fun x hx => ?_), S.2.1.cat t (fun _ z => z) (fun x hx => ?_)⟩
  · rcases C.2.2.2.2.2.2.1 x hx with z | z
    · exact .inl z
    · exact .inr (.inl z)
  · rcases C.2.2.2.2.2.2.2 x hx with z | z
    · exact .inl z
    · exact .inr (.inl z)
theorem Dc.il (C : Dc e Zx Zm hx0 hm0) : kc hm0 e.il = 0 := by rw [C.1]; exact (C.2.2.1.2.2 0 (by omega)).1
/-- the component has failed onto no token; the twin has come back there -/
theorem Dq.end' {α β : Type} {P N c : Nat} (C : Dc e Zx Zm hx0 hm0) (S : Dq e Zx Zm hx0 hm0 X Y hx hm i TY QU IT) {hx' hm' hm2 : HP} {Z : List Nat} {v : β} (s1 : XS e a hx hx') (f1 : StopX e hx' P) (t : MS e b hm hm') (u : St [] Z c hm' hm2) (hZ : ∀ x ∈ Z, x ∈ Zm ∨ kc hm0 x = 0) (n : PN e hm2 P N) : DF e Zx Zm hx0 hm0 (X + a) (Y + b + c) (rex hx' : Rs α) (rok v hm2) := by
  obtain ⟨y1, y2⟩ := S.up C s1 t
  refine ⟨P, hx', rfl, y1, f1, .inr ⟨v, hm2, e.il, N, rfl, y2.cat u (fun _ z => z) (fun x hx => ?_), n, C.il⟩⟩
  rcases hZ x hx with z | z
  · exact .inl z
  · exact .inr (.inl z)
/-- the component has failed onto no token; the twin fails there, behind some steps of its own -/
theorem Dq.far {α β : Type} {P N c c2 : Nat} (C : Dc e Zx Zm hx0 hm0) (S : Dq e Zx Zm hx0 hm0 X Y hx hm i TY QU IT) {hx' hm' hm2 : HP} {Z : List Nat} {rm : Rs β} (s1 : XS e a hx hx') (f1 : StopX e hx' P) (t : MS e b hm hm') (u : St [] Z c hm' hm2) (hZ : ∀ x ∈ Z, x ∈ Zm ∨ kc hm0 x = 0) (m : MF e hm2 P N c2 rm) : DF e Zx Zm hx0 hm0 (X + a) (Y + b + c + c2) (rex hx' : Rs α) rm := by
  obtain ⟨y1, y2⟩ := S.up C s1 t
  have y3 := y2.cat u (fun _ z => z) (fun x hx => by
    rcases hZ x hx with z | z
    · exact .inl z
    · exact .inr (.inl z))
  have mm : ∀ {hB : HP} {c : Nat}, MS e c hm2 hB → St [] Zm (Y + b + _ + c) hm0 hB := fun u => y3.cat u (fun _ z => z) (fun x hx => by
    rcases C.2.2.2.2.2.2.2 x hx with z | z
    · exact .inl z
    · exact .inr (.inl z))
  refine ⟨P, hx', rfl, y1, f1, ?_⟩
  rcases m with ⟨h5, a1, a2, a3⟩ | ⟨v, h5, a1, a2, a3⟩
  · exact .inl ⟨h5, a1, mm a2, a3⟩
  · exact .inr ⟨v, h5, e.il, N, a1, mm a2, a3, C.il⟩
def addC (d : DC) (ts : List Td) : DC := (d.1, d.2.1, d.2.2.1, d.2.2.2.1, d.2.2.2.2.1, d.2.2.2.2.2.1, d.2.2.2.2.2.2 ++ ts)
theorem addC_add (d : DC) (ts us : List Td) : addC (addC d ts) us = addC d (ts ++ us) := by unfold addC; simp
theorem addC_nil (d : DC) : addC d [] = d := by unfold addC; rw [List.append_nil]
/-- the component's constants from the loop on; the twin's -/
noncomputable def enX (P a N : Nat) (h : HP) : Rs Unit := bd (f_X11_enumeration_l9 P a N h) (Sum.elim (fun x3 => fun h4 => ldR 12 156 P h4 fun x5 => if kc h4 x5 = 10 then bd (f_X9_wrong x5 h4) (fun x6 h7 => if kc h7 x6 = 69 then rex h7 else none) else none) (fun x8 => fun h9 => ldR 12 156 P h9 fun x10 => if kc h9 x10 = 10 then bd (f_X9_expect x10 76 h9) (fun _ h11 => rok () h11) else none))
noncomputable def enM (Q k N : Nat) (h : HP) : Rs Unit := bd (ldR 47 373 k h fun x3 => lsSize x3 h fun x4 => if x4 = (40 : Int32) then (if kc h Q = 46 then bd (f_X48_token Q h) (fun x5 h6 => ldI 44 349 x5 h6 fun x7 => if x7 = (1 : Int32) then rok (Sum.inl ()) h6 else f_X48_constants_l12b49 Q k (f_X48_constants_l12 Q k N) h6) else none) else f_X48_constants_l12b49 Q k (f_X48_constants_l12 Q k N) h) (Sum.elim (fun x5 => fun h6 => if kc h6 Q = 46 then bd (f_X48_wrong Q h6) (fun x7 h8 => if kc h8 x7 = 69 then rex h8 else none) else none) (fun x9 => fun h10 => if kc h10 Q = 46 then bd (f_X48_sign Q 76 h10) (fun _ h11 => rok () h11) else none))
theorem cons_l (C : Dc e Zx Zm hx0 hm0) (B : Bx Zx Zm hx0 hm0 bx bm) (N : Nat) : ∀ (hx hm : HP) (i X Y : Nat) (d : DC) (NX NM : Nat), N < NX → N < NM → e.TS.length - i < N → d.2.2.2.2.2.2.length ≤ i → d.2.2.2.2.2.2.length ≤ 40 → Dq e Zx Zm hx0 hm0 X Y hx hm i TY QU IT → Cur e bx bm hx hm a k num d →
    (∃ hx' hm' j ts, enX e.P a NX hx = rok () hx' ∧ enM e.Q k NM hm = rok () hm' ∧ i < j ∧ Dq e Zx Zm hx0 hm0 (X + 88 * (j - i)) (Y + 88 * (j - i)) hx' hm' j TY QU IT ∧ Cur e bx bm hx' hm' a k num (addC d ts) ∧ ts ≠ [] ∧ ts.length + i ≤ j) ∨
    DF e Zx Zm hx0 hm0 (X + 88 * (e.TS.length - i)) (Y + 88 * (e.TS.length - i)) (enX e.P a NX hx) (enM e.Q k NM hm) := by
  induction N with
  | zero => intro hx hm i X Y d NX NM _ _ h1; omega
  | succ N ih =>
    intro hx hm i X Y d NX NM hNX hNM h1 hdl h40 S Cu
    obtain ⟨NX, rfl⟩ : ∃ k, NX = k + 1 := ⟨NX - 1, by omega⟩
    obtain ⟨NM, rfl⟩ : ∃ k, NM = k + 1 := ⟨NM - 1, by omega⟩
    obtain ⟨cl, kP, nl⟩ := S.cl C
    have p := S.2.2.1.1
    have q := S.2.2.2
    have hi := q.jj.1
    have h3 := q.jj.2.2.2
    have V := p.V
    have V9 := V.2.2.2.2.2.2.2
    obtain ⟨DXa, KMa⟩ := Cu
    have ka : kc hx a = 13 := DXa.1
    have kk : kc hm k = 47 := KMa.1
    obtain ⟨m1, m2, m3, m4, m5, m6⟩ := q.mt0
    have L169 : LsX (Fb bx (nx hx)) hx (fr hx 169 a) 109 IvX (d.2.2.2.2.2.2.map Prod.snd) := by
      obtain ⟨_, _, _, _, _, _, _, x, _⟩ := DXa; exact x
    have L373 : LsX (Fb bm (nx hm)) hm (fr hm 373 k) 136 ToM d.2.2.2.2.2.2 := by
      obtain ⟨_, _, _, _, _, _, _, _, _, _, _, _, x, _⟩ := KMa; exact x
    have z1 : lsK hx (fr hx 169 a) := ⟨by rw [L169.2.1]; decide, by rw [L169.2.1]; decide, L169.2.2.1⟩
    have z2 : lsK hm (fr hm 373 k) := ⟨by rw [L373.2.1]; decide, by rw [L373.2.1]; decide, L373.2.2.1⟩
    have y1 : (ls hx (fr hx 169 a)).length = d.2.2.2.2.2.2.length := by rw [L169.2.2.2.len, List.length_map]
    have y2 : (ls hm (fr hm 373 k)).length = d.2.2.2.2.2.2.length := L373.2.2.2.len
    unfold enX enM
    rw [f_X11_enumeration_l9_s]
    unfold b_X11_enumeration_l9
    rw [ldR_e ka, lsSize_e z1, y1, ldR_e kk, lsSize_e z2, y2]
    by_cases s40 : d.2.2.2.2.2.2.length = 40
    · have y40 : nI d.2.2.2.2.2.2.length = (40 : Int32) := by rw [s40]; rfl
      obtain ⟨hx7, e7, s7, f7⟩ := xwrong p
      rw [if_pos y40, if_pos y40, bd_ok, Sum.elim_inl, xt12_e kP p, x10_e p, e7, m46_e q, mtok_e q, ldI_e m1, m2]
      by_cases c : (tk e.TS i).1 = 1
      · obtain ⟨hm7, e8, s8, f8⟩ := mwrong q
        rw [if_pos ((nk _ (c := 1) (C := (1 : Int32)) rfl (by omega) (by omega)).mpr c), bd_ok, Sum.elim_inl, m46_e q, e8]
        exact .inr ((Dq.err C S s7 f7 s8 f8).le (by omega) (by omega))
      · obtain ⟨hm7, e8, s8, f8⟩ := mnameN q c
        unfold f_X48_constants_l12b49
        rw [if_neg (fun z => c ((nk _ (c := 1) (C := (1 : Int32)) rfl (by omega) (by omega)).mp z)), ldR_e kk, m46_e q, e8, bd_ex]
        exact .inr ((Dq.err C S s7 f7 s8 f8).le (by omega) (by omega))
    have n40 : ¬ nI d.2.2.2.2.2.2.length = (40 : Int32) := fun z => s40 ((nk _ (c := 40) (C := (40 : Int32)) rfl (by omega) (by omega)).mp z)
    rw [if_neg n40, if_neg n40]
    unfold f_X48_constants_l12b49
    rw [ldR_e kk, m46_e q]
    -- the place
    obtain ⟨h5, v, e1, s1, iv, kv⟩ := ivOf_e p.1 (n := (tk e.TS i).2.1) (by have := V.2.2.2.2.2.1; omega)
    have p5 := p.new s1
    have Z5 : FxX e (Fb bx (nx hx)) ALLX hx h5 := p.decF (Z := []) s1.fx (by simp) (by simp)
    have n5 : nx hx ≤ nx h5 := s1.2.1
    have D5 := DX_up (G := Fb bx (nx h5)) Z5 DXa (fun l z => ⟨z.1, by have := z.2; omega⟩)
    have E5 := Z5.ob ka (by decide) (by decide)
    obtain ⟨e6, s6, p6, D6, k6, F6, f6⟩ := DXg_169 p5 (s1.2.kk cl (by decide)) D5 (by rw [List.length_map]; omega) (.inr (.inr (.inl kv))) iv
    have S6 := (S.chX s1 (by simp) p5 (p.keep (Z := []) s1.fx (by simp))).chX s6 (fun x hx => (by rw [List.mem_singleton.mp hx]; exact B.1 _ F6.1)) p6 f6
    have a169 : fr h5 169 a = fr hx 169 a := E5.2.2.2.2.1 169
    have kP6 := (S6.cl C).2.1
    have ka6 : kc (lad h5 (fr h5 169 a) v) a = 13 := D6.1
    have k163 : kc (lad h5 (fr h5 169 a) v) (fr (lad h5 (fr h5 169 a) v) 163 a) = 4 := D6.2.1.1
    rw [ldR_e ka, xt12_e kP p, xplc_e p, e1, ← a169, e6, ldR_e ka6, ldR_e k163, xt12_e kP6 p6, x10_e p6]
    have nx6 : nx (lad h5 (fr h5 169 a) v) = nx h5 := rfl
    generalize lad h5 (fr h5 169 a) v = h6 at *
    by_cases c : (tk e.TS i).1 = 1
    · obtain ⟨n, hm1, g1, t1, To, n0, q1, r⟩ := nam p6 q c
      rw [xnameY p6 c, g1]
      have wd := p6.wrd
      -- the twin's list
      have M1 : FxM (Fb bm (nx hm)) ALLM hm hm1 := MS.fxm q C.1 t1 (by decide)
      have nm1 : nx hm ≤ nx hm1 := t1.2.1
      have KM1 := KdM_up (G := Fb bm (nx hm1)) M1 KMa (fun l z => ⟨z.1, by have := z.2; omega⟩)
      obtain ⟨g2, t2, q2, KM2, k2, F2, f2⟩ := KdMg_373 (e := e) q1 (t1.2.kk nl (by decide)) KM1 (by omega) (.inr (.inr (.inr (by rw [To.1]; decide)))) To
      have m373 : fr hm1 373 k = fr hm 373 k := (M1.ob kk (by decide) (by decide)).2.2.2.2.1 373
      have nl1 : (fr hm1 373 k) ∈ Zm ∨ kc hm0 (fr hm1 373 k) = 0 := B.2 _ F2.1
      have hw76 : codes (cStr.getD (76 - 1) "") ∈ SW := by decide
      rw [← m373, g2]
      rcases r with ⟨hx7, e7, s7, p7⟩ | ⟨hx7, P, e7, s7, f7, n7⟩
      · have S7 := (S6.tr C s7 t1 p7 q1).chM t2 (fun x hx => (by rw [List.mem_singleton.mp hx]; exact nl1)) q2
        have Z7 : FxX e (Fb bx (nx h5)) ALLX h6 hx7 := XS.fxx p6 s7 (by decide)
        have n7 : nx h6 ≤ nx hx7 := s7.nx
        have D7 := DXg_wk (G := Fb bx (nx hx7)) (fun l z => ⟨z.1, by have := z.2; omega⟩) (DXg_fx Z7 (fun k hk => by unfold ALLX; simp at hk ⊢; omega) D6)
        have wd7 : StrX hx7 (fr h6 154 e.t) (tk e.TS i).2.2.1 := StrX_fr (p6.fr0 s7.1) wd (by decide)
        have E7 := Z7.ob ka6 (by decide) (by decide)
        have E7k := Z7.ob k163 (by decide) (by decide)
        have a46 : fr hx7 46 (fr hx7 163 a) = fr h6 46 (fr h6 163 a) := by rw [E7.2.2.2.2.1 163]; exact E7k.2.2.2.2.1 46
        obtain ⟨e8, s8, p8, D8, k8, F8, f8⟩ := DXg_46 p7 (S7.cl C).1 D7 (by rw [List.length_map]; omega) (.inr (.inl wd7.1)) wd7
        have S8 := S7.chX s8 (fun x hx => (by rw [List.mem_singleton.mp hx]; exact B.1 _ F8.1)) p8 f8
        have nx8 : nx (lad hx7 (fr hx7 46 (fr hx7 163 a)) (fr h6 154 e.t)) = nx hx7 := rfl
        have nxm2 : nx (lad hm1 (fr hm1 373 k) n) = nx hm1 := rfl
        have kP8 := (S8.cl C).2.1
        rw [e7, ← a46, e8, xt12_e kP8 p8, x10_e p8, f_X48_constants_l12_s]
        unfold b_X48_constants_l12
        rw [m46_e q2, mgone_e q2 (by decide) (by decide) rfl]
        have Cu8 : Cur e bx bm (lad hx7 (fr hx7 46 (fr hx7 163 a)) (fr h6 154 e.t)) (lad hm1 (fr hm1 373 k) n) a k num (addC d [((tk e.TS i).2.2.1, (tk e.TS i).2.1)]) := by
          refine ⟨?_, ?_⟩
          · unfold DX addC
            rw [nx8, List.map_append, List.map_append]; exact D8
          · rw [nxm2]; exact KM2
        have hi1 := q1.jj.1
        generalize lad hx7 (fr hx7 46 (fr hx7 163 a)) (fr h6 154 e.t) = hx8 at *
        generalize hm2' : lad hm1 (fr hm1 373 k) n = hm2 at *
        have hw : codes (cStr.getD (13 - 1) "") ∈ SW := by decide
        by_cases c2 : isX (tk e.TS (i + 1)) (codes (cStr.getD (13 - 1) ""))
        · have c3 := (isX_S p8.V hw).mp c2
          rw [xaccY p8 (by decide) (by decide) rfl c2, if_pos c3, if_neg z10]
          rcases adv p8 q2 (go_of c3) with ⟨hx9, e9, s9, p9, q9, t9⟩ | ⟨hx9, P, e9, s9, f9, n9, t9⟩
          · have S9 := S8.tr C s9 t9 p9 q9
            have hi9 := q9.jj.1
            have Cu9 : Cur e bx bm hx9 (fwd e hm2 (i + 1)) a k num (addC d [((tk e.TS i).2.2.1, (tk e.TS i).2.1)]) := by
              have y1 := s9.nx
              have y2 := t9.2.1
              exact ⟨DX_up (XS.fxx p8 s9 (by decide)) Cu8.1 (fun l z => ⟨z.1, by have := z.2; omega⟩), KdM_up (MS.fxm q2 C.1 t9 (by decide)) Cu8.2 (fun l z => ⟨z.1, by have := z.2; omega⟩)⟩
            rw [e9, if_neg z10]
            have I := ih hx9 (fwd e hm2 (i + 1)) (i + 1 + 1) _ _ _ NX NM (by omega) (by omega) (by omega) (by unfold addC; simp; omega) (by unfold addC; simp; omega) S9 Cu9
            unfold enX enM at I
            rcases I with ⟨hxa, hma, j, ts, x1, x2, x3, x4, x5, x6⟩ | f
            · refine .inl ⟨hxa, hma, j, ((tk e.TS i).2.2.1, (tk e.TS i).2.1) :: ts, x1, x2, by omega, ⟨x4.1.le (by omega), x4.2.1.le (by omega), x4.2.2⟩, ?_, by simp, by have := x6.2; simp only [List.length_cons]; omega⟩
              rw [addC_add] at x5; exact x5
            · exact .inr (f.le (by omega) (by omega))
          · have q9 := (mfwd_s q2 (go_of c3)).2
            have k9 := PN_at n9 q9
            have kk9 : kc (fwd e hm2 (i + 1)) k = 47 := Cu8.2.1
            obtain ⟨mm1, mm2, mm3, _⟩ := q9.mt0
            obtain ⟨hm7, e8, s8, f8⟩ := mnameN q9 (by omega)
            have z3 : lsK (fwd e hm2 (i + 1)) (fr (fwd e hm2 (i + 1)) 373 k) := by
              have L : LsX (Fb bm (nx hm2)) hm2 (fr hm2 373 k) 136 ToM (addC d [((tk e.TS i).2.2.1, (tk e.TS i).2.1)]).2.2.2.2.2.2 := by
                obtain ⟨_, _, _, _, _, _, _, _, _, _, _, _, x, _⟩ := Cu8.2; exact x
              exact ⟨by show 100 ≤ kc hm2 (fr hm2 373 k); rw [L.2.1]; decide, by show kc hm2 (fr hm2 373 k) < 200; rw [L.2.1]; decide, L.2.2.1⟩
            have nm : ∀ {K : Nat → HP → Rs (Unit ⊕ Unit)}, bd (f_X48_name e.Q (fwd e hm2 (i + 1))) K = rex hm7 := fun {K} => e8 _ K
            rw [e9, ldR_e kk9, lsSize_e z3]
            have hr : (if nI (ls (fwd e hm2 (i + 1)) (fr (fwd e hm2 (i + 1)) 373 k)).length = (40 : Int32) then (if kc (fwd e hm2 (i + 1)) e.Q = 46 then bd (f_X48_token e.Q (fwd e hm2 (i + 1))) (fun x5 h6 => ldI 44 349 x5 h6 fun x7 => if x7 = (1 : Int32) then rok (Sum.inl ()) h6 else f_X48_constants_l12b49 e.Q k (f_X48_constants_l12 e.Q k NM) h6) else none) else f_X48_constants_l12b49 e.Q k (f_X48_constants_l12 e.Q k NM) (fwd e hm2 (i + 1))) = rex hm7 := by
              have b49 : f_X48_constants_l12b49 e.Q k (f_X48_constants_l12 e.Q k NM) (fwd e hm2 (i + 1)) = rex hm7 := by
                unfold f_X48_constants_l12b49
                rw [ldR_e kk9, m46_e q9, nm]
              split
              · rw [m46_e q9, mtok_e q9, ldI_e mm1, mm2, if_neg (fun z => by have := (nk _ (c := 1) (C := (1 : Int32)) rfl (by omega) (by omega)).mp z; omega)]
                exact b49
              · exact b49
            rw [hr, bd_ex]
            exact .inr ((Dq.none C S8 s9 f9 t9 (.inl ⟨hm7, rfl, MS.tr s8, k9.2 ▸ f8⟩ : MF e _ P 0 1 _)).le (by omega) (by omega))
        · rw [xaccN p8 (by decide) (by decide) rfl c2, if_neg (fun z => c2 ((isX_S p8.V hw).mpr z)), if_pos y00, if_pos y00, bd_ok, bd_ok, Sum.elim_inr, Sum.elim_inr, xt12_e kP8 p8, x10_e p8, m46_e q2]
          by_cases c4 : isX (tk e.TS (i + 1)) (codes (cStr.getD (76 - 1) ""))
          · have c5 := (isX_S p8.V hw76).mp c4
            rw [xexpY p8 (by decide) (by decide) rfl c4, msgnY q2 (by decide) (by decide) rfl c5]
            rcases adv p8 q2 (go_of c5) with ⟨hx9, e9, s9, p9, q9, t9⟩ | ⟨hx9, P, e9, s9, f9, n9, t9⟩
            · have S9 := S8.tr C s9 t9 p9 q9
              have y1 := s9.nx
              have y2 := t9.2.1
              rw [e9]
              exact .inl ⟨hx9, _, i + 1 + 1, [((tk e.TS i).2.2.1, (tk e.TS i).2.1)], rfl, rfl, by omega, ⟨S9.1.le (by omega), S9.2.1.le (by omega), S9.2.2⟩, ⟨DX_up (XS.fxx p8 s9 (by decide)) Cu8.1 (fun l z => ⟨z.1, by have := z.2; omega⟩), KdM_up (MS.fxm q2 C.1 t9 (by decide)) Cu8.2 (fun l z => ⟨z.1, by have := z.2; omega⟩)⟩, by simp, by simp only [List.length_cons, List.length_nil]; omega⟩
            · rw [e9]
              have := (mfwd_s q2 (go_of c5)).2.jj.1
              exact .inr ((Dq.none C S8 s9 f9 t9 (MF.ok n9 ())).le (by omega) (by omega))
          · obtain ⟨hx9, e9, s9, f9⟩ := xexpN p8 (by decide) (by decide) rfl c4
            obtain ⟨hm9, ea, sa, fa⟩ := msgnN q2 (by decide) (by decide) rfl (fun z => c4 ((isX_S p8.V hw76).mpr z))
            rw [e9, ea]
            exact .inr ((Dq.err C S8 s9 f9 sa fa).le (by omega) (by omega))
      · have N7 : (tk e.TS (i + 1)).1 = 9 ∧ (tk e.TS (i + 1)).2.1 = P := PN_at n7 q1
        obtain ⟨hm9, ea, sa, fa⟩ := msgnN q2 (s := 76) (by decide) (by decide) rfl (fun z => by have := z.1; omega)
        rw [e7, bd_ex, f_X48_constants_l12_s]
        unfold b_X48_constants_l12
        rw [m46_e q2, mgone_e q2 (by decide) (by decide) rfl, if_neg (fun z => by have := z.1; omega), if_pos y00, bd_ok, Sum.elim_inr, m46_e q2, ea]
        have hi1 := q1.jj.1
        exact .inr ((Dq.far C S6 s7 f7 t1 t2 (fun x hx => (by rw [List.mem_singleton.mp hx]; exact nl1)) (.inl ⟨hm9, rfl, MS.tr sa, N7.2 ▸ fa⟩ : MF e _ P 0 1 _)).le (by omega) (by omega))
    · obtain ⟨hx7, e7, s7, f7⟩ := xnameN p6 c
      obtain ⟨hm7, e8, s8, f8⟩ := mnameN q c
      rw [e7, e8, bd_ex, bd_ex]
      exact .inr ((Dq.err C S6 s7 f7 s8 f8).le (by omega) (by omega))
