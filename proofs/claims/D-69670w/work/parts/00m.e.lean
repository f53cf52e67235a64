/-! PHASE B settle 5: the component: what is above a kind -/
set_option maxRecDepth 100000
variable {F K : List Nat} {c : Nat} {h h' h0 : HP} {e : EE} {kx ax : Nat → Nat} {ds : List DC} {C DL kl : Nat} {as : List Nat} {pa : Nat → Option Nat} {fa : Nat → List Nat} {k : Nat}
theorem rb70 (hk : k < ds.length) (hfa : fa (10 + k) = []) (S : SX e h C DL kx ax ds) (T : TbX h C kl kx ds.length as) (R : RX h kx (10 + ds.length) pa fa) (u : Ef FR [104] c h0 h) :
    match frs (badf ds k) (fcd ds k).length with
    | none => ∃ h', f_X11_relate_b70 e.P (ax k) h = rok () h' ∧ Ef FR [104] (c + 10 * (fcd ds k).length) h0 h' ∧ SX e h' C DL kx ax ds ∧ TbX h' C kl kx ds.length as ∧ RX h' kx (10 + ds.length) pa (ud fa (10 + k) (fcl ds k))
    | some p => ∃ h', f_X11_relate_b70 e.P (ax k) h = rex h' ∧ Ef FR [104] (c + 10 * (fcd ds k).length) h0 h' ∧ WrX e h' p := by
  have L := rl72 hk hfa S T R u
  have n60 := S.2.2.2.1.1
  have nF : (fcd ds k).length ≤ 401 := (S.2.2.2.1.2 k hk).2.2.1.1
  unfold f_X11_relate_b70
  rw [show (0 : Int32) = nI 0 from rfl]
  cases g : frs (badf ds k) (fcd ds k).length with
  | none =>
    rw [g] at L
    obtain ⟨h1, e1, u1, S1, T1, R1⟩ := L
    exact ⟨h1, by rw [e1, bd_ok]; rfl, u1, S1, T1, R1⟩
  | some p =>
    rw [g] at L
    obtain ⟨h1, i, hi, e1, u1, S1, hp⟩ := L
    obtain ⟨h2, e2, u2, w2⟩ := wrX_e (p := p) S1 u1 ⟨by simp, by simp⟩
    obtain ⟨d0, d163, d164, d165, d166, d167, d168, d169⟩ := S1.dd hk
    have kL := d167.k (by decide) (by decide)
    have len : (ls h1 (fr h1 167 (ax k))).length = (fcd ds k).length := by rw [d167.len, List.length_map]
    have el : IvX h1 ((ls h1 (fr h1 167 (ax k))).getD i 0) p := by
      have := d167.2.2.getD (i := i) (d := 0) (e := 0) (by rw [List.length_map]; exact hi)
      rw [gE_map ([], 0) hi, hp] at this
      exact this
    have fin : (ldR 13 167 (ax k) h1 fun x1 => lsGet x1 (nI i) h1 fun x2 => castR [73] x2 h1 (ivGet x2 h1 fun x3 => if kc h1 e.P = 12 then bd (f_X11_wrong e.P x3 h1) (fun x4 h5 => if kc h5 x4 = 69 then (rex h5 : Rs Unit) else none) else none)) = rex h2 := by
      rw [ldR_e d0, lg_e kL (by omega) (by omega), cast_e el.1 (by simp)]
      unfold ivGet
      rw [if_pos el.1, el.2]
      exact e2 _
    refine ⟨h2, ?_, u2, w2⟩
    rcases e1 with e1 | e1
    · rw [e1, bd_ok]; exact fin
    · rw [e1, bd_ok]; exact fin
theorem RX_st {p : Nat} (S : SX e h C DL kx ax ds) (hk : k < 10 + ds.length) (R : RX h kx (10 + ds.length) pa fa) : RX (sR h 40 (kx k) (kx p)) kx (10 + ds.length) (ud pa k (some p)) fa := fun j hj => by
  obtain ⟨q1, q2, q3⟩ := R j hj
  refine ⟨?_, ?_, ?_⟩
  · rw [fr_sR]
    by_cases z : j = k
    · rw [if_pos ⟨rfl, by rw [z]⟩, z, ud_s]; rfl
    · rw [if_neg (fun y => z (S.inj hj hk y.2)), ud_o z]; exact q1
  · rw [fr_sR, if_neg (fun y => absurd y.1 (by decide))]; exact q2
  · rw [fr_sR, if_neg (fun y => absurd y.1 (by decide))]; exact q3
theorem RX_cg {pa' : Nat → Option Nat} {fa' : Nat → List Nat} {m : Nat} (h1 : ∀ j, j < m → pa j = pa' j) (h2 : ∀ j, j < m → fa j = fa' j) (R : RX h kx m pa fa) : RX h kx m pa' fa' := fun j hj => by
  rw [← h1 j hj, ← h2 j hj]; exact R j hj
theorem relate_e (hk : k < ds.length) (hpa : pa (10 + k) = none) (hfa : fa (10 + k) = []) (S : SX e h C DL kx ax ds) (T : TbX h C kl kx ds.length as) (R : RX h kx (10 + ds.length) pa fa) (u : Ef FR [104] c h0 h) :
    match bad2 ds k with
    | none => ∃ h', f_X11_relate e.P (ax k) h = rok () h' ∧ Ef FR [104] (c + 10 * (fcd ds k).length) h0 h' ∧ SX e h' C DL kx ax ds ∧ TbX h' C kl kx ds.length as ∧ RX h' kx (10 + ds.length) (ud pa (10 + k) (par ds k)) (ud fa (10 + k) (fcl ds k))
    | some p => ∃ h', f_X11_relate e.P (ax k) h = rex h' ∧ Ef FR [104] (c + 10 * (fcd ds k).length) h0 h' ∧ WrX e h' p := by
  have n60 := S.2.2.2.1.1
  obtain ⟨d0, d163, d164, d165, d166, d167, d168, d169⟩ := S.dd hk
  -- the faces, with what is known of the parent
  have go : ∀ {h1 : HP}, badp ds k = none → SX e h1 C DL kx ax ds → TbX h1 C kl kx ds.length as → RX h1 kx (10 + ds.length) (ud pa (10 + k) (par ds k)) fa → Ef FR [104] c h0 h1 →
      match bad2 ds k with
      | none => ∃ h', f_X11_relate_b70 e.P (ax k) h1 = rok () h' ∧ Ef FR [104] (c + 10 * (fcd ds k).length) h0 h' ∧ SX e h' C DL kx ax ds ∧ TbX h' C kl kx ds.length as ∧ RX h' kx (10 + ds.length) (ud pa (10 + k) (par ds k)) (ud fa (10 + k) (fcl ds k))
      | some p => ∃ h', f_X11_relate_b70 e.P (ax k) h1 = rex h' ∧ Ef FR [104] (c + 10 * (fcd ds k).length) h0 h' ∧ WrX e h' p := fun {h1} hb S1 T1 R1 u1 => by
    have L := rb70 hk hfa S1 T1 R1 u1
    rw [show bad2 ds k = frs (badf ds k) (fcd ds k).length by unfold bad2; rw [hb]; rfl]
    exact L
  have same : ∀ {h1 : HP}, par ds k = none → RX h1 kx (10 + ds.length) pa fa → RX h1 kx (10 + ds.length) (ud pa (10 + k) (par ds k)) fa := fun {h1} hp R1 => RX_cg (fun j hj => by
    by_cases z : j = 10 + k
    · rw [z, ud_s, hp, hpa]
    · rw [ud_o z]) (fun _ _ => rfl) R1
  unfold f_X11_relate
  rw [ldI_e d0, d165]
  cases hx : (dc ds k).2.2.2.1 with
  | none =>
    rw [if_pos (show oat none < 0 by decide)]
    exact go (by unfold badp; rw [hx]) S T (same (by unfold par exk; rw [hx]) R) u
  | some t =>
    have ht := (S.2.2.2.1.2 k hk).2.1 t hx
    rw [hx] at d164 d165
    have es : StrX h (fr h 164 (ax k)) t.1 := d164
    have wr : ∀ {h1 : HP} {p : Nat}, badp ds k = some p → SX e h1 C DL kx ax ds → Ef FR [104] c h0 h1 → fi h1 165 (ax k) = nI p →
        match bad2 ds k with
        | none => ∃ h', (ldI 13 165 (ax k) h1 fun x6 => if kc h1 e.P = 12 then bd (f_X11_wrong e.P x6 h1) (fun x7 h8 => if kc h8 x7 = 69 then (rex h8 : Rs Unit) else none) else none) = rok () h' ∧ Ef FR [104] (c + 10 * (fcd ds k).length) h0 h' ∧ SX e h' C DL kx ax ds ∧ TbX h' C kl kx ds.length as ∧ RX h' kx (10 + ds.length) (ud pa (10 + k) (par ds k)) (ud fa (10 + k) (fcl ds k))
        | some p => ∃ h', (ldI 13 165 (ax k) h1 fun x6 => if kc h1 e.P = 12 then bd (f_X11_wrong e.P x6 h1) (fun x7 h8 => if kc h8 x7 = 69 then (rex h8 : Rs Unit) else none) else none) = rex h' ∧ Ef FR [104] (c + 10 * (fcd ds k).length) h0 h' ∧ WrX e h' p := fun {h1 p} hb S1 u1 hf => by
      obtain ⟨h2, e2, u2, w2⟩ := wrX_e (p := p) S1 u1 ⟨by simp, by simp⟩
      rw [show bad2 ds k = some p by unfold bad2; rw [hb]; rfl, ldI_e (S1.dd hk).1, hf]
      exact ⟨h2, e2 _, u2.le (by omega), w2⟩
    rw [show oat (some t) = nI t.2 from rfl, if_neg (nI_pos (by omega)), S.p161, ldR_e d0, if_pos S.2.2.2.2.2.2.2, named_e S T es, bd_ok]
    cases g : kno ds t.1 with
    | none =>
      rw [show kxo kx none = 0 from rfl, if_pos rfl]
      exact wr (by unfold badp; rw [hx]; show (match kno ds t.1 with | none => some t.2 | some p => _) = _; rw [g]) S u d165
    | some p =>
      have hp := kno_lt g
      have kp := S.kk hp
      have ex : exk ds k = some p := by unfold exk; rw [hx]; exact g
      have sl := so_lt ds p
      rw [show kxo kx (some p) = kx p from rfl, if_neg (S.k0 hp).2, ldR_e kp.1, kp.2.2.1, show (903 : Nat) = 900 + 3 from rfl, eqS_e (by omega) (by omega)]
      by_cases s3 : so ds p = 3
      · have pk : par ds k = some p := by unfold par; rw [ex]; exact if_pos s3
        unfold f_X11_relate_b52
        have k0 := S.kk (i := 10 + k) (by omega)
        rw [if_pos s3, ldR_e kp.1, kp.2.2.1, show (903 : Nat) = 900 + 3 from rfl, eqS_e (by omega) (by omega), if_pos s3, S.d163 hk, stR_e k0.1]
        have st : Ef FR [104] 0 h (sR h 40 (kx (10 + k)) (kx p)) := (Ef.refl S.1 FR [104]).sR k0.1 (by decide) (.inr (by simp))
        refine go (by unfold badp; rw [hx]; show (match kno ds t.1 with | none => _ | some p => _) = _; rw [g]; exact if_pos (.inl s3)) (SX_ef st sxR S) (TbX_ef st sxR (by decide) T) ?_ (u.trans st)
        rw [pk]
        exact RX_st S (by omega) R
      · rw [if_neg s3, ldR_e kp.1, kp.2.2.1, show (901 : Nat) = 900 + 1 from rfl, eqS_e (by omega) (by omega)]
        have pk : par ds k = none := by unfold par; rw [ex]; exact if_neg s3
        by_cases s1 : so ds p = 1
        · unfold f_X11_relate_b52
          rw [if_pos s1, ldR_e kp.1, kp.2.2.1, show (903 : Nat) = 900 + 3 from rfl, eqS_e (by omega) (by omega), if_neg s3]
          exact go (by unfold badp; rw [hx]; show (match kno ds t.1 with | none => _ | some p => _) = _; rw [g]; exact if_pos (.inr s1)) S T (same pk R) u
        · rw [if_neg s1]
          exact wr (by unfold badp; rw [hx]; show (match kno ds t.1 with | none => _ | some p => _) = _; rw [g]; exact if_neg (fun z => z.elim s3 s1)) S u d165
