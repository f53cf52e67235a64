/-! PHASE B settle 4: the component: names; above -/
set_option maxRecDepth 100000
variable {F K : List Nat} {c : Nat} {h h' h0 : HP} {e : EE} {kx ax : Nat → Nat} {ds : List DC} {C DL kl : Nat} {as : List Nat}
theorem SX.p161 {β : Type} {f : Nat → Rs β} (S : SX e h C DL kx ax ds) : ldR 12 161 e.P h f = f C := by rw [ldR_e S.2.1.1, S.2.1.2.1]
theorem SX.p162 {β : Type} {f : Nat → Rs β} (S : SX e h C DL kx ax ds) : ldR 12 162 e.P h f = f DL := by rw [ldR_e S.2.1.1, S.2.1.2.2.1]
theorem SX.ldk (S : SX e h C DL kx ax ds) : lsK h DL := ⟨by rw [S.2.2.1.1]; decide, by rw [S.2.2.1.1]; decide, S.2.2.1.2.1⟩
theorem SX.dlen (S : SX e h C DL kx ax ds) : (ls h DL).length = ds.length := by rw [S.2.2.1.2.2, List.length_map, List.length_range]
theorem SX.dsz {β : Type} {f : Int32 → Rs β} (S : SX e h C DL kx ax ds) : lsSize DL h f = f (nI ds.length) := by rw [lsSize_e S.ldk, S.dlen]
theorem SX.dg {β : Type} {f : Nat → Rs β} {i : Nat} (S : SX e h C DL kx ax ds) (hi : i < ds.length) : lsGet DL (nI i) h f = f (ax i) := by
  have := S.2.2.2.1.1
  rw [lg_e S.ldk (by rw [S.dlen]; exact hi) (by rw [S.dlen]; omega), S.2.2.1.2.2, gr_map0 hi]
theorem SX.dd {i : Nat} (S : SX e h C DL kx ax ds) (hi : i < ds.length) : DdX e h (ax i) (kx (10 + i)) (dc ds i) := S.2.2.2.2.2.1 i hi
theorem SX.c13 {β : Type} {t : Rs β} {i : Nat} (S : SX e h C DL kx ax ds) (hi : i < ds.length) : castR [13] (ax i) h t = t := cast_e (S.dd hi).1 (by simp)
theorem SX.d163 {β : Type} {f : Nat → Rs β} {i : Nat} (S : SX e h C DL kx ax ds) (hi : i < ds.length) : ldR 13 163 (ax i) h f = f (kx (10 + i)) := by rw [ldR_e (S.dd hi).1, (S.dd hi).2.1]
theorem SX.kk {i : Nat} (S : SX e h C DL kx ax ds) (hi : i < 10 + ds.length) : KdK ds h (kx i) i := S.2.2.2.2.1 i hi
theorem kat_hi (k : Nat) : kat ds (10 + k) = (dc ds k).2.1.2 := by unfold kat; rw [if_neg (by omega), show 10 + k - 10 = k by omega]
theorem so_hi (k : Nat) : so ds (10 + k) = srt (dc ds k).1 := by unfold so; rw [if_neg (by omega), if_neg (by omega), if_neg (by omega), show 10 + k - 10 = k by omega]
theorem KdK.n48 {a k : Nat} (x : KdK ds h a k) : fi h 48 a = nI (kat ds k) := by
  obtain ⟨_, _, _, _, _, _, _, _, _, _, _, _, _, y⟩ := x
  exact y
theorem KdK.l41 {a k : Nat} (x : KdK ds h a k) : kc h (fr h 41 a) = 104 := by
  obtain ⟨_, _, _, _, _, _, _, _, y, _⟩ := x
  exact y
/-- names: each once -/
theorem s1_l (S : SX e h C DL kx ax ds) (T : TbX h C kl kx ds.length as) :
    match frs (bad1 ds) ds.length with
    | none => f_X11_settle_l2 e.P NN (nI 0) h = rok (Sum.inr ()) h
    | some p => ∃ k, k < ds.length ∧ f_X11_settle_l2 e.P NN (nI 0) h = rok (Sum.inl (kx (10 + k))) h ∧ (dc ds k).2.1.2 = p := by
  have n60 := S.2.2.2.1.1
  refine loop_NN (n := ds.length) (F := f_X11_settle_l2 e.P) (by omega) (fun i h' => h' = h ∧ frs (bad1 ds) i = none) (fun r => match frs (bad1 ds) ds.length with | none => r = rok (Sum.inr ()) h | some p => ∃ k, k < ds.length ∧ r = rok (Sum.inl (kx (10 + k))) h ∧ (dc ds k).2.1.2 = p) ?_ ?_ (Nat.zero_le _) ⟨rfl, rfl⟩
  · rintro N i h' hi ⟨rfl, hn⟩ next
    rw [f_X11_settle_l2_s]
    unfold b_X11_settle_l2
    have k0 := S.kk (i := 10 + i) (by omega)
    rw [S.p162, S.dsz, if_neg (sz_no hi (by omega)), S.p162, S.dg hi, S.c13 hi, S.d163 hi, S.p161, ldR_e k0.1, if_pos S.2.2.2.2.2.2.2, named_e S T k0.2.2.2.1, bd_ok, NT_hi hi, eqR_r k0.1 (by decide)]
    by_cases g : kno ds (dc ds i).2.1.1 = some (10 + i)
    · rw [if_pos (by rw [g]; rfl), lt3_n]
      exact next h' ⟨rfl, (frs_s hn).trans (by unfold bad1; rw [if_pos g])⟩
    · have ne : ¬ kxo kx (kno ds (dc ds i).2.1.1) = kx (10 + i) := fun z => by
        cases g2 : kno ds (dc ds i).2.1.1 with
        | none => rw [g2] at z; exact (S.k0 (k := 10 + i) (by omega)).2 z.symm
        | some j =>
          rw [g2] at z
          exact g (by rw [g2, S.inj (kno_lt g2) (by omega) z])
      rw [if_neg ne, frs_at hn (p := (dc ds i).2.1.2) (by unfold bad1; rw [if_neg g]) hi]
      exact ⟨i, hi, rfl, rfl⟩
  · rintro N h' ⟨rfl, hn⟩
    rw [f_X11_settle_l2_s]
    unfold b_X11_settle_l2
    rw [S.p162, S.dsz, if_pos (sz_le (Nat.le_refl _) (by omega)), hn]
/-- parents and faces as they are so far -/
def RX (h : HP) (kx : Nat → Nat) (m : Nat) (pa : Nat → Option Nat) (fa : Nat → List Nat) : Prop := ∀ j, j < m → fr h 40 (kx j) = kxo kx (pa j) ∧ ls h (fr h 41 (kx j)) = (fa j).map kx ∧ cp h (fr h 41 (kx j)) ≠ RAW
def ud {β : Type} (f : Nat → β) (k : Nat) (v : β) : Nat → β := fun j => if j = k then v else f j
theorem ud_s {β : Type} {f : Nat → β} {k : Nat} {v : β} : ud f k v k = v := if_pos rfl
theorem ud_o {β : Type} {f : Nat → β} {k j : Nat} {v : β} (hj : j ≠ k) : ud f k v j = f j := if_neg hj
theorem RX_ef {pa : Nat → Option Nat} {fa : Nat → List Nat} (S : SX e h C DL kx ax ds) (u : Ef F K c h h') (h1 : 40 ∉ F) (h2 : 41 ∉ F) (h3 : 104 ∉ K) (R : RX h kx (10 + ds.length) pa fa) : RX h' kx (10 + ds.length) pa fa := fun j hj => by
  obtain ⟨r1, r2, r3⟩ := R j hj
  have k0 := S.kk hj
  have g := u.gr k0.1 (by decide) h2
  refine ⟨(u.gr k0.1 (by decide) h1).trans r1, ?_, ?_⟩
  · rw [g, u.gl k0.l41 (by decide) h3]; exact r2
  · rw [g, u.gc k0.l41 (by decide) h3]; exact r3
/-- whether a face is there already -/
theorem rl138 {k p : Nat} {v2 : Int32} {l : List Nat} (S : SX e h C DL kx ax ds) (hk : k < ds.length) (h1 : ls h (fr h 41 (kx (10 + k))) = l.map kx) (h2 : cp h (fr h 41 (kx (10 + k))) ≠ RAW) (hb : ∀ x ∈ l, x < 10 + ds.length) (hp : p < 10 + ds.length) (hl : l.length ≤ 401) :
    f_X11_relate_l138 e.P (ax k) v2 (kx p) NN (nI 0) h = rok (if p ∈ l then Sum.inl () else Sum.inr ()) h := by
  have n60 := S.2.2.2.1.1
  have k0 := S.kk (i := 10 + k) (by omega)
  have kL : lsK h (fr h 41 (kx (10 + k))) := ⟨by rw [k0.l41]; decide, by rw [k0.l41]; decide, h2⟩
  have len : (ls h (fr h 41 (kx (10 + k)))).length = l.length := by rw [h1, List.length_map]
  refine loop_NN (n := l.length) (F := f_X11_relate_l138 e.P (ax k) v2 (kx p)) (by omega) (fun i h' => h' = h ∧ ∀ j, j < i → l.getD j 0 ≠ p) (fun r => r = rok (if p ∈ l then Sum.inl () else Sum.inr ()) h) ?_ ?_ (Nat.zero_le _) ⟨rfl, fun j hj => by omega⟩
  · rintro N i h' hi ⟨rfl, hj⟩ next
    rw [f_X11_relate_l138_s]
    unfold b_X11_relate_l138
    have hm : l.getD i 0 ∈ l := by rw [gE_in hi]; exact List.getElem_mem _
    rw [S.d163 hk, ldR_e k0.1, lsSize_e kL, len, if_neg (sz_no hi (by omega)), S.d163 hk, ldR_e k0.1, lg_e kL (by omega) (by omega), h1, gE_map 0 hi, eqR_e (S.kk (hb _ hm)).1 (by decide)]
    by_cases g : l.getD i 0 = p
    · rw [if_pos (by rw [g]), if_pos (by rw [← g]; exact hm)]
    · rw [if_neg (fun z => g (S.inj (hb _ hm) hp z)), lt3_n]
      exact next h' ⟨rfl, fun j h3 => by
        by_cases z : j = i
        · rw [z]; exact g
        · exact hj j (by omega)⟩
  · rintro N h' ⟨rfl, hj⟩
    rw [f_X11_relate_l138_s]
    unfold b_X11_relate_l138
    rw [S.d163 hk, ldR_e k0.1, lsSize_e kL, len, if_pos (sz_le (Nat.le_refl _) (by omega)), if_neg (fun z => by
      obtain ⟨j, h3, h4⟩ := List.mem_iff_getElem.mp z
      exact hj j h3 (by rw [gE_in h3]; exact h4))]
theorem fcs_s (k i : Nat) : fcs ds k (i + 1) = fcs ds k i ++ [fcn ds k i] := by unfold fcs; rw [List.range_succ, List.map_append]; rfl
theorem fcs_lt {k i : Nat} : ∀ x ∈ fcs ds k i, x < 10 + ds.length := fun x hx => by
  unfold fcs at hx
  obtain ⟨j, _, rfl⟩ := List.mem_map.mp hx
  unfold fcn
  cases g : kno ds ((fcd ds k).getD j ([], 0)).1 with
  | none => show 0 < _; omega
  | some p => exact kno_lt g
theorem fcs_len (k i : Nat) : (fcs ds k i).length = i := by unfold fcs; rw [List.length_map, List.length_range]
abbrev FR : List Nat := [28, 29, 40]
theorem sxR : Sx FR [104] := by constructor <;> decide
/-- the faces -/
theorem rl72 {k : Nat} {pa : Nat → Option Nat} {fa : Nat → List Nat} (hk : k < ds.length) (hfa : fa (10 + k) = []) (S : SX e h C DL kx ax ds) (T : TbX h C kl kx ds.length as) (R : RX h kx (10 + ds.length) pa fa) (u : Ef FR [104] c h0 h) :
    match frs (badf ds k) (fcd ds k).length with
    | none => ∃ h', f_X11_relate_l72 e.P (ax k) NN (nI 0) h = rok (Sum.inr (Sum.inr ())) h' ∧ Ef FR [104] (c + 10 * (fcd ds k).length) h0 h' ∧ SX e h' C DL kx ax ds ∧ TbX h' C kl kx ds.length as ∧ RX h' kx (10 + ds.length) pa (ud fa (10 + k) (fcl ds k))
    | some p => ∃ h' i, i < (fcd ds k).length ∧ (f_X11_relate_l72 e.P (ax k) NN (nI 0) h = rok (Sum.inl (nI i)) h' ∨ f_X11_relate_l72 e.P (ax k) NN (nI 0) h = rok (Sum.inr (Sum.inl (nI i))) h') ∧ Ef FR [104] (c + 10 * (fcd ds k).length) h0 h' ∧ SX e h' C DL kx ax ds ∧ ((fcd ds k).getD i ([], 0)).2 = p := by
  have n60 := S.2.2.2.1.1
  have nF : (fcd ds k).length ≤ 401 := (S.2.2.2.1.2 k hk).2.2.1.1
  refine loop_NN (n := (fcd ds k).length) (F := f_X11_relate_l72 e.P (ax k)) (by omega) (fun i h' => Ef FR [104] (c + 10 * i) h0 h' ∧ SX e h' C DL kx ax ds ∧ TbX h' C kl kx ds.length as ∧ RX h' kx (10 + ds.length) pa (ud fa (10 + k) (fcs ds k i)) ∧ frs (badf ds k) i = none)
    (fun r => match frs (badf ds k) (fcd ds k).length with
    | none => ∃ h', r = rok (Sum.inr (Sum.inr ())) h' ∧ Ef FR [104] (c + 10 * (fcd ds k).length) h0 h' ∧ SX e h' C DL kx ax ds ∧ TbX h' C kl kx ds.length as ∧ RX h' kx (10 + ds.length) pa (ud fa (10 + k) (fcl ds k))
    | some p => ∃ h' i, i < (fcd ds k).length ∧ (r = rok (Sum.inl (nI i)) h' ∨ r = rok (Sum.inr (Sum.inl (nI i))) h') ∧ Ef FR [104] (c + 10 * (fcd ds k).length) h0 h' ∧ SX e h' C DL kx ax ds ∧ ((fcd ds k).getD i ([], 0)).2 = p) ?_ ?_ (Nat.zero_le _) ⟨u.le (by omega), S, T, fun j hj => ?_, rfl⟩
  · rintro N i h1 hi ⟨u1, S1, T1, R1, hn⟩ next
    rw [f_X11_relate_l72_s]
    unfold b_X11_relate_l72
    obtain ⟨d0, d163, d164, d165, d166, d167, d168, d169⟩ := S1.dd hk
    have kL := d166.k (by decide) (by decide)
    have len : (ls h1 (fr h1 166 (ax k))).length = (fcd ds k).length := by rw [d166.len, List.length_map]
    have el : StrX h1 ((ls h1 (fr h1 166 (ax k))).getD i 0) ((fcd ds k).getD i ([], 0)).1 := by
      have := d166.2.2.getD (i := i) (d := 0) (e := []) (by rw [List.length_map]; exact hi)
      rwa [gE_map ([], 0) hi] at this
    rw [ldR_e d0, lsSize_e kL, len, if_neg (sz_no hi (by omega)), S1.p161, ldR_e d0, lg_e kL (by omega) (by omega), cast_e el.1 (by simp), if_pos S1.2.2.2.2.2.2.2, named_e S1 T1 el, bd_ok]
    have k0 := S1.kk (i := 10 + k) (by omega)
    cases g : kno ds ((fcd ds k).getD i ([], 0)).1 with
    | none =>
      rw [show kxo kx none = 0 from rfl, if_pos rfl, frs_at hn (p := ((fcd ds k).getD i ([], 0)).2) (by unfold badf; rw [g]) hi]
      exact ⟨h1, i, hi, .inl rfl, u1.le (by omega), S1, rfl⟩
    | some p =>
      have hp := kno_lt g
      have kp := S1.kk hp
      rw [show kxo kx (some p) = kx p from rfl, if_neg (S1.k0 hp).2, ldR_e kp.1, kp.2.2.1, show (904 : Nat) = 900 + 4 from rfl, eqS_e (by have := so_lt ds p; omega) (by omega)]
      by_cases s4 : so ds p = 4
      · obtain ⟨r1, r2, r3⟩ := R1 (10 + k) (by omega)
        rw [ud_s] at r2
        rw [if_pos s4, show (0 : Int32) = nI 0 from rfl, rl138 S1 hk r2 r3 fcs_lt hp (by rw [fcs_len]; omega), bd_ok]
        by_cases m : p ∈ fcs ds k i
        · rw [if_pos m, Sum.elim_inl, frs_at hn (p := ((fcd ds k).getD i ([], 0)).2) (by unfold badf; rw [g]; exact if_pos (.inr m)) hi]
          exact ⟨h1, i, hi, .inr rfl, u1.le (by omega), S1, rfl⟩
        · have l41 := k0.l41
          have KL : lsK h1 (fr h1 41 (kx (10 + k))) := ⟨by rw [l41]; decide, by rw [l41]; decide, r3⟩
          have len2 : (ls h1 (fr h1 41 (kx (10 + k)))).length = i := by rw [r2, List.length_map, fcs_len]
          rw [if_neg m, Sum.elim_inr, S1.d163 hk, ldR_e k0.1, lsAdd_e KL (.inr (.inr (.inr (by rw [kp.1]; decide)))) (by omega), lt3_n]
          have st : Ef FR [104] (0 + 10) h1 (lad h1 (fr h1 41 (kx (10 + k))) (kx p)) := (Ef.refl S1.1 FR [104]).lad l41 (by decide) (by decide) (.inr (by simp)) (by omega)
          refine next _ ⟨(u1.trans st).le (by omega), SX_ef st sxR S1, TbX_ef st sxR (by decide) T1, fun j hj => ?_, (frs_s hn).trans (by unfold badf; rw [g]; exact if_neg (fun z => z.elim (fun y => y s4) m))⟩
          obtain ⟨q1, q2, q3⟩ := R1 j hj
          refine ⟨q1, ?_, ?_⟩
          · show ls (lad h1 (fr h1 41 (kx (10 + k))) (kx p)) (fr h1 41 (kx j)) = _
            by_cases z : j = 10 + k
            · rw [z, lad_ls, r2, ud_s, fcs_s, List.map_append, show fcn ds k i = p by unfold fcn; rw [g]; rfl]; rfl
            · unfold lad
              rw [ls_sLc, if_neg (fun y => z (S1.2.2.2.2.2.2.1 41 (by simp) j (10 + k) hj (by omega) y)), q2, ud_o z, ud_o z]
          · show cp (lad h1 (fr h1 41 (kx (10 + k))) (kx p)) (fr h1 41 (kx j)) ≠ RAW
            by_cases z : j = 10 + k
            · rw [z]; exact (lad_K KL (by omega)).2.2
            · unfold lad
              rw [cp_sLc, if_neg (fun y => z (S1.2.2.2.2.2.2.1 41 (by simp) j (10 + k) hj (by omega) y))]; exact q3
      · rw [if_neg s4, frs_at hn (p := ((fcd ds k).getD i ([], 0)).2) (by unfold badf; rw [g]; exact if_pos (.inl s4)) hi]
        exact ⟨h1, i, hi, .inl rfl, u1.le (by omega), S1, rfl⟩
  · rintro N h1 ⟨u1, S1, T1, R1, hn⟩
    rw [f_X11_relate_l72_s]
    unfold b_X11_relate_l72
    obtain ⟨d0, d163, d164, d165, d166, d167, d168, d169⟩ := S1.dd hk
    have kL := d166.k (by decide) (by decide)
    have len : (ls h1 (fr h1 166 (ax k))).length = (fcd ds k).length := by rw [d166.len, List.length_map]
    rw [ldR_e d0, lsSize_e kL, len, if_pos (sz_le (Nat.le_refl _) (by omega)), hn]
    exact ⟨h1, rfl, u1, S1, T1, R1⟩
  · obtain ⟨q1, q2, q3⟩ := R j hj
    refine ⟨q1, ?_, q3⟩
    by_cases z : j = 10 + k
    · rw [z, ud_s]; rw [z] at q2; rw [q2, hfa]; rfl
    · rw [ud_o z]; exact q2
