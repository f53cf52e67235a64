/-! PHASE B settle 35: the component: a kind's members -/
set_option maxRecDepth 100000
variable {F K : List Nat} {c : Nat} {h h' h0 : HP} {e : EE} {kx ax : Nat → Nat} {ds : List DC} {C DL kl q s j k p a b i r : Nat} {AR : AT} {D : List (List Nat)} {nm : List Nat} {d : DC} {m : Mb} {T : Ty} {ps : List Vr} {t : Mt} {g : Nat → Nat}
/-- a member, told plainly: a wrong one's place -/
def mbb (ds : List DC) (AR : AT) (k i : Nat) : Option Nat :=
  if res ds AR ((mem (dc ds k)).getD i mb0).1.1 = none then some ((mem (dc ds k)).getD i mb0).1.1.2.1
  else match ((mem (dc ds k)).getD i mb0).2 with
  | none => if kno ds ((mem (dc ds k)).getD i mb0).1.2.1 ≠ none ∨ ((mem (dc ds k)).getD i mb0).1.2.1 ∈ nms (fdp ds (10 + k)) ∨ ((mem (dc ds k)).getD i mb0).1.2.1 ∈ nms (ownL ((mem (dc ds k)).take i)) ∨ 40 ≤ (fdp ds (10 + k)).length + (ownL ((mem (dc ds k)).take i)).length then some ((mem (dc ds k)).getD i mb0).1.2.2 else none
  | some t => mtb ds AR k i ((mem (dc ds k)).getD i mb0).1 t
/-- constants: each once -/
abbrev con (d : DC) : List Td := d.2.2.2.2.2.2
def cob (ds : List DC) (k i : Nat) : Option Nat := if ((con (dc ds k)).getD i ([], 0)).1 ∈ ((con (dc ds k)).take i).map Prod.fst then some ((con (dc ds k)).getD i ([], 0)).2 else none
def bad4 (ds : List DC) (AR : AT) (k : Nat) : Option Nat := thn (frs (mbb ds AR k) (mem (dc ds k)).length) (frs (cob ds k) (con (dc ds k)).length)
theorem l125_e {b0 : Bool} {v2 : Int32} (S : SX e h C DL kx ax ds) (hk : k < ds.length) (hi : i ≤ (mem (dc ds k)).length) (k15 : kc h a = 15) (hs : StrX h (fr h 175 a) nm) :
    f_X11_members_l125 e.P (ax k) v2 (nI i) a NN (if b0 = true then 1 else 0) (0 : Int32) h = rok (if b0 = true ∧ nm ∉ nms (ownL ((mem (dc ds k)).take i)) then 1 else 0) h := by
  have d := S.dd hk
  have m401 := S.m401 hk
  exact loop_SN (σ := Int32 × Int32 × HP) (n := i) (G := fun N s' => f_X11_members_l125 e.P (ax k) v2 (nI i) a N s'.1 s'.2.1 s'.2.2) (by omega)
    (fun j s' => s'.2.1 = nI j ∧ s'.1 = (if b0 = true ∧ nm ∉ nms (ownL ((mem (dc ds k)).take j)) then 1 else 0) ∧ s'.2.2 = h)
    (fun R => R = rok (if b0 = true ∧ nm ∉ nms (ownL ((mem (dc ds k)).take i)) then 1 else 0) h)
    (fun N j s' hj I next => by
      obtain ⟨s1, s2, s3⟩ := s'
      obtain ⟨e1, e2, e3⟩ := I
      have e1 : s2 = nI j := e1
      have e2 : s1 = (if b0 = true ∧ nm ∉ nms (ownL ((mem (dc ds k)).take j)) then 1 else 0) := e2
      subst e1 e2
      have e3 : s3 = h := e3
      dsimp only
      rw [e3, f_X11_members_l125_s]
      unfold b_X11_members_l125 f_X11_members_l125b184 f_X11_members_l125b180 f_X11_members_l125b185
      have hj' : j < (mem (dc ds k)).length := by omega
      have mb := d.mb hj'
      have own := ownL_s hj'
      have hi2 : j < (ls h (fr h 168 (ax k))).length := by rw [d.len168]; exact hj'
      have hb2 : (ls h (fr h 168 (ax k))).length < 2 ^ 31 := by rw [d.len168]; omega
      rw [if_neg (sz_no hj (by omega))]
      by_cases z : b0 = true ∧ nm ∉ nms (ownL ((mem (dc ds k)).take j))
      · rw [if_pos z, if_neg z10, ldR_e d.1, lg_e d.k168 hi2 hb2, cast_e mb.1 (by simp), ldR_e mb.1]
        cases gm : ((mem (dc ds k)).getD j mb0).2 with
        | none =>
          rw [gm, if_neg (by decide)] at own
          have st := mb.2.2.1
          rw [if_pos (mb.f177.mpr gm), ldR_e d.1, lg_e d.k168 hi2 hb2, cast_e mb.1 (by simp), ldR_e mb.1, ldR_e k15, txEq_e ⟨st.1, hs.1⟩, st.2, hs.2]
          by_cases y : ((mem (dc ds k)).getD j mb0).1.2.1 = nm
          · rw [if_pos y, if_neg z10, lt3_n]
            refine next (0, nI (j + 1), h) ⟨rfl, ?_, rfl⟩
            show (0 : Int32) = _
            rw [if_neg (fun w => w.2 (by rw [own]; exact nms_m (List.mem_append.mpr (.inr (List.mem_singleton.mpr rfl))) y))]
          · rw [if_neg y, if_pos y00, lt3_n]
            refine next (1, nI (j + 1), h) ⟨rfl, ?_, rfl⟩
            show (1 : Int32) = _
            have zz : nm ∉ nms (ownL ((mem (dc ds k)).take (j + 1))) := fun w => by
              rw [own] at w
              rcases List.mem_append.mp (by rw [← List.map_append]; exact w) with w1 | w1
              · exact z.2 w1
              · exact y (List.mem_singleton.mp w1).symm
            rw [if_pos ⟨z.1, zz⟩]
        | some t =>
          rw [gm, if_pos (show (some t).isSome = true from rfl), List.append_nil] at own
          rw [if_neg (fun y => by rw [mb.f177.mp y] at gm; cases gm), lt3_n]
          refine next (1, nI (j + 1), h) ⟨rfl, ?_, rfl⟩
          show (1 : Int32) = _
          rw [own, if_pos z]
      · rw [if_neg z, if_pos y00, lt3_n]
        refine next (0, nI (j + 1), h) ⟨rfl, ?_, rfl⟩
        show (0 : Int32) = _
        rw [if_neg (fun w => z ⟨w.1, fun y => w.2 (by rw [own]; unfold nms; rw [List.map_append]; exact List.mem_append.mpr (.inl y))⟩)])
    (fun N s' I => by
      obtain ⟨s1, s2, s3⟩ := s'
      obtain ⟨e1, e2, e3⟩ := I
      have e1 : s2 = nI i := e1
      have e2 : s1 = (if b0 = true ∧ nm ∉ nms (ownL ((mem (dc ds k)).take i)) then 1 else 0) := e2
      subst e1 e2
      have e3 : s3 = h := e3
      dsimp only
      rw [e3, f_X11_members_l125_s]
      unfold b_X11_members_l125
      rw [if_pos (sz_le (Nat.le_refl _) (by omega))]) (i := 0) (s := ((if b0 = true then 1 else 0), (0 : Int32), h)) (Nat.zero_le _) ⟨rfl, by simp [ownL], rfl⟩
/-- what the component knows while members are told -/
def XM (e : EE) (h : HP) (C DL kl : Nat) (kx ax : Nat → Nat) (ds : List DC) (AR : AT) (D : List (List Nat)) (g : Nat → Nat) : Prop := XK e h C DL kl kx ax ds AR D ∧ TyK e h kx ds AR ∧ DjM h ax ds ∧ MmX h kx ax ds AR g
/-- how the loop over a kind's members ends -/
def O4 (e : EE) (c : Nat) (h0 : HP) (C DL kl : Nat) (kx ax : Nat → Nat) (ds : List DC) (AR : AT) (D : List (List Nat)) (g : Nat → Nat) (k : Nat) (R : Rs (Nat ⊕ Nat ⊕ Unit)) : Prop := match frs (mbb ds AR k) (mem (dc ds k)).length with
  | none => ∃ h', R = rok (Sum.inr (Sum.inr ())) h' ∧ Ef FM KM c h0 h' ∧ XM e h' C DL kl kx ax ds AR D (ud g k (mem (dc ds k)).length)
  | some p => ∃ h', Ef FM KM c h0 h' ∧ ((R = rex h' ∧ WrX e h' p) ∨ (SX e h' C DL kx ax ds ∧ ∃ i, i < (mem (dc ds k)).length ∧ ((R = rok (Sum.inl (bA h' ax k i)) h' ∧ ((mem (dc ds k)).getD i mb0).1.1.2.1 = p) ∨ (R = rok (Sum.inr (Sum.inl (bA h' ax k i))) h' ∧ ((mem (dc ds k)).getD i mb0).1.2.2 = p))))
theorem ud_ud {β : Type} {f : Nat → β} {k : Nat} {v w : β} : ud (ud f k v) k w = ud f k w := funext fun j => by
  unfold ud
  split <;> rfl
theorem ud_same {β : Type} {f : Nat → β} {k : Nat} {v : β} (h : f k = v) : ud f k v = f := funext fun j => by
  unfold ud
  split
  · rename_i z; rw [z, h]
  · rfl
theorem l4_e (o : ok3 ds) (of : okFs ds) (x : XM e h C DL kl kx ax ds AR D g) (hk : k < ds.length) (hg : g k = 0) (u0 : Ef FM KM c h0 h) :
    O4 e (c + 18 * (mem (dc ds k)).length) h0 C DL kl kx ax ds AR D g k (f_X11_members_l4 e.P (ax k) NN (0 : Int32) (0 : Int32) h) := by
  have m401 := x.1.1.m401 hk
  exact loop_SN (σ := Int32 × Int32 × HP) (n := (mem (dc ds k)).length) (G := fun N s' => f_X11_members_l4 e.P (ax k) N s'.1 s'.2.1 s'.2.2) (by omega)
    (fun i s' => s'.2.1 = nI i ∧ s'.1 = nI (ownL ((mem (dc ds k)).take i)).length ∧ Ef FM KM (c + 18 * i) h0 s'.2.2 ∧ XM e s'.2.2 C DL kl kx ax ds AR D (ud g k i) ∧ frs (mbb ds AR k) i = none)
    (O4 e (c + 18 * (mem (dc ds k)).length) h0 C DL kl kx ax ds AR D g k)
    (fun N i s' hi I next => by
      obtain ⟨s1, s2, s3⟩ := s'
      obtain ⟨e1, e2, u1, XX, hn⟩ := I
      have e1 : s2 = nI i := e1
      have e2 : s1 = nI (ownL ((mem (dc ds k)).take i)).length := e2
      have u1 : Ef FM KM (c + 18 * i) h0 s3 := u1
      have XX : XM e s3 C DL kl kx ax ds AR D (ud g k i) := XX
      have hn : frs (mbb ds AR k) i = none := hn
      subst e1 e2
      dsimp only
      obtain ⟨X1, y1, dj1, M1⟩ := XX
      have S := X1.1
      have d := S.dd hk
      have mb := S.mb hk hi
      have own := ownL_s hi
      have hi2 : i < (ls s3 (fr s3 168 (ax k))).length := by rw [d.len168]; exact hi
      have hb2 : (ls s3 (fr s3 168 (ax k))).length < 2 ^ 31 := by rw [d.len168]; omega
      have ol := Nat.le_trans (ownL_le (ms := (mem (dc ds k)).take i)) (show ((mem (dc ds k)).take i).length ≤ 401 by rw [List.length_take]; omega)
      have fdl := fdp_le (j := 10 + k) o
      have U1 : Ef FM KM (c + 18 * (mem (dc ds k)).length) h0 s3 := u1.le (by omega)
      have wr : ∀ {p : Nat}, mbb ds AR k i = some p → ((mem (dc ds k)).getD i mb0).1.2.2 = p → O4 e (c + 18 * (mem (dc ds k)).length) h0 C DL kl kx ax ds AR D g k (rok (Sum.inr (Sum.inl (bA s3 ax k i))) s3) := fun {p} hp hq => by
        unfold O4
        rw [frs_at hn hp hi]
        exact ⟨s3, U1, .inr ⟨S, i, hi, .inr ⟨rfl, hq⟩⟩⟩
      have go : ∀ {s1 : Int32}, mbb ds AR k i = none → s1 = nI (ownL ((mem (dc ds k)).take (i + 1))).length → (mem (dc ds k)).length = (mem (dc ds k)).length → XM e s3 C DL kl kx ax ds AR D (ud g k (i + 1)) → O4 e (c + 18 * (mem (dc ds k)).length) h0 C DL kl kx ax ds AR D g k (f_X11_members_l4b211 e.P (ax k) (f_X11_members_l4 e.P (ax k) N) s1 (nI i) s3) := fun {s1} hp hs _ hX => by
        unfold f_X11_members_l4b211
        rw [lt3_n]
        exact next (s1, nI (i + 1), s3) ⟨rfl, hs, u1.le (by omega), hX, (frs_s hn).trans hp⟩
      rw [f_X11_members_l4_s]
      unfold b_X11_members_l4
      rw [ldR_e d.1, lsSize_e d.k168, d.len168, if_neg (sz_no hi (by omega)), ldR_e d.1, lg_e d.k168 hi2 hb2, show (ls s3 (fr s3 168 (ax k))).getD i 0 = bA s3 ax k i from rfl, cast_e mb.1 (by simp), ldR_e mb.1, ldR_e mb.2.1.1.1, y1.get mb.2.1]
      by_cases z1 : res ds AR ((mem (dc ds k)).getD i mb0).1.1 = none
      · rw [if_pos ((X1.xo (fun k hk => res_lt hk)).mpr z1)]
        have bad : mbb ds AR k i = some ((mem (dc ds k)).getD i mb0).1.1.2.1 := if_pos z1
        unfold O4
        rw [frs_at hn bad hi]
        exact ⟨s3, U1, .inr ⟨S, i, hi, .inl ⟨rfl, rfl⟩⟩⟩
      rw [if_neg (fun z => z1 ((X1.xo (fun k hk => res_lt hk)).mp z)), ldR_e mb.1]
      cases gm : ((mem (dc ds k)).getD i mb0).2 with
      | none =>
        rw [gm, if_neg (by decide)] at own
        have mv : mbb ds AR k i = if kno ds ((mem (dc ds k)).getD i mb0).1.2.1 ≠ none ∨ ((mem (dc ds k)).getD i mb0).1.2.1 ∈ nms (fdp ds (10 + k)) ∨ ((mem (dc ds k)).getD i mb0).1.2.1 ∈ nms (ownL ((mem (dc ds k)).take i)) ∨ 40 ≤ (fdp ds (10 + k)).length + (ownL ((mem (dc ds k)).take i)).length then some ((mem (dc ds k)).getD i mb0).1.2.2 else none := by
          unfold mbb
          rw [if_neg z1, gm]
        have st := mb.2.2.1
        have e120 : ∀ {b0 : Bool} {a2 : Int32}, f_X11_members_l4b120 e.P (ax k) (f_X11_members_l4 e.P (ax k) N) a2 (nI i) (bA s3 ax k i) (if b0 = true then 1 else 0) s3 = (if b0 = true ∧ ((mem (dc ds k)).getD i mb0).1.2.1 ∉ nms (ownL ((mem (dc ds k)).take i)) then (lt3 (a2 + 1) fun x3 => f_X11_members_l4b211 e.P (ax k) (f_X11_members_l4 e.P (ax k) N) x3 (nI i) s3) else rok (Sum.inr (Sum.inl (bA s3 ax k i))) s3) := fun {b0 a2} => by
          unfold f_X11_members_l4b120
          rw [l125_e (b0 := b0) S hk (Nat.le_of_lt hi) mb.1 st, bd_ok]
          by_cases w : b0 = true ∧ ((mem (dc ds k)).getD i mb0).1.2.1 ∉ nms (ownL ((mem (dc ds k)).take i))
          · rw [if_pos w, if_pos w, if_neg z10]
          · rw [if_neg w, if_neg w, if_pos y00]
        have e119 : ∀ {a2 : Int32}, f_X11_members_l4b119 e.P (ax k) (f_X11_members_l4 e.P (ax k) N) a2 (nI i) (bA s3 ax k i) s3 = rok (Sum.inr (Sum.inl (bA s3 ax k i))) s3 := fun {a2} => by
          unfold f_X11_members_l4b119
          have := e120 (b0 := false) (a2 := a2)
          rw [if_neg (by decide), if_neg (fun w => by cases w.1)] at this
          exact this
        have eY : ∀ {a2 : Int32}, f_X11_members_l4b120 e.P (ax k) (f_X11_members_l4 e.P (ax k) N) a2 (nI i) (bA s3 ax k i) 1 s3 = _ := fun {a2} => e120 (b0 := true) (a2 := a2)
        rw [if_pos (mb.f177.mpr gm), ldR_e d.1, d.2.1, ldR_e mb.1, if_pos S.2.1.1, before_e o X1 st (by omega), bd_ok]
        by_cases z2 : ((mem (dc ds k)).getD i mb0).1.2.1 ∈ nms (fdp ds (10 + k))
        · rw [if_pos z2, if_pos (show (-1 : Int32) < 0 by decide), e119]
          exact wr (mv.trans (if_pos (.inr (.inl z2)))) rfl
        rw [if_neg z2, if_neg (nI_pos (n := (fdp ds (10 + k)).length) (by omega)), nI_add]
        by_cases z3 : 40 ≤ (fdp ds (10 + k)).length + (ownL ((mem (dc ds k)).take i)).length
        · rw [if_pos (show (40 : Int32) ≤ nI _ from sz_le (n := 40) z3 (by omega)), e119]
          exact wr (mv.trans (if_pos (.inr (.inr (.inr z3))))) rfl
        rw [if_neg (show ¬ (40 : Int32) ≤ nI _ from sz_no (n := 40) (Nat.lt_of_not_le z3) (by omega)), S.p161, ldR_e mb.1, if_pos X1.2.1.1, X1.named st, bd_ok]
        by_cases z4 : kno ds ((mem (dc ds k)).getD i mb0).1.2.1 = none
        · rw [if_pos ((X1.xo (fun k hk => kno_N k hk)).mpr z4), eY]
          by_cases z5 : ((mem (dc ds k)).getD i mb0).1.2.1 ∈ nms (ownL ((mem (dc ds k)).take i))
          · rw [if_neg (fun w => w.2 z5)]
            exact wr (mv.trans (if_pos (.inr (.inr (.inl z5))))) rfl
          · rw [if_pos ⟨rfl, z5⟩, lt3_n]
            refine go (mv.trans (if_neg (fun w => ?_))) (by rw [own, List.length_append, List.length_singleton]) rfl ⟨X1, y1, dj1, fun k' hk' => ?_⟩
            · rcases w with w | w | w | w
              · exact w z4
              · exact z2 w
              · exact z5 w
              · exact z3 w
            · obtain ⟨⟨q1, q2⟩, q3⟩ := M1 k' hk'
              by_cases zk : k' = k
              · subst zk
                have nm' : isM ds k' i = false := by unfold isM; rw [gm]; rfl
                rw [ud_s] at q1 q3 ⊢
                refine ⟨⟨by rw [mAs_s, nm']; rw [q1]; simp, q2⟩, fun t ht tt ht2 => ?_⟩
                have ne : t ≠ i := fun v => by rw [v, gm] at ht2; cases ht2
                have Q := q3 t ht tt ht2
                by_cases v : t < i
                · rw [if_pos v] at Q; rw [if_pos (by omega)]; exact Q
                · rw [if_neg v] at Q; rw [if_neg (by omega)]; exact Q
              · rw [ud_o zk] at q1 q3 ⊢
                exact ⟨⟨q1, q2⟩, q3⟩
        · rw [if_neg (fun w => z4 ((X1.xo (fun k hk => kno_N k hk)).mp w)), e119]
          exact wr (mv.trans (if_pos (.inl z4))) rfl
      | some t =>
        rw [gm, if_pos (show (some t).isSome = true from rfl), List.append_nil] at own
        have mv : mbb ds AR k i = mtb ds AR k i ((mem (dc ds k)).getD i mb0).1 t := by
          unfold mbb
          rw [if_neg z1, gm]
        have E := method_e X1 y1 of dj1 M1 hk hi gm ud_s u1
        rw [if_neg (fun z => by rw [mb.f177.mp z] at gm; cases gm), if_pos S.2.1.1]
        unfold OX at E
        cases gt : mtb ds AR k i ((mem (dc ds k)).getD i mb0).1 t with
        | none =>
          rw [gt] at E
          obtain ⟨h2, g1, u2, X2, y2, dj2, M2⟩ := E
          rw [g1, bd_ok]
          unfold f_X11_members_l4b211
          rw [lt3_n]
          refine next (_, nI (i + 1), h2) ⟨rfl, ?_, u2.le (by omega), ⟨X2, y2, dj2, by rw [ud_ud] at M2; exact M2⟩, (frs_s hn).trans (mv.trans gt)⟩
          show nI _ = nI _
          rw [own]
        | some p =>
          rw [gt] at E
          obtain ⟨h2, g1, u2, w2⟩ := E
          rw [g1, bd_ex]
          unfold O4
          rw [frs_at hn (mv.trans gt) hi]
          exact ⟨h2, u2.le (by omega), .inl ⟨rfl, w2⟩⟩)
    (fun N s' I => by
      obtain ⟨s1, s2, s3⟩ := s'
      obtain ⟨e1, e2, u1, XX, hn⟩ := I
      have e1 : s2 = nI (mem (dc ds k)).length := e1
      have u1 : Ef FM KM (c + 18 * (mem (dc ds k)).length) h0 s3 := u1
      have XX : XM e s3 C DL kl kx ax ds AR D (ud g k (mem (dc ds k)).length) := XX
      have hn : frs (mbb ds AR k) (mem (dc ds k)).length = none := hn
      subst e1
      dsimp only
      have d := XX.1.1.dd hk
      unfold O4
      rw [f_X11_members_l4_s]
      unfold b_X11_members_l4
      rw [ldR_e d.1, lsSize_e d.k168, d.len168, if_pos (sz_le (Nat.le_refl _) (by omega)), hn]
      exact ⟨s3, rfl, u1, XX⟩) (i := 0) (s := ((0 : Int32), (0 : Int32), h)) (Nat.zero_le _) ⟨rfl, by simp [ownL]; rfl, u0.le (by omega), ⟨x.1, x.2.1, x.2.2.1, by rw [ud_same hg]; exact x.2.2.2⟩, rfl⟩
