/-! PHASE B settle 31: the component: the parents' fields -/
set_option maxRecDepth 100000
variable {F K : List Nat} {c : Nat} {h h' h0 : HP} {e : EE} {kx ax : Nat → Nat} {ds : List DC} {C DL kl q s j k p a i : Nat} {AR : AT} {D : List (List Nat)} {nm : List Nat} {d : DC} {m : Mb}
theorem nI_sub10 (k : Nat) : nI (10 + k) - (9 : Int32) - (1 : Int32) = nI k := by
  have h1 : nI (k + 1 + 9) - (9 : Int32) = nI (k + 1) := by rw [← nI_add (k + 1) 9]; exact Int32.add_sub_cancel _ _
  have h2 : nI (k + 1) - (1 : Int32) = nI k := by rw [← nI_add k 1]; exact Int32.add_sub_cancel _ _
  rw [show 10 + k = k + 1 + 9 by omega, h1, h2]
theorem of_e (S : SX e h C DL kx ax ds) (hk : k < ds.length) : f_X11_of e.P (kx (10 + k)) h = rok (ax k) h := by
  unfold f_X11_of
  have k0 := S.kk (i := 10 + k) (by omega)
  rw [S.p162, ldI_e k0.1, k0.2.1, nI_sub10, S.dg hk, S.c13 hk]
theorem MbS.f177 (x : MbS e h a q m) : (fr h 177 a = 0) ↔ m.2 = none := by
  obtain ⟨_, _, _, _, _, _, _, _, y, _⟩ := x
  unfold MoS at y
  cases g : m.2 with
  | none => rw [g] at y; exact ⟨fun _ => rfl, fun _ => y⟩
  | some t => rw [g] at y; exact ⟨fun z => absurd z y.1, fun z => (by cases z)⟩
theorem gDm {α : Type} {l : List α} {i : Nat} (d : α) (h : i < l.length) : l.getD i d ∈ l := by
  rw [List.getD_eq_getElem?_getD, List.getElem?_eq_getElem h]; exact List.getElem_mem h
theorem DdX.k168 (x : DdX e h a q d) : lsK h (fr h 168 a) := x.2.2.2.2.2.2.1.k (by decide) (by decide)
theorem DdX.len168 (x : DdX e h a q d) : (ls h (fr h 168 a)).length = (mem d).length := x.2.2.2.2.2.2.1.len
theorem DdX.mb (x : DdX e h a q d) (hi : i < (mem d).length) : MbS e h ((ls h (fr h 168 a)).getD i 0) q ((mem d).getD i mb0) := x.2.2.2.2.2.2.1.2.2.getD hi
theorem ownL_m {ms : List Mb} (hi : i < ms.length) (g : (ms.getD i mb0).2 = none) : (ms.getD i mb0).1 ∈ ownL ms := List.mem_filterMap.mpr ⟨ms.getD i mb0, gDm mb0 hi, by rw [g]; rfl⟩
abbrev nms (l : List Vr) : List (List Nat) := l.map fun v => v.2.1
theorem nms_m {l : List Vr} {v : Vr} (h : v ∈ l) (e : v.2.1 = nm) : nm ∈ nms l := List.mem_map.mpr ⟨v, h, e⟩
theorem SX.m401 (S : SX e h C DL kx ax ds) (hk : k < ds.length) : (mem (dc ds k)).length ≤ 401 := (S.2.2.2.1.2 k hk).2.2.1.2.1
theorem l27_e (S : SX e h C DL kx ax ds) (hk : k < ds.length) (hs : StrX h s nm) (ha : a ≤ 100000) :
    f_X11_before_l27 e.P s p (fr h 168 (ax k)) NN (nI a) (nI 0) h = rok (if nm ∈ nms (ow ds (10 + k)) then Sum.inl () else Sum.inr (nI (a + (ow ds (10 + k)).length))) h := by
  have d := S.dd hk
  have m401 := S.m401 hk
  rw [ow_hi]
  exact loop_SN (σ := Int32 × Int32 × HP) (n := (mem (dc ds k)).length) (G := fun N s' => f_X11_before_l27 e.P s p (fr h 168 (ax k)) N s'.1 s'.2.1 s'.2.2) (by omega)
    (fun i s' => s'.2.1 = nI i ∧ s'.1 = nI (a + (ownL ((mem (dc ds k)).take i)).length) ∧ s'.2.2 = h ∧ nm ∉ nms (ownL ((mem (dc ds k)).take i)))
    (fun r => r = rok (if nm ∈ nms (ownL (mem (dc ds k))) then Sum.inl () else Sum.inr (nI (a + (ownL (mem (dc ds k))).length))) h)
    (fun N i s' hi I next => by
      obtain ⟨s1, s2, s3⟩ := s'
      obtain ⟨e1, e2, e3, hn⟩ := I
      have e1 : s2 = nI i := e1
      have e2 : s1 = nI (a + (ownL ((mem (dc ds k)).take i)).length) := e2
      subst e1 e2
      have e3 : s3 = h := e3
      dsimp only
      rw [e3, f_X11_before_l27_s]
      unfold b_X11_before_l27 f_X11_before_l27b81
      have mb := d.mb hi
      have st := mb.2.2.1
      have hi2 : i < (ls h (fr h 168 (ax k))).length := by rw [d.len168]; exact hi
      have hb2 : (ls h (fr h 168 (ax k))).length < 2 ^ 31 := by rw [d.len168]; omega
      rw [lsSize_e d.k168, d.len168, if_neg (sz_no hi (by omega)), lg_e d.k168 hi2 hb2, cast_e mb.1 (by simp), ldR_e mb.1]
      have own := ownL_s hi
      cases g : ((mem (dc ds k)).getD i mb0).2 with
      | none =>
        rw [g, if_neg (by decide)] at own
        rw [if_pos (mb.f177.mpr g), lg_e d.k168 hi2 hb2, cast_e mb.1 (by simp), ldR_e mb.1, txEq_e ⟨st.1, hs.1⟩, st.2, hs.2]
        by_cases z : ((mem (dc ds k)).getD i mb0).1.2.1 = nm
        · rw [if_pos z, if_neg z10, if_pos (nms_m (ownL_m hi g) z)]
        · rw [if_neg z, if_pos y00, lt3_n, lt3_n]
          refine next (nI (a + (ownL ((mem (dc ds k)).take i)).length + 1), nI (i + 1), h) ⟨rfl, ?_, rfl, ?_⟩
          · show nI _ = nI _
            rw [own, List.length_append, List.length_singleton, Nat.add_assoc]
          · rw [own]
            intro y
            rcases List.mem_append.mp (by rw [← List.map_append]; exact y) with y1 | y1
            · exact hn y1
            · exact z (List.mem_singleton.mp y1).symm
      | some t =>
        rw [g, if_pos (show (some t).isSome = true from rfl), List.append_nil] at own
        rw [if_neg (fun y => by rw [mb.f177.mp y] at g; cases g), lt3_n]
        refine next (nI (a + (ownL ((mem (dc ds k)).take i)).length), nI (i + 1), h) ⟨rfl, ?_, rfl, ?_⟩
        · show nI _ = nI _
          rw [own]
        · rw [own]; exact hn)
    (fun N s' I => by
      obtain ⟨s1, s2, s3⟩ := s'
      obtain ⟨e1, e2, e3, hn⟩ := I
      have e1 : s2 = nI (mem (dc ds k)).length := e1
      have e2 : s1 = nI (a + (ownL ((mem (dc ds k)).take (mem (dc ds k)).length)).length) := e2
      subst e1 e2
      have e3 : s3 = h := e3
      dsimp only
      rw [List.take_length] at hn
      rw [e3, f_X11_before_l27_s, List.take_length]
      unfold b_X11_before_l27
      rw [lsSize_e d.k168, d.len168, if_pos (sz_le (Nat.le_refl _) (by omega)), if_neg hn]) (i := 0) (s := (nI a, nI 0, h)) (Nat.zero_le _) ⟨rfl, rfl, rfl, by simp [ownL]⟩
theorem ow_le (o : okDs ds) : (ow ds p).length ≤ 401 := by
  unfold ow
  split
  · exact Nat.zero_le _
  · by_cases c : p - 10 < ds.length
    · exact Nat.le_trans ownL_le (o.2 _ c).2.2.1.2.1
    · rw [show dc ds (p - 10) = d0 by unfold dc; rw [List.getD_eq_getElem?_getD, List.getElem?_eq_none (by omega)]; rfl]
      exact Nat.zero_le _
theorem l8_e (o : ok3 ds) (x : XK e h C DL kl kx ax ds AR D) (hs : StrX h s nm) : ∀ j, ∀ N a, (up ds j).length + 1 ≤ N → a + (up ds j).length * 401 ≤ 100000 →
    f_X11_before_l8 e.P s N (nI a) (kxo kx (paF ds ds.length j)) h = rok (if nm ∈ nms (fdp ds j) then Sum.inl () else Sum.inr (nI (a + (fdp ds j).length))) h := by
  have S := x.1
  refine up_ind o (fun j g N a hN ha => ?_) (fun j p g ih N a hN ha => ?_)
  · obtain ⟨N, rfl⟩ : ∃ M, N = M + 1 := ⟨N - 1, by omega⟩
    rw [f_X11_before_l8_s, g, fdp_none g]
    unfold b_X11_before_l8
    rw [if_pos (show kxo kx none = 0 from rfl), if_neg (by simp)]; rfl
  · obtain ⟨N, rfl⟩ : ∃ M, N = M + 1 := ⟨N - 1, by omega⟩
    obtain ⟨_, hp, hp10, _⟩ := pa_un g
    obtain ⟨t, rfl⟩ : ∃ t, p = 10 + t := ⟨p - 10, by omega⟩
    have ht : t < ds.length := by omega
    rw [up_some o g, List.length_cons] at hN ha
    have w := ow_le (p := 10 + t) o.1.1
    rw [f_X11_before_l8_s, g, fdp_some o g]
    unfold b_X11_before_l8
    have dd := S.dd ht
    have pe := x.2.2.2.2.2.2.1 (10 + t) (by omega)
    rw [show kxo kx (some (10 + t)) = kx (10 + t) from rfl, if_neg (S.k0 hp).2, if_pos S.2.1.1, of_e S ht, bd_ok, ldR_e dd.1, show (0 : Int32) = nI 0 from rfl, l27_e S ht hs (by omega), bd_ok]
    unfold fds
    rw [show nms (fdp ds (10 + t) ++ ow ds (10 + t)) = nms (fdp ds (10 + t)) ++ nms (ow ds (10 + t)) from List.map_append]
    by_cases c : nm ∈ nms (ow ds (10 + t))
    · rw [if_pos c, if_pos (List.mem_append.mpr (.inr c))]; rfl
    · rw [if_neg c, Sum.elim_inr, ldR_e (S.k0 hp).1, pe, ih N _ (by omega) (by omega), List.length_append]
      by_cases c2 : nm ∈ nms (fdp ds (10 + t))
      · rw [if_pos c2, if_pos (List.mem_append.mpr (.inl c2))]
      · rw [if_neg c2, if_neg (fun y => (List.mem_append.mp y).elim c2 c), Nat.add_assoc, Nat.add_comm (ow ds (10 + t)).length]
theorem before_e (o : ok3 ds) (x : XK e h C DL kl kx ax ds AR D) (hs : StrX h s nm) (hj : j < 10 + ds.length) :
    f_X11_before e.P (kx j) s h = rok (if nm ∈ nms (fdp ds j) then -1 else nI (fdp ds j).length) h := by
  have r1 := up_rk o j
  have r2 := rnk_le (ds := ds) (j := j)
  have n60 := o.1.1.1
  have pe := x.2.2.2.2.2.2.1 j (by omega)
  unfold f_X11_before
  rw [ldR_e (x.1.k0 hj).1, pe, show (0 : Int32) = nI 0 from rfl, l8_e o x hs j NN 0 (Nat.le_trans (by omega) (NN_ge (k := 100) (by omega))) (by omega), bd_ok]
  by_cases c : nm ∈ nms (fdp ds j)
  · rw [if_pos c, if_pos c]; rfl
  · rw [if_neg c, if_neg c, Sum.elim_inr, Nat.zero_add]
theorem fdp_le (o : ok3 ds) : (fdp ds j).length ≤ 70 * 401 := by
  rw [fdp_len]
  have : ∀ l : List Nat, (l.map fun p => (ow ds p).length).sum ≤ l.length * 401 := fun l => by
    induction l with
    | nil => exact Nat.zero_le _
    | cons a l ih =>
      have := ow_le (p := a) o.1.1
      rw [List.map_cons, List.sum_cons, List.length_cons]
      omega
  have r1 := up_rk o j
  have r2 := rnk_le (ds := ds) (j := j)
  have n60 := o.1.1.1
  exact Nat.le_trans (this _) (Nat.mul_le_mul_right _ (by omega))
