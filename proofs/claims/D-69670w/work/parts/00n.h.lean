/-! PHASE B settle 27: the twin: a kind's arrays made -/
set_option maxRecDepth 100000
variable {F K : List Nat} {c : Nat} {h h' h0 : HP} {mx : Nat → Nat} {ds : List DC} {W : Nat → Prop} {H tr L q : Nat} {AR : AT}
theorem sx156 : Sx [] [156] := by constructor <;> decide
theorem arrayMade_e (x : MK W h H tr L mx ds AR) (hq : q < 10 + ds.length + AR.length) :
    ∃ h' mx', f_X4_arrayMade L (nI q) h = rok (kni (mkN ds.length AR q)) h' ∧ Ef [] [156] 17 h h' ∧ MK W h' H tr L mx' ds (mkA ds.length AR q) ∧ ∀ j, j < 10 + ds.length + AR.length → mx' j = mx j := by
  have ⟨x1, x2, x3, x4, ⟨x5, x5'⟩, x6, x7, x8⟩ := x
  have w := x1.1
  have N4 := x3.1
  have k4 := (x5 q hq).1
  unfold f_X4_arrayMade
  rw [MarrayOf x hq]
  unfold mkN mkA lkN
  cases g : aix AR q with
  | some i =>
    have hi := (aix_some g).1
    rw [show kni (Option.map (10 + ds.length + ·) (some i)) = nI (10 + ds.length + i) from rfl, if_neg (nI_pos (n := 10 + ds.length + i) (by omega))]
    exact ⟨h, mx, rfl, (Ef.refl w _ _).le (by omega), x, fun _ _ => rfl⟩
  | none =>
    have d8 := okA_dep x3 hq
    rw [show kni (Option.map (10 + ds.length + ·) none) = -1 from rfl, if_pos (by decide), x.get hq, cast_e k4 (by simp), ldI_e k4, x.n368 hq, lt3_n, lsSize_e x.k, x.len]
    have stay : ∀ {A : Rs Int32}, A = rok (-1) h → (dep ds.length AR q = 8 ∨ 10 + ds.length + AR.length = 400) → ∃ h' mx', A = rok (kni (if dep ds.length AR q = 8 ∨ 10 + ds.length + AR.length = 400 then none else some (10 + ds.length + AR.length))) h' ∧ Ef [] [156] 17 h h' ∧ MK W h' H tr L mx' ds (if dep ds.length AR q = 8 ∨ 10 + ds.length + AR.length = 400 then AR else AR ++ [(q, dep ds.length AR q + 1)]) ∧ (∀ j, j < 10 + ds.length + AR.length → mx' j = mx j) := fun {A} hA hc => by
      rw [if_pos hc, if_pos hc]
      exact ⟨h, mx, hA, (Ef.refl w _ _).le (by omega), x, fun _ _ => rfl⟩
    by_cases c4 : 10 + ds.length + AR.length = 400
    · rw [if_pos ((nk _ (c := 400) (C := (400 : Int32)) rfl (by omega) (by omega)).mpr c4)]
      exact stay rfl (.inr c4)
    rw [if_neg (fun z => c4 ((nk _ (c := 400) (C := (400 : Int32)) rfl (by omega) (by omega)).mp z))]
    by_cases c8 : dep ds.length AR q = 8
    · rw [if_neg (show ¬ nI (dep ds.length AR q + 1) ≤ (8 : Int32) from sz_no (n := dep ds.length AR q + 1) (i := 8) (by omega) (by omega))]
      exact stay rfl (.inl c8)
    rw [if_pos (show nI (dep ds.length AR q + 1) ≤ (8 : Int32) from sz_le (n := dep ds.length AR q + 1) (i := 8) (by omega) (by omega))]
    have hn : ¬ (dep ds.length AR q = 8 ∨ 10 + ds.length + AR.length = 400) := fun z => z.elim c8 c4
    rw [if_neg hn, if_neg hn]
    have hnew := w.new
    have kL0 : kc h L = 156 := x2.2.2.1
    have lL : (ls h L).length = 10 + ds.length + AR.length := x.len
    have kL2 : lsK (nO h 47 18) L := by
      have : kc (nO h 47 18) L = 156 := kc_nO_o w kL0 (by decide)
      exact ⟨by rw [this]; decide, by rw [this]; decide, x2.2.2.2.1⟩
    obtain ⟨h1, e1, s1, n1, c0, c1, c2, c3, c4', c5, c6, f367, f370, f371, f372, f373, f374, f376, f362, z363, z364, z368, z369, z375, z377, z378, z379, a1, b1, a2, b2, a3, b3, a4, b4, a5, b5, a6, b6⟩ := mk_kdm w (v := nI (10 + ds.length + AR.length))
    have u1 : Ef [] [] 7 h h1 := s1.ef (by simp)
    have u1' : Ef [] [156] 7 h h1 := u1.wk (fun _ z => z) (fun _ z => by simp at z) (Nat.le_refl _)
    have u2 := u1'.sI (f := 367) (v := nI q) c0 (by decide) (.inl hnew)
    have u3 := u2.sI (f := 368) (v := nI (dep ds.length AR q + 1)) (p := nx h) (show kc (sI h1 367 (nx h) (nI q)) (nx h) = 47 from c0) (by decide) (.inl hnew)
    have kL3 : kc (sI (sI h1 367 (nx h) (nI q)) 368 (nx h) (nI (dep ds.length AR q + 1))) L = 156 := u3.kk kL0 (by decide)
    have ls3 : ls (sI (sI h1 367 (nx h) (nI q)) 368 (nx h) (nI (dep ds.length AR q + 1))) L = (List.range (10 + (ds.length + AR.length))).map mx := by
      have : ls h1 L = ls h L := u1.gl kL0 (by decide) (by simp)
      show ls h1 L = _
      rw [this, x2.2.2.2.2.1, List.append_nil]
    have cp3 : cp (sI (sI h1 367 (nx h) (nI q)) 368 (nx h) (nI (dep ds.length AR q + 1))) L ≠ RAW := by
      have : cp h1 L = cp h L := u1.gc kL0 (by decide) (by simp)
      show cp h1 L ≠ _
      rw [this]; exact x2.2.2.2.1
    have KL : lsK (sI (sI h1 367 (nx h) (nI q)) 368 (nx h) (nI (dep ds.length AR q + 1))) L := ⟨by rw [kL3]; decide, by rw [kL3]; decide, cp3⟩
    have len3 : (ls (sI (sI h1 367 (nx h) (nI q)) 368 (nx h) (nI (dep ds.length AR q + 1))) L).length ≤ 400 := by rw [ls3, List.length_map, List.length_range]; omega
    have U : Ef [] [156] (7 + 10) h (lad (sI (sI h1 367 (nx h) (nI q)) 368 (nx h) (nI (dep ds.length AR q + 1))) L (nx h)) := u3.lad kL3 (by decide) (by decide) (.inr (by simp)) (by omega)
    generalize hh4 : lad (sI (sI h1 367 (nx h) (nI q)) 368 (nx h) (nI (dep ds.length AR q + 1))) L (nx h) = h4 at U
    have kc4 : ∀ p, kc h4 p = kc h1 p := fun p => by rw [← hh4]; rfl
    have fr4 : ∀ f p, fr h4 f p = fr h1 f p := fun f p => by rw [← hh4]; rfl
    have fi4 : ∀ f p, f ≠ 367 → f ≠ 368 → fi h4 f p = fi h1 f p := fun f p h1 h2 => by
      rw [← hh4]
      show fi (sI (sI _ 367 (nx h) (nI q)) 368 (nx h) (nI (dep ds.length AR q + 1))) f p = _
      rw [fi_sI, if_neg (fun z => h2 z.1), fi_sI, if_neg (fun z => h1 z.1)]
    have f7 : fi h4 367 (nx h) = nI q := by
      rw [← hh4]
      show fi (sI (sI _ 367 (nx h) (nI q)) 368 (nx h) (nI (dep ds.length AR q + 1))) 367 (nx h) = _
      rw [fi_sI, if_neg (fun z => absurd z.1 (by decide)), fi_sI, if_pos ⟨rfl, rfl⟩]
    have f8 : fi h4 368 (nx h) = nI (dep ds.length AR q + 1) := by
      rw [← hh4]
      show fi (sI (sI _ 367 (nx h) (nI q)) 368 (nx h) (nI (dep ds.length AR q + 1))) 368 (nx h) = _
      rw [fi_sI, if_pos ⟨rfl, rfl⟩]
    have ls4 : ∀ p, p ≠ L → ls h4 p = ls h1 p ∧ cp h4 p = cp h1 p := fun p hp => by
      rw [← hh4]
      unfold lad
      rw [ls_sLc, if_neg hp, cp_sLc, if_neg hp]
      exact ⟨rfl, rfl⟩
    have kL1 : kc h1 L = 156 := kL3
    have nl : ∀ p k, kc h1 p = k → k ≠ 156 → p ≠ L := fun p k y1 y2 y3 => y2 (by rw [← y1, y3]; exact kL1)
    have lL4 : ls h4 L = (List.range (10 + (ds.length + AR.length))).map mx ++ [nx h] := by rw [← hh4, lad_ls, ls3]
    have cL4 : cp h4 L ≠ RAW := by rw [← hh4]; exact (lad_K KL (by omega)).2.2
    have lo : ∀ j, j < 10 + ds.length + AR.length → mx j = ud mx (10 + ds.length + AR.length) (nx h) j := fun j hj => (ud_o (by omega)).symm
    have m1 : (AR ++ [(q, dep ds.length AR q + 1)]).length = AR.length + 1 := by rw [List.length_append, List.length_singleton]
    refine ⟨h4, ud mx (10 + ds.length + AR.length) (nx h), ?_, U.le (by omega), ?_, fun j hj => ud_o (by omega)⟩
    · rw [nwO_e, lsSize_e kL2, show (ls (nO h 47 18) L).length = 10 + ds.length + AR.length from lL, if_pos kc_nO_n, e1, stI_e c0, stI_e (show kc (sI h1 367 (nx h) (nI q)) (nx h) = 47 from c0), lsAdd_e KL (.inr (.inr (.inr (by rw [show kc (sI (sI h1 367 (nx h) (nI q)) 368 (nx h) (nI (dep ds.length AR q + 1))) (nx h) = 47 from c0]; decide)))) (by omega), hh4, ldI_e (show kc h4 (nx h) = 47 from (kc4 _).trans c0), fi4 _ _ (by decide) (by decide), f362]
      rfl
    · refine ⟨SM_cg (fun k hk => lo k (by omega)) (SM_ef U sx156 x1), ?_, ?_, ?_, ⟨?_, ?_⟩, ?_, ?_, LB_ef U x1.2.1.1 (by simp) (by decide) x8⟩
      · refine ⟨U.kk x2.1 (by decide), (U.gr x2.1 (by decide) (by simp)).trans x2.2.1, (kc4 _).trans kL1, cL4, ?_, by simp, by simp⟩
        rw [lL4, m1, List.append_nil, show 10 + (ds.length + (AR.length + 1)) = (10 + (ds.length + AR.length)) + 1 by omega, List.range_succ, List.map_append]
        congr 1
        · exact List.map_congr_left fun y hy => lo y (by have := List.mem_range.mp hy; omega)
        · show [nx h] = [ud mx (10 + ds.length + AR.length) (nx h) (10 + (ds.length + AR.length))]
          rw [show 10 + (ds.length + AR.length) = 10 + ds.length + AR.length by omega, ud_s]
      · have := mkA_ok x3 hq
        unfold mkA at this
        rw [g] at this
        have t : okA ds.length (if dep ds.length AR q = 8 ∨ 10 + ds.length + AR.length = 400 then AR else AR ++ [(q, dep ds.length AR q + 1)]) := this
        rw [if_neg hn] at t
        exact t
      · intro i hi
        rw [m1] at hi
        by_cases z : i < AR.length
        · have A := ArM_ef U sx156 x4 i z
          rw [ud_o (show 10 + ds.length + i ≠ 10 + ds.length + AR.length by omega), gT_l z]
          exact A
        · have : i = AR.length := by omega
          subst this
          rw [ud_s, gT_e]
          have g3 : fr h4 372 (nx h) = nx h + 3 := (fr4 _ _).trans f372
          obtain ⟨l1, l2⟩ := ls4 (nx h + 3) (nl _ 137 c3 (by decide))
          exact ⟨(kc4 _).trans c0, (fi4 _ _ (by decide) (by decide)).trans f362, (fi4 _ _ (by decide) (by decide)).trans z363, f7, f8, by rw [g3, kc4]; exact c3, by rw [g3, l1]; exact b3, by rw [g3, l2]; exact a3⟩
      · intro j hj
        rw [m1] at hj
        by_cases z : j = 10 + ds.length + AR.length
        · rw [z, ud_s]
          exact ⟨(kc4 _).trans c0, by rw [fr4, f376, kc4]; exact c6⟩
        · rw [ud_o z]
          exact KKm_ef U sx156 x5 j (by omega)
      · intro i j hi hj y
        rw [m1] at hi hj
        have old : ∀ j, j < 10 + ds.length + AR.length → fr h4 376 (mx j) ≠ fr h4 376 (nx h) := fun j hj z => by
          rw [fr4 376 (nx h), f376, U.gr (x5 j hj).1 (by decide) (by simp)] at z
          have a := (x5 j hj).2
          rw [z, (w.2.1 (nx h + 6) (Nat.le_add_right _ _)).1] at a
          exact absurd a (by decide)
        by_cases zi : i = 10 + ds.length + AR.length <;> by_cases zj : j = 10 + ds.length + AR.length
        · omega
        · rw [zi, ud_s, ud_o zj] at y
          exact absurd y.symm (old j (by omega))
        · rw [zj, ud_s, ud_o zi] at y
          exact absurd y (old i (by omega))
        · rw [ud_o zi, ud_o zj, U.gr (x5 i (by omega)).1 (by decide) (by simp), U.gr (x5 j (by omega)).1 (by decide) (by simp)] at y
          exact x5' i j (by omega) (by omega) y
      · intro j hj
        rw [m1] at hj
        have pn : paF ds ds.length (10 + ds.length + AR.length) = none := paF_no (by omega)
        by_cases z : j = 10 + ds.length + AR.length
        · rw [z, ud_s, fr4, z375, pn]; rfl
        · rw [ud_o z, U.gr (x5 j (by omega)).1 (by decide) (by simp), x6 j (by omega)]
          cases g2 : paF ds ds.length j with
          | none => rfl
          | some p =>
            have : p < 10 + ds.length := by
              unfold paF at g2
              split at g2
              · exact par_lt g2
              · cases g2
            exact lo p (by omega)
      · intro j hj
        rw [m1] at hj
        have fn : faF ds ds.length (10 + ds.length + AR.length) = [] := faF_no (by omega)
        by_cases z : j = 10 + ds.length + AR.length
        · obtain ⟨l1, l2⟩ := ls4 (nx h + 6) (nl _ 134 c6 (by decide))
          rw [z, ud_s, fr4, f376, l1, l2]
          refine ⟨b6.trans ?_, a6⟩
          show [] = (faF ds ds.length (10 + ds.length + AR.length)).map _
          rw [fn]; rfl
        · rw [ud_o z]
          obtain ⟨a, b⟩ := LE_ef4 U (by simp) (by decide) x5 x7 j (by omega)
          refine ⟨a.trans (List.map_congr_left fun y hy => lo y ?_), b⟩
          unfold faF at hy
          split at hy
          · have := fcs_lt _ hy; omega
          · simp at hy
