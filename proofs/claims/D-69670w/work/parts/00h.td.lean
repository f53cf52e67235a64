/-! PHASE B tokens 13: the twin's cutter is made -/
set_option maxRecDepth 100000
theorem m_cutter {h : HP} {c a : Nat} {B : List Nat} (ok : okB B) (h29 : B.length ≤ 299) (w : WG h) (kcc : kc h c = 43) (b : ByA h a B) :
    ∃ h' p q, f_X44_init c a h = rok () h' ∧ St [] [c] (10 + 34 * (B.length + 1)) h h' ∧ CutM h' c p q B (lexAll B (B.length + 1) 0) 0 ∧ kc h p = 0 ∧ kc h q = 0 := by
  have hl := ok.1
  have c1000 := w.ge kcc (by decide)
  have hp0 : kc h (nx h) = 0 := w.new
  unfold f_X44_init
  rw [if_neg (by omega), nwC_e]
  have s1 : St [] [c] (0 + 1) h (nC h 131 3) := (St.refl w [] [c]).nC (by omega) (by omega)
  have k1 : kc (nC h 131 3) (nx h) = 131 := kc_nC_n
  have p1 : cp (nC h 131 3) (nx h) = RAW := by rw [cp_nC, if_pos rfl]
  rw [lsInit_e ⟨by rw [k1]; decide, by rw [k1]; decide, p1⟩]
  have s2 : St [] [c] (0 + 1 + 0) h (sLc (nC h 131 3) (nx h) [] 0 0 0) := s1.sLc k1 (by decide) (.inl hp0) (by omega) (by omega)
  have kc2 : kc (sLc (nC h 131 3) (nx h) [] 0 0 0) c = 43 := s2.2.kk kcc (by decide)
  have k2 : kc (sLc (nC h 131 3) (nx h) [] 0 0 0) (nx h) = 131 := k1
  have l2 : ls (sLc (nC h 131 3) (nx h) [] 0 0 0) (nx h) = [] := by rw [ls_sLc, if_pos rfl]
  have p2 : cp (sLc (nC h 131 3) (nx h) [] 0 0 0) (nx h) = 0 := by rw [cp_sLc, if_pos rfl]
  generalize hp : nx h = p at *
  generalize sLc (nC h 131 3) p [] 0 0 0 = h2 at *
  rw [stR_e kc2, nwC_e]
  have s3 : St [] [c] (0 + 1 + 0) h (sR h2 347 c p) := s2.sR kc2 (by decide) (.inr (.inr (by simp)))
  have s4 : St [] [c] (0 + 1 + 0 + 1) h (nC (sR h2 347 c p) 130 3) := s3.nC (by omega) (by omega)
  have hq0 : kc h (nx (sR h2 347 c p)) = 0 := s3.new
  have hq02 : kc (sR h2 347 c p) (nx (sR h2 347 c p)) = 0 := s3.1.new
  have k4 : kc (nC (sR h2 347 c p) 130 3) (nx (sR h2 347 c p)) = 130 := kc_nC_n
  have p4 : cp (nC (sR h2 347 c p) 130 3) (nx (sR h2 347 c p)) = RAW := by rw [cp_nC, if_pos rfl]
  have pq : p ≠ nx (sR h2 347 c p) := fun z => by rw [← z] at hq02; have : kc (sR h2 347 c p) p = 131 := k2; omega
  have cq : c ≠ nx (sR h2 347 c p) := fun z => by rw [← z] at hq0; omega
  have cpne : c ≠ p := fun z => by rw [z] at kcc; omega
  generalize hq : nx (sR h2 347 c p) = q at *
  rw [lsInit_e ⟨by rw [k4]; decide, by rw [k4]; decide, p4⟩]
  have s5 : St [] [c] (0 + 1 + 0 + 1 + 0) h (sLc (nC (sR h2 347 c p) 130 3) q [] 0 0 0) := s4.sLc k4 (by decide) (.inl hq0) (by omega) (by omega)
  have kc5 : kc (sLc (nC (sR h2 347 c p) 130 3) q [] 0 0 0) c = 43 := s5.2.kk kcc (by decide)
  have f5 : fr (sLc (nC (sR h2 347 c p) 130 3) q [] 0 0 0) 347 c = p := by show fr (sR h2 347 c p) 347 c = p; rw [fr_sR, if_pos ⟨rfl, rfl⟩]
  have k5p : kc (sLc (nC (sR h2 347 c p) 130 3) q [] 0 0 0) p = 131 := by
    show kc (nC (sR h2 347 c p) 130 3) p = 131
    rw [kc_nC, hq, if_neg pq]; exact k2
  have k5q : kc (sLc (nC (sR h2 347 c p) 130 3) q [] 0 0 0) q = 130 := k4
  have l5p : ls (sLc (nC (sR h2 347 c p) 130 3) q [] 0 0 0) p = [] := by
    rw [ls_sLc, if_neg pq]; exact l2
  have l5q : ls (sLc (nC (sR h2 347 c p) 130 3) q [] 0 0 0) q = [] := by rw [ls_sLc, if_pos rfl]
  have p5p : cp (sLc (nC (sR h2 347 c p) 130 3) q [] 0 0 0) p = 0 := by
    rw [cp_sLc, if_neg pq, cp_nC, hq, if_neg pq]; exact p2
  have p5q : cp (sLc (nC (sR h2 347 c p) 130 3) q [] 0 0 0) q = 0 := by rw [cp_sLc, if_pos rfl]
  generalize sLc (nC (sR h2 347 c p) 130 3) q [] 0 0 0 = h5 at *
  rw [stR_e kc5, stR_e (show kc (sR h5 348 c q) c = 43 from kc5)]
  have s6 : St [] [c] (0 + 1 + 0 + 1 + 0) h (sR h5 348 c q) := s5.sR kc5 (by decide) (.inr (.inr (by simp)))
  have s7 : St [] [c] (0 + 1 + 0 + 1 + 0) h (sR (sR h5 348 c q) 346 c a) := s6.sR kc5 (by decide) (.inr (.inr (by simp)))
  have F7 := s7.fr (S := fun k => decide (200 ≤ k)) (by simp) (by simp [kcc])
  have b7 := ByA_fr F7 b (by
    have := b.1
    unfold tiK at this
    by_cases z : kc h a < 200
    · rw [if_pos z] at this; omega
    · simp; omega)
  have raw : RAW = 1099511627776 := rfl
  have C7 : CutM (sR (sR h5 348 c q) 346 c a) c p q B [] 0 := by
    refine ⟨⟨kc5, ?_⟩, ?_, ?_, k5p, by show cp h5 p ≠ RAW; omega, by show A2 _ (ls h5 p) []; rw [l5p]; exact True.intro, ⟨k5q, by show cp h5 q ≠ RAW; omega, fun x hx => ?_⟩, by show (ls h5 q).length ≤ _; rw [l5q]; simp⟩
    · rw [fr_sR, if_pos ⟨rfl, rfl⟩]; exact b7
    · rw [fr_sR, if_neg (fun z => absurd z.1 (by decide)), fr_sR, if_neg (fun z => absurd z.1 (by decide))]; exact f5
    · rw [fr_sR, if_neg (fun z => absurd z.1 (by decide)), fr_sR, if_pos ⟨rfl, rfl⟩]
    · have : x ∈ ls h5 q := hx
      rw [l5q] at this; simp at this
  obtain ⟨h9, e9, s9, C9⟩ := m_all ok (B.length + 1) 0 _ [] NN (by have := NN_ge (k := 400) (by omega); omega) (by omega) (by omega) s7.1 C7 (by simp; omega)
  rw [show (0 : Int32) = nI 0 from rfl, e9, bd_ok]
  refine ⟨h9, p, q, rfl, (s7.cat s9 (fun _ z => z) (fun x hx => ?_)).le (by omega), by simpa using C9, hp0, hq0⟩
  rcases List.mem_cons.mp hx with z | z
  · rw [z]; exact .inr (.inl hp0)
  · rw [List.mem_singleton.mp z]; exact .inr (.inl hq0)
