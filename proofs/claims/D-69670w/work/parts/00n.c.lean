/-! PHASE B settle 22: texts are put together; a kind of arrays is made -/
set_option maxRecDepth 100000
variable {F K : List Nat} {a c p : Nat} {h h' h0 : HP}
/-- a builder with a text -/
def SBo (h : HP) (p : Nat) (l : List Nat) (M : Nat) : Prop := kc h p = 72 ∧ tx h p = l ∧ cp h p ≤ M
theorem sbNew (u : Ef F K a h0 h) : ∃ h', (∀ {β : Type} {f : Nat → HP → Rs β}, (nwC 72 4 h fun p2 h3 => sbInit p2 h3 fun h4 => f p2 h4) = f (nx h) h') ∧ Ef F K (a + 2) h0 h' ∧ SBo h' (nx h) [] 16 ∧ kc h (nx h) = 0 ∧ kc h0 (nx h) = 0 ∧ Ef [] [72] 2 h h' := by
  have w := u.1
  have hnew : kc h (nx h) = 0 := w.new
  have n0 := u.zero (Nat.le_refl _)
  have sA : Ef F K (a + 1) h0 (nC h 72 4) := u.nC (k := 72) (n := 4) (b := 1) (by omega) (by omega)
  have k1 : kc (nC h 72 4) (nx h) = 72 := kc_nC_n
  have c1 : cp (nC h 72 4) (nx h) = RAW := by rw [cp_nC, if_pos rfl]
  have sB : Ef F K (a + 1 + 1) h0 (sTc (nC h 72 4) (nx h) [] 16 1 16) := sA.sTc k1 (by decide) (.inl n0) (by omega) (by omega)
  refine ⟨_, fun {β f} => ?_, sB.le (by omega), ⟨k1, by rw [tx_sTc, if_pos rfl], by rw [cp_sTc, if_pos rfl]; exact Nat.le_refl _⟩, hnew, n0, ((((Ef.refl w [] [72]).nC (k := 72) (n := 4) (b := 1) (by omega) (by omega)).sTc k1 (by decide) (.inl hnew) (by omega) (by omega) : Ef [] [72] (0 + 1 + 1) h _)).le (by omega)⟩
  have i1 : ∀ {β : Type} {K : HP → Rs β}, sbInit (nx h) (nC h 72 4) K = K (sTc (nC h 72 4) (nx h) [] 16 1 16) := if_pos ⟨k1, c1⟩
  rw [nwC_e, i1]
theorem sbS {r M b : Nat} {l s : List Nat} (u : Ef F K a h0 h) (n : kc h0 p = 0) (B : SBo h p l M) (hM : M ≤ 100000) (hl : l.length ≤ 100000) (hr : StrX h r s) (hs : s.length ≤ 100000) (hb : 2 * M + 2 + (l.length + s.length) ≤ 97 * b) :
    ∃ h', (∀ {β : Type} {f : HP → Rs β}, sbApS p r h f = f h') ∧ Ef F K (a + b) h0 h' ∧ SBo h' p (l ++ s) (2 * M + 2 + (l.length + s.length)) ∧ Ef [] [72] b h h' := by
  obtain ⟨kC, tC, cC⟩ := B
  have raw : RAW = 1099511627776 := rfl
  obtain ⟨m, c1, s1, y1, y2, y3, y4⟩ := sbPut_e (h := h) (p := p) (l := tx h r)
  rw [tC, hr.2] at y2
  refine ⟨sTc h p (tx h p ++ tx h r) m c1 s1, fun {β f} => ?_, u.sTc kC (by decide) (.inl n) (by omega) (by omega), ⟨kC, by rw [tx_sTc, if_pos rfl, tC, hr.2], by rw [cp_sTc, if_pos rfl]; omega⟩, ((Ef.refl u.1 [] [72]).sTc kC (by decide) (.inr (by simp)) (by omega) (by omega) : Ef [] [72] (0 + b) h _).le (by omega)⟩
  rw [sbApS_e ⟨kC, by omega⟩ hr.1 (by rw [tC]; omega) (by omega) (by rw [hr.2]; omega), y1]
theorem sbFin {M b : Nat} {l : List Nat} (u : Ef F K a h0 h) (B : SBo h p l M) (hM : M ≤ 1000000) (hb : 2 ≤ b) (hb2 : 4 + l.length ≤ 97 * b) :
    (∀ {β : Type} {f : Nat → HP → Rs β}, sbStr p h f = f (nx h) (nS h l)) ∧ Ef F K (a + b) h0 (nS h l) ∧ StrX (nS h l) (nx h) l ∧ kc h0 (nx h) = 0 ∧ Ef [] [72] b h (nS h l) := by
  obtain ⟨k, t, c⟩ := B
  have raw : RAW = 1099511627776 := rfl
  refine ⟨fun {β f} => by rw [sbStr_e ⟨k, by omega⟩, t], u.nS hb hb2, ⟨kc_nS_n, by rw [tx_nS, if_pos rfl]⟩, u.zero (Nat.le_refl _), ((Ef.refl u.1 [] [72]).nS hb hb2).le (by omega)⟩
theorem str0 (w : WG h) {s : Nat} (h1 : 1 ≤ s) (h2 : s ≤ nStr) : StrX h s (codes (cStr.getD (s - 1) "")) := ⟨cst_k w h1 h2, cst_t w h1 h2⟩
/-- a kind as it is made -/
def NewK (h0 h : HP) (p : Nat) (num : Int32) (so nm el : Nat) (dp : Int32) (ds : List Nat) : Prop :=
  kc h p = 4 ∧ fi h 31 p = num ∧ fr h 32 p = so ∧ fr h 33 p = nm ∧ fr h 34 p = el ∧ fi h 35 p = dp ∧ StrX h (fr h 36 p) ds ∧ fr h 37 p = 0 ∧ fi h 38 p = 0 ∧ fi h 39 p = 0 ∧ fr h 40 p = 0 ∧ fi h 47 p = 0 ∧ fi h 48 p = 0 ∧
  ((kc h (fr h 41 p) = 104 ∧ ls h (fr h 41 p) = [] ∧ cp h (fr h 41 p) ≠ RAW) ∧ (kc h (fr h 43 p) = 103 ∧ ls h (fr h 43 p) = [] ∧ cp h (fr h 43 p) ≠ RAW) ∧ (kc h (fr h 44 p) = 102 ∧ ls h (fr h 44 p) = [] ∧ cp h (fr h 44 p) ≠ RAW) ∧ (kc h (fr h 45 p) = 101 ∧ ls h (fr h 45 p) = [] ∧ cp h (fr h 45 p) ≠ RAW) ∧ (kc h (fr h 46 p) = 100 ∧ ls h (fr h 46 p) = [] ∧ cp h (fr h 46 p) ≠ RAW)) ∧ (kc h (fr h 42 p) = 242 ∧ xl h (fr h 42 p) = 0) ∧
  ∀ f ∈ [36, 41, 42, 43, 44, 45, 46], kc h0 (fr h f p) = 0 ∧ nx h0 ≤ fr h f p
/-- a kind of arrays: its making -/
theorem kindA_e {v : Int32} {el dpt : Nat} {dsl : List Nat} (w : WG h) (ke : kc h el = 4) (e0 : el ≠ 0) (hd : fi h 35 el = nI dpt) (hs : StrX h (fr h 36 el) dsl) (hl : dsl.length ≤ 200) :
    ∃ h', (∀ {β : Type} {f : HP → Rs β}, bd (f_X3_init (nx h) v 907 1 el (nO h 4 18)) (fun _ h2 => f h2) = f h') ∧ Ef [] [] 30 h h' ∧ NewK h h' (nx h) v 907 1 el (nI (dpt + 1)) (91 :: dsl) ∧ kc h (nx h) = 0 ∧ nx h + 7 ≤ nx h' := by
  have hnew : kc h (nx h) = 0 := w.new
  have z := w.2.1 (nx h) (Nat.le_refl _)
  have u1 : Ef [] [] 1 h (nO h 4 18) := ((Ef.refl w [] []).nO (k := 4) (n := 18) (b := 1) (by omega) (by omega)).le (by omega)
  have kq : kc (nO h 4 18) (nx h) = 4 := kc_nO_n
  obtain ⟨h1, e1, s1, n1, c0, c1, c2, c3, c4, c5, c6, f41, f42, f43, f44, f45, f46, v31, v32, v33, v34, a0, b0, a2, b2, a3, b3, a4, b4, a5, b5, x1, oth⟩ := mk_kd0 u1.1 kq (v := v) (so := 907) (nm := 1) (el := el)
  have sA : St [] [] (0 + 1 + 11) h h1 := ((St.refl w [] []).nO (k := 4) (n := 18) (b := 1) (by omega) (by omega)).cat s1 (fun _ z => z) (fun x hx => .inr (.inl (by rw [List.mem_singleton.mp hx]; exact hnew)))
  have uA : Ef [] [] 12 h h1 := (sA.ef (fun x hx => by simp at hx)).le (by omega)
  have hn2 : nx (nO h 4 18) = nx h + 1 := rfl
  have ne : el ≠ nx h := fun y => by rw [y, hnew] at ke; exact absurd ke (by decide)
  have ke1 : kc h1 el = 4 := uA.kk ke (by decide)
  have d1 : fi h1 35 el = nI dpt := (uA.gi ke (by decide) (by simp)).trans hd
  -- the depth
  have u2 : Ef [] [] 12 h (sI h1 35 (nx h) (nI (dpt + 1))) := uA.sI c0 (by decide) (.inl hnew)
  have k2 : kc (sI h1 35 (nx h) (nI (dpt + 1))) (nx h) = 4 := c0
  have fi2 : ∀ f, f ≠ 35 → fi (sI h1 35 (nx h) (nI (dpt + 1))) f (nx h) = fi h1 f (nx h) := fun f hf => by rw [fi_sI, if_neg (fun y => hf y.1)]
  have f35 : fi (sI h1 35 (nx h) (nI (dpt + 1))) 35 (nx h) = nI (dpt + 1) := by rw [fi_sI, if_pos ⟨rfl, rfl⟩]
  have same : ∀ q, kc (sI h1 35 (nx h) (nI (dpt + 1))) q = kc h1 q ∧ (∀ f, fr (sI h1 35 (nx h) (nI (dpt + 1))) f q = fr h1 f q) ∧ ls (sI h1 35 (nx h) (nI (dpt + 1))) q = ls h1 q ∧ cp (sI h1 35 (nx h) (nI (dpt + 1))) q = cp h1 q ∧ xl (sI h1 35 (nx h) (nI (dpt + 1))) q = xl h1 q := fun q => ⟨rfl, fun _ => rfl, rfl, rfl, rfl⟩
  have nx2 : nx (sI h1 35 (nx h) (nI (dpt + 1))) = nx h1 := rfl
  have ev1 : f_X3_init (nx h) v 907 1 el (nO h 4 18) = (nwC 72 4 (sI h1 35 (nx h) (nI (dpt + 1))) fun p14 h15 => sbInit p14 h15 fun h16 => sbApS p14 33 h16 fun h17 => ldR 4 36 el h17 fun x18 => sbApS p14 x18 h17 fun h19 => sbStr p14 h19 fun x20 h21 => stR 4 36 (nx h) x20 h21 fun h22 => rok () h22) := by
    rw [e1]
    unfold kdT
    rw [if_neg e0, ldI_e ke1, d1]
    unfold f_X3_init_b109
    rw [show nI dpt + (1 : Int32) = nI (dpt + 1) from nI_add dpt 1, stI_e c0, if_neg e0]
  generalize sI h1 35 (nx h) (nI (dpt + 1)) = hB at *
  obtain ⟨h3, e3, u3, B3, z3, n3, w3⟩ := sbNew u2
  obtain ⟨h4, e4, u4, B4, w4⟩ := sbS (r := 33) (b := 1) u3 n3 B3 (by omega) (by simp) (str0 u3.1 (s := 33) (by decide) (by decide)) (by decide) (by decide)
  have ke4 : kc h4 el = 4 := u4.kk ke (by decide)
  have hs4 : StrX h4 (fr h4 36 el) dsl := by
    rw [u4.gr ke (by decide) (by simp)]
    exact u4.str hs (by simp)
  have l33 : (codes (cStr.getD (33 - 1) "")) = [91] := by decide
  rw [l33] at B4
  obtain ⟨h5, e5, u5, B5, w5⟩ := sbS (b := 4) u4 n3 B4 (by decide) (by decide) hs4 (by omega) (by simp; omega)
  obtain ⟨e6, u6, s6, n6, w6⟩ := sbFin (b := 3) u5 B5 (by simp; omega) (by omega) (by simp; omega)
  have tot : Ef [] [72] 10 hB (nS h5 ([] ++ [91] ++ dsl)) := (((w3.trans w4).trans w5).trans w6).le (by omega)
  have hx6 : nx h5 = nx h5 := rfl
  have kq6 : kc (nS h5 ([] ++ [91] ++ dsl)) (nx h) = 4 := tot.kk k2 (by decide)
  have u7 := u6.sR (f := 36) (v := nx h5) kq6 (by decide) (.inl hnew)
  have ev2 : f_X3_init (nx h) v 907 1 el (nO h 4 18) = rok () (sR (nS h5 ([] ++ [91] ++ dsl)) 36 (nx h) (nx h5)) := by
    rw [ev1, e3, e4, ldR_e ke4, e5, e6, stR_e kq6]
  have lst : ∀ {f c j : Nat}, f ≠ 36 → c ≠ 0 → c ≠ 72 → fr hB f (nx h) = nx (nO h 4 18) + j → kc hB (nx (nO h 4 18) + j) = c → ls hB (nx (nO h 4 18) + j) = [] → cp hB (nx (nO h 4 18) + j) ≠ RAW →
      kc (sR (nS h5 ([] ++ [91] ++ dsl)) 36 (nx h) (nx h5)) (fr (sR (nS h5 ([] ++ [91] ++ dsl)) 36 (nx h) (nx h5)) f (nx h)) = c ∧ ls (sR (nS h5 ([] ++ [91] ++ dsl)) 36 (nx h) (nx h5)) (fr (sR (nS h5 ([] ++ [91] ++ dsl)) 36 (nx h) (nx h5)) f (nx h)) = [] ∧ cp (sR (nS h5 ([] ++ [91] ++ dsl)) 36 (nx h) (nx h5)) (fr (sR (nS h5 ([] ++ [91] ++ dsl)) 36 (nx h) (nx h5)) f (nx h)) ≠ RAW := by
    intro f c j hf hc h72 x1 x2 x3 x4
    have g : fr (sR (nS h5 ([] ++ [91] ++ dsl)) 36 (nx h) (nx h5)) f (nx h) = nx (nO h 4 18) + j := by
      rw [fr_sR, if_neg (fun y => hf y.1)]
      exact (tot.gr k2 (by decide) (by simp)).trans x1
    rw [g]
    refine ⟨tot.kk x2 hc, (tot.gl x2 hc (by simpa using h72)).trans x3, ?_⟩
    show cp (nS h5 ([] ++ [91] ++ dsl)) _ ≠ RAW
    rw [tot.gc x2 hc (by simpa using h72)]; exact x4
  have gI : ∀ f, fi (sR (nS h5 ([] ++ [91] ++ dsl)) 36 (nx h) (nx h5)) f (nx h) = fi hB f (nx h) := fun f => tot.gi k2 (by decide) (by simp)
  have gR : ∀ f, f ≠ 36 → fr (sR (nS h5 ([] ++ [91] ++ dsl)) 36 (nx h) (nx h5)) f (nx h) = fr hB f (nx h) := fun f hf => by
    rw [fr_sR, if_neg (fun y => hf y.1)]; exact tot.gr k2 (by decide) (by simp)
  have zf : ∀ f, fr (nO h 4 18) f (nx h) = 0 := fun f => z.2.2.2.1 f
  have zi : ∀ f, fi (nO h 4 18) f (nx h) = 0 := fun f => z.2.1 f
  have oB : ∀ f, f ∉ [31, 32, 33, 34, 35, 41, 42, 43, 44, 45, 46] → fr hB f (nx h) = 0 ∧ fi hB f (nx h) = 0 := fun f hf => by
    simp only [List.mem_cons, List.not_mem_nil, or_false, not_or] at hf
    have := oth f (by simp only [List.mem_cons, List.not_mem_nil, or_false, not_or]; omega)
    exact ⟨((same (nx h)).2.1 f).trans (this.1.trans (zf f)), (fi2 f (by omega)).trans (this.2.trans (zi f))⟩
  have sB : ∀ {f j : Nat}, fr h1 f (nx h) = nx (nO h 4 18) + j → fr hB f (nx h) = nx (nO h 4 18) + j := fun x => ((same _).2.1 _).trans x
  have kB : ∀ {j c : Nat}, kc h1 (nx (nO h 4 18) + j) = c → kc hB (nx (nO h 4 18) + j) = c := fun x => (same _).1.trans x
  have lB : ∀ {j : Nat}, ls h1 (nx (nO h 4 18) + j) = [] → ls hB (nx (nO h 4 18) + j) = [] := fun x => (same _).2.2.1.trans x
  have cB : ∀ {j : Nat}, cp h1 (nx (nO h 4 18) + j) ≠ RAW → cp hB (nx (nO h 4 18) + j) ≠ RAW := fun x => by rw [(same _).2.2.2.1]; exact x
  have nxx : nx h + 7 ≤ nx h5 := by
    have a := w3.2.1; have b := w4.2.1; have d := w5.2.1
    rw [nx2, n1, hn2] at a
    omega
  refine ⟨_, fun {β f} => by rw [ev2, bd_ok], u7.le (by omega), ⟨kq6, (gI _).trans ((fi2 _ (by decide)).trans v31), (gR _ (by decide)).trans (((same _).2.1 _).trans v32), (gR _ (by decide)).trans (((same _).2.1 _).trans v33), (gR _ (by decide)).trans (((same _).2.1 _).trans v34), (gI _).trans f35, ?_, (gR _ (by decide)).trans (oB 37 (by decide)).1, (gI _).trans (oB 38 (by decide)).2, (gI _).trans (oB 39 (by decide)).2, (gR _ (by decide)).trans (oB 40 (by decide)).1, (gI _).trans (oB 47 (by decide)).2, (gI _).trans (oB 48 (by decide)).2, ⟨lst (j := 0) (by decide) (by decide) (by decide) (sB f41) (kB c1) (lB b0) (cB a0), lst (j := 2) (by decide) (by decide) (by decide) (sB f43) (kB c3) (lB b2) (cB a2), lst (j := 3) (by decide) (by decide) (by decide) (sB f44) (kB c4) (lB b3) (cB a3), lst (j := 4) (by decide) (by decide) (by decide) (sB f45) (kB c5) (lB b4) (cB a4), lst (j := 5) (by decide) (by decide) (by decide) (sB f46) (kB c6) (lB b5) (cB a5)⟩, ?_, fun f hf => ?_⟩, hnew, ?_⟩
  · rw [fr_sR, if_pos ⟨rfl, rfl⟩]; exact s6
  · rw [gR _ (by decide), sB (j := 1) f42]
    have k42 : kc hB (nx (nO h 4 18) + 1) = 242 := kB c2
    exact ⟨tot.kk k42 (by decide), (tot.gx k42 (by decide)).trans ((same _).2.2.2.2.trans x1)⟩
  · simp only [List.mem_cons, List.not_mem_nil, or_false] at hf
    by_cases z36 : f = 36
    · rw [z36, fr_sR, if_pos ⟨rfl, rfl⟩]
      exact ⟨(w.2.1 _ (by omega)).1, by omega⟩
    · have : ∃ j, fr h1 f (nx h) = nx (nO h 4 18) + j := by
        rcases hf with y | y | y | y | y | y | y
        · exact absurd y z36
        · exact ⟨0, by rw [y]; exact f41⟩
        · exact ⟨1, by rw [y]; exact f42⟩
        · exact ⟨2, by rw [y]; exact f43⟩
        · exact ⟨3, by rw [y]; exact f44⟩
        · exact ⟨4, by rw [y]; exact f45⟩
        · exact ⟨5, by rw [y]; exact f46⟩
      obtain ⟨j, hj⟩ := this
      rw [gR f z36, sB hj, hn2]
      exact ⟨(w.2.1 _ (by omega)).1, by omega⟩
  · show nx h + 7 ≤ nx (nS h5 _)
    rw [nx_nS]; omega
