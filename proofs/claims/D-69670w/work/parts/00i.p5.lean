/-! PHASE B parser 5: the component's nodes are made -/
set_option maxRecDepth 100000
theorem mx_nI {x y : Nat} (hx : x ≤ 2000) (hy : y ≤ 2000) : mxI (nI x) (nI y + (1 : Int32)) = nI (max x (y + 1)) := by
  rw [show nI y + (1 : Int32) = nI (y + 1) from nI_1 y]
  unfold mxI
  by_cases c : x < y + 1
  · rw [if_pos ((nI_ltI (by omega) (by omega)).mpr c), Nat.max_eq_right (by omega)]
  · rw [if_neg (fun z => c ((nI_ltI (by omega) (by omega)).mp z)), Nat.max_eq_left (by omega)]
theorem over_e {h : HP} {p a x y : Nat} (hp : kc h p ∈ ksNode) (ha : kc h a ∈ ksNode) (fp : fi h 184 p = nI x) (fa : fi h 184 a = nI y) (hx : x ≤ 2000) (hy : y ≤ 2000) {β : Type} {K : Nat → HP → Rs β} :
    bd (f_X15_over p a h) K = K p (sI h 184 p (nI (max x (y + 1)))) := by
  unfold f_X15_over
  rw [ldMI_e hp, ldMI_e ha, stMI_e hp, bd_ok, fp, fa, mx_nI hx hy]
theorem stC_e {β : Type} {c f p : Nat} {v : Int32} {h : HP} {K : HP → Rs β} (hc : 0 ≤ v ∧ v < 65536) (hk : kc h p = c) : stC c f p v h K = K (sI h f p v) := by unfold stC; rw [if_pos hc, stI_e hk]
theorem new0 {h : HP} (w : WG h) : (∀ f, fi h f (nx h) = 0) ∧ ∀ f, fr h f (nx h) = 0 := ⟨(w.2.1 _ (Nat.le_refl _)).2.1, (w.2.1 _ (Nat.le_refl _)).2.2.2.1⟩
theorem xk_pre {h : HP} (w : WG h) {pl : Int32} {c : Int32} {a : Nat} (hc : 0 ≤ c ∧ c < 65536) {Ha : Nat} (ka : kc h a ∈ ksNode) (fa : fi h 184 a = nI Ha) (la : Ha ≤ 1000) :
    ∃ h', (∀ (β : Type) (K : Nat → HP → Rs β), nwO 16 5 h (fun p h1 => if kc h1 p = 16 then bd (f_X16_init p pl c a h1) (fun _ h2 => if kc h2 p ∈ [16] then bd (f_X15_over p a h2) K else none) else none) = K (nx h) h') ∧ St [] [] 1 h h' ∧ kc h' (nx h) = 16 ∧ fi h' 182 (nx h) = pl ∧ fr h' 183 (nx h) = 0 ∧ fi h' 184 (nx h) = nI (max 1 (Ha + 1)) ∧ fi h' 185 (nx h) = c ∧ fr h' 186 (nx h) = a := by
  have hn0 : nx h ≠ 0 := by have := w.1; omega
  have hnew : kc h (nx h) = 0 := w.new
  have z := new0 w
  have kn : kc (nO h 16 5) (nx h) = 16 := kc_nO_n
  have km : kc (nO h 16 5) (nx h) ∈ ksNode := by rw [kn]; decide
  have hi : f_X16_init (nx h) pl c a (nO h 16 5) = rok () (sR (sI (sI (sI (nO h 16 5) 184 (nx h) 1) 182 (nx h) pl) 185 (nx h) c) 186 (nx h) a) := by
    unfold f_X16_init f_X15_init
    rw [if_pos kn, if_neg hn0, stMI_e, stMI_e, bd_ok, stC_e hc, stR_e]
    all_goals first | exact kn | exact km
  have s1 : St [] [] 1 h (sR (sI (sI (sI (nO h 16 5) 184 (nx h) 1) 182 (nx h) pl) 185 (nx h) c) 186 (nx h) a) := ((((((St.refl w [] []).nO (k := 16) (n := 5) (b := 1) (by omega) (by omega)).sI kn (by decide) (.inl hnew)).sI kn (by decide) (.inl hnew)).sI kn (by decide) (.inl hnew)).sR kn (by decide) (.inl hnew)).le (by omega)
  have k1 : kc (sR (sI (sI (sI (nO h 16 5) 184 (nx h) 1) 182 (nx h) pl) 185 (nx h) c) 186 (nx h) a) (nx h) = 16 := kn
  have g1 : fi (sR (sI (sI (sI (nO h 16 5) 184 (nx h) 1) 182 (nx h) pl) 185 (nx h) c) 186 (nx h) a) 182 (nx h) = pl := by simp [fi_sI, fi_sR, fi_sJ]
  have g2 : fr (sR (sI (sI (sI (nO h 16 5) 184 (nx h) 1) 182 (nx h) pl) 185 (nx h) c) 186 (nx h) a) 183 (nx h) = 0 := by simp [fr_sI, fr_sR, fr_sJ, fr_nO, z.2]
  have g3 : fi (sR (sI (sI (sI (nO h 16 5) 184 (nx h) 1) 182 (nx h) pl) 185 (nx h) c) 186 (nx h) a) 184 (nx h) = nI 1 := by simp [fi_sI, fi_sR, fi_sJ]; rfl
  have v0 : fi (sR (sI (sI (sI (nO h 16 5) 184 (nx h) 1) 182 (nx h) pl) 185 (nx h) c) 186 (nx h) a) 185 (nx h) = c := by simp [fi_sI, fi_sR, fi_sJ, fr_sI, fr_sR, fr_sJ, fj_sI, fj_sR, fj_sJ, fi_nO, fr_nO, z.1, z.2]
  have v1 : fr (sR (sI (sI (sI (nO h 16 5) 184 (nx h) 1) 182 (nx h) pl) 185 (nx h) c) 186 (nx h) a) 186 (nx h) = a := by simp [fi_sI, fi_sR, fi_sJ, fr_sI, fr_sR, fr_sJ, fj_sI, fj_sR, fj_sJ, fi_nO, fr_nO, z.1, z.2]
  have na : a ≠ nx h := w.ne rfl (fun y => by rw [y] at ka; exact absurd ka (by decide))
  have kka : kc (sR (sI (sI (sI (nO h 16 5) 184 (nx h) 1) 182 (nx h) pl) 185 (nx h) c) 186 (nx h) a) a ∈ ksNode := by show (if a = nx h then 16 else kc h a) ∈ ksNode; rw [if_neg na]; exact ka
  have ffa : fi (sR (sI (sI (sI (nO h 16 5) 184 (nx h) 1) 182 (nx h) pl) 185 (nx h) c) 186 (nx h) a) 184 a = nI Ha := by simp [fi_sI, fi_sR, fi_sJ, fi_nO, na]; exact fa
  generalize sR (sI (sI (sI (nO h 16 5) 184 (nx h) 1) 182 (nx h) pl) 185 (nx h) c) 186 (nx h) a = hh at *
  have km1 : kc hh (nx h) ∈ ksNode := by rw [k1]; decide
  refine ⟨sI (hh) 184 (nx h) (nI (max 1 (Ha + 1))), fun β K => by rw [nwO_e, if_pos kn, hi, bd_ok, if_pos (show kc (hh) (nx h) ∈ [16] from by show kc hh (nx h) ∈ _; rw [k1]; decide), over_e (h := hh) km1 kka g3 ffa (by omega) (by omega)], (s1).sI k1 (by decide) (.inl hnew), k1, by simp [fi_sI]; exact g1, g2, by simp [fi_sI], by simp [fi_sI]; exact v0, v1⟩
theorem xk_lit {h : HP} (w : WG h) {pl : Int32} {k : Int32} {b : Int64} :
    ∃ h', (∀ (β : Type) (K : Nat → HP → Rs β), nwO 17 5 h (fun p h1 => if kc h1 p = 17 then bd (f_X17_init p pl k b h1) (fun _ h2 => K p h2) else none) = K (nx h) h') ∧ St [] [] 1 h h' ∧ kc h' (nx h) = 17 ∧ fi h' 182 (nx h) = pl ∧ fr h' 183 (nx h) = 0 ∧ fi h' 184 (nx h) = nI (1) ∧ fi h' 187 (nx h) = k ∧ fj h' 188 (nx h) = b := by
  have hn0 : nx h ≠ 0 := by have := w.1; omega
  have hnew : kc h (nx h) = 0 := w.new
  have z := new0 w
  have kn : kc (nO h 17 5) (nx h) = 17 := kc_nO_n
  have km : kc (nO h 17 5) (nx h) ∈ ksNode := by rw [kn]; decide
  have hi : f_X17_init (nx h) pl k b (nO h 17 5) = rok () (sJ (sI (sI (sI (nO h 17 5) 184 (nx h) 1) 182 (nx h) pl) 187 (nx h) k) 188 (nx h) b) := by
    unfold f_X17_init f_X15_init
    rw [if_pos kn, if_neg hn0, stMI_e, stMI_e, bd_ok, stI_e, stJ_e]
    all_goals first | exact kn | exact km
  have s1 : St [] [] 1 h (sJ (sI (sI (sI (nO h 17 5) 184 (nx h) 1) 182 (nx h) pl) 187 (nx h) k) 188 (nx h) b) := ((((((St.refl w [] []).nO (k := 17) (n := 5) (b := 1) (by omega) (by omega)).sI kn (by decide) (.inl hnew)).sI kn (by decide) (.inl hnew)).sI kn (by decide) (.inl hnew)).sJ kn (by decide) (.inl hnew)).le (by omega)
  have k1 : kc (sJ (sI (sI (sI (nO h 17 5) 184 (nx h) 1) 182 (nx h) pl) 187 (nx h) k) 188 (nx h) b) (nx h) = 17 := kn
  have g1 : fi (sJ (sI (sI (sI (nO h 17 5) 184 (nx h) 1) 182 (nx h) pl) 187 (nx h) k) 188 (nx h) b) 182 (nx h) = pl := by simp [fi_sI, fi_sR, fi_sJ]
  have g2 : fr (sJ (sI (sI (sI (nO h 17 5) 184 (nx h) 1) 182 (nx h) pl) 187 (nx h) k) 188 (nx h) b) 183 (nx h) = 0 := by simp [fr_sI, fr_sR, fr_sJ, fr_nO, z.2]
  have g3 : fi (sJ (sI (sI (sI (nO h 17 5) 184 (nx h) 1) 182 (nx h) pl) 187 (nx h) k) 188 (nx h) b) 184 (nx h) = nI 1 := by simp [fi_sI, fi_sR, fi_sJ]; rfl
  have v0 : fi (sJ (sI (sI (sI (nO h 17 5) 184 (nx h) 1) 182 (nx h) pl) 187 (nx h) k) 188 (nx h) b) 187 (nx h) = k := by simp [fi_sI, fi_sR, fi_sJ, fr_sI, fr_sR, fr_sJ, fj_sI, fj_sR, fj_sJ, fi_nO, fr_nO, z.1, z.2]
  have v1 : fj (sJ (sI (sI (sI (nO h 17 5) 184 (nx h) 1) 182 (nx h) pl) 187 (nx h) k) 188 (nx h) b) 188 (nx h) = b := by simp [fi_sI, fi_sR, fi_sJ, fr_sI, fr_sR, fr_sJ, fj_sI, fj_sR, fj_sJ, fi_nO, fr_nO, z.1, z.2]
  generalize sJ (sI (sI (sI (nO h 17 5) 184 (nx h) 1) 182 (nx h) pl) 187 (nx h) k) 188 (nx h) b = hh at *
  exact ⟨hh, fun β K => by rw [nwO_e, if_pos kn, hi, bd_ok], s1, k1, g1, g2, g3, v0, v1⟩
theorem xk_quo {h : HP} (w : WG h) {pl : Int32} {s : Nat} :
    ∃ h', (∀ (β : Type) (K : Nat → HP → Rs β), nwO 18 5 h (fun p h1 => if kc h1 p = 18 then bd (f_X18_init p pl s h1) (fun _ h2 => K p h2) else none) = K (nx h) h') ∧ St [] [] 1 h h' ∧ kc h' (nx h) = 18 ∧ fi h' 182 (nx h) = pl ∧ fr h' 183 (nx h) = 0 ∧ fi h' 184 (nx h) = nI (1) ∧ fr h' 189 (nx h) = s := by
  have hn0 : nx h ≠ 0 := by have := w.1; omega
  have hnew : kc h (nx h) = 0 := w.new
  have z := new0 w
  have kn : kc (nO h 18 5) (nx h) = 18 := kc_nO_n
  have km : kc (nO h 18 5) (nx h) ∈ ksNode := by rw [kn]; decide
  have hi : f_X18_init (nx h) pl s (nO h 18 5) = rok () (sR (sI (sI (nO h 18 5) 184 (nx h) 1) 182 (nx h) pl) 189 (nx h) s) := by
    unfold f_X18_init f_X15_init
    rw [if_pos kn, if_neg hn0, stMI_e, stMI_e, bd_ok, stR_e]
    all_goals first | exact kn | exact km
  have s1 : St [] [] 1 h (sR (sI (sI (nO h 18 5) 184 (nx h) 1) 182 (nx h) pl) 189 (nx h) s) := (((((St.refl w [] []).nO (k := 18) (n := 5) (b := 1) (by omega) (by omega)).sI kn (by decide) (.inl hnew)).sI kn (by decide) (.inl hnew)).sR kn (by decide) (.inl hnew)).le (by omega)
  have k1 : kc (sR (sI (sI (nO h 18 5) 184 (nx h) 1) 182 (nx h) pl) 189 (nx h) s) (nx h) = 18 := kn
  have g1 : fi (sR (sI (sI (nO h 18 5) 184 (nx h) 1) 182 (nx h) pl) 189 (nx h) s) 182 (nx h) = pl := by simp [fi_sI, fi_sR, fi_sJ]
  have g2 : fr (sR (sI (sI (nO h 18 5) 184 (nx h) 1) 182 (nx h) pl) 189 (nx h) s) 183 (nx h) = 0 := by simp [fr_sI, fr_sR, fr_sJ, fr_nO, z.2]
  have g3 : fi (sR (sI (sI (nO h 18 5) 184 (nx h) 1) 182 (nx h) pl) 189 (nx h) s) 184 (nx h) = nI 1 := by simp [fi_sI, fi_sR, fi_sJ]; rfl
  have v0 : fr (sR (sI (sI (nO h 18 5) 184 (nx h) 1) 182 (nx h) pl) 189 (nx h) s) 189 (nx h) = s := by simp [fi_sI, fi_sR, fi_sJ, fr_sI, fr_sR, fr_sJ, fj_sI, fj_sR, fj_sJ, fi_nO, fr_nO, z.1, z.2]
  generalize sR (sI (sI (nO h 18 5) 184 (nx h) 1) 182 (nx h) pl) 189 (nx h) s = hh at *
  exact ⟨hh, fun β K => by rw [nwO_e, if_pos kn, hi, bd_ok], s1, k1, g1, g2, g3, v0⟩
theorem xk_ths {h : HP} (w : WG h) {pl : Int32}  :
    ∃ h', (∀ (β : Type) (K : Nat → HP → Rs β), nwO 19 3 h (fun p h1 => if kc h1 p = 19 then bd (f_X19_init p pl h1) (fun _ h2 => K p h2) else none) = K (nx h) h') ∧ St [] [] 1 h h' ∧ kc h' (nx h) = 19 ∧ fi h' 182 (nx h) = pl ∧ fr h' 183 (nx h) = 0 ∧ fi h' 184 (nx h) = nI (1) := by
  have hn0 : nx h ≠ 0 := by have := w.1; omega
  have hnew : kc h (nx h) = 0 := w.new
  have z := new0 w
  have kn : kc (nO h 19 3) (nx h) = 19 := kc_nO_n
  have km : kc (nO h 19 3) (nx h) ∈ ksNode := by rw [kn]; decide
  have hi : f_X19_init (nx h) pl (nO h 19 3) = rok () (sI (sI (nO h 19 3) 184 (nx h) 1) 182 (nx h) pl) := by
    unfold f_X19_init f_X15_init
    rw [if_pos kn, if_neg hn0, stMI_e, stMI_e, bd_ok]
    all_goals first | exact kn | exact km
  have s1 : St [] [] 1 h (sI (sI (nO h 19 3) 184 (nx h) 1) 182 (nx h) pl) := ((((St.refl w [] []).nO (k := 19) (n := 3) (b := 1) (by omega) (by omega)).sI kn (by decide) (.inl hnew)).sI kn (by decide) (.inl hnew)).le (by omega)
  have k1 : kc (sI (sI (nO h 19 3) 184 (nx h) 1) 182 (nx h) pl) (nx h) = 19 := kn
  have g1 : fi (sI (sI (nO h 19 3) 184 (nx h) 1) 182 (nx h) pl) 182 (nx h) = pl := by simp [fi_sI, fi_sR, fi_sJ]
  have g2 : fr (sI (sI (nO h 19 3) 184 (nx h) 1) 182 (nx h) pl) 183 (nx h) = 0 := by simp [fr_sI, fr_sR, fr_sJ, fr_nO, z.2]
  have g3 : fi (sI (sI (nO h 19 3) 184 (nx h) 1) 182 (nx h) pl) 184 (nx h) = nI 1 := by simp [fi_sI, fi_sR, fi_sJ]; rfl
  generalize sI (sI (nO h 19 3) 184 (nx h) 1) 182 (nx h) pl = hh at *
  exact ⟨hh, fun β K => by rw [nwO_e, if_pos kn, hi, bd_ok], s1, k1, g1, g2, g3⟩
theorem xk_nam {h : HP} (w : WG h) {pl : Int32} {s : Nat} :
    ∃ h', (∀ (β : Type) (K : Nat → HP → Rs β), nwO 21 6 h (fun p h1 => if kc h1 p = 21 then bd (f_X21_init p pl s h1) (fun _ h2 => K p h2) else none) = K (nx h) h') ∧ St [] [] 1 h h' ∧ kc h' (nx h) = 21 ∧ fi h' 182 (nx h) = pl ∧ fr h' 183 (nx h) = 0 ∧ fi h' 184 (nx h) = nI (1) ∧ fr h' 196 (nx h) = s ∧ fr h' 198 (nx h) = 0 := by
  have hn0 : nx h ≠ 0 := by have := w.1; omega
  have hnew : kc h (nx h) = 0 := w.new
  have z := new0 w
  have kn : kc (nO h 21 6) (nx h) = 21 := kc_nO_n
  have km : kc (nO h 21 6) (nx h) ∈ ksNode := by rw [kn]; decide
  have hi : f_X21_init (nx h) pl s (nO h 21 6) = rok () (sR (sI (sI (nO h 21 6) 184 (nx h) 1) 182 (nx h) pl) 196 (nx h) s) := by
    unfold f_X21_init f_X15_init
    rw [if_pos kn, if_neg hn0, stMI_e, stMI_e, bd_ok, stR_e]
    all_goals first | exact kn | exact km
  have s1 : St [] [] 1 h (sR (sI (sI (nO h 21 6) 184 (nx h) 1) 182 (nx h) pl) 196 (nx h) s) := (((((St.refl w [] []).nO (k := 21) (n := 6) (b := 1) (by omega) (by omega)).sI kn (by decide) (.inl hnew)).sI kn (by decide) (.inl hnew)).sR kn (by decide) (.inl hnew)).le (by omega)
  have k1 : kc (sR (sI (sI (nO h 21 6) 184 (nx h) 1) 182 (nx h) pl) 196 (nx h) s) (nx h) = 21 := kn
  have g1 : fi (sR (sI (sI (nO h 21 6) 184 (nx h) 1) 182 (nx h) pl) 196 (nx h) s) 182 (nx h) = pl := by simp [fi_sI, fi_sR, fi_sJ]
  have g2 : fr (sR (sI (sI (nO h 21 6) 184 (nx h) 1) 182 (nx h) pl) 196 (nx h) s) 183 (nx h) = 0 := by simp [fr_sI, fr_sR, fr_sJ, fr_nO, z.2]
  have g3 : fi (sR (sI (sI (nO h 21 6) 184 (nx h) 1) 182 (nx h) pl) 196 (nx h) s) 184 (nx h) = nI 1 := by simp [fi_sI, fi_sR, fi_sJ]; rfl
  have v0 : fr (sR (sI (sI (nO h 21 6) 184 (nx h) 1) 182 (nx h) pl) 196 (nx h) s) 196 (nx h) = s := by simp [fi_sI, fi_sR, fi_sJ, fr_sI, fr_sR, fr_sJ, fj_sI, fj_sR, fj_sJ, fi_nO, fr_nO, z.1, z.2]
  have v1 : fr (sR (sI (sI (nO h 21 6) 184 (nx h) 1) 182 (nx h) pl) 196 (nx h) s) 198 (nx h) = 0 := by simp [fi_sI, fi_sR, fi_sJ, fr_sI, fr_sR, fr_sJ, fj_sI, fj_sR, fj_sJ, fi_nO, fr_nO, z.1, z.2]
  generalize sR (sI (sI (nO h 21 6) 184 (nx h) 1) 182 (nx h) pl) 196 (nx h) s = hh at *
  exact ⟨hh, fun β K => by rw [nwO_e, if_pos kn, hi, bd_ok], s1, k1, g1, g2, g3, v0, v1⟩
theorem xk_idx {h : HP} (w : WG h) {pl : Int32} {a : Nat} {b : Nat} {Ha : Nat} (ka : kc h a ∈ ksNode) (fa : fi h 184 a = nI Ha) (la : Ha ≤ 1000) {Hb : Nat} (kb : kc h b ∈ ksNode) (fb : fi h 184 b = nI Hb) (lb : Hb ≤ 1000) :
    ∃ h', (∀ (β : Type) (K : Nat → HP → Rs β), nwO 22 5 h (fun p h1 => if kc h1 p = 22 then bd (f_X22_init p pl a b h1) (fun _ h2 => if kc h2 p ∈ [22] then bd (f_X15_over p a h2) (fun x3 h3 => if kc h3 x3 ∈ [16, 17, 18, 19, 20, 21, 22, 23, 24, 25, 27, 28, 29] then bd (f_X15_over x3 b h3) K else none) else none) else none) = K (nx h) h') ∧ St [] [] 1 h h' ∧ kc h' (nx h) = 22 ∧ fi h' 182 (nx h) = pl ∧ fr h' 183 (nx h) = 0 ∧ fi h' 184 (nx h) = nI (max (max 1 (Ha + 1)) (Hb + 1)) ∧ fr h' 199 (nx h) = a ∧ fr h' 200 (nx h) = b := by
  have hn0 : nx h ≠ 0 := by have := w.1; omega
  have hnew : kc h (nx h) = 0 := w.new
  have z := new0 w
  have kn : kc (nO h 22 5) (nx h) = 22 := kc_nO_n
  have km : kc (nO h 22 5) (nx h) ∈ ksNode := by rw [kn]; decide
  have hi : f_X22_init (nx h) pl a b (nO h 22 5) = rok () (sR (sR (sI (sI (nO h 22 5) 184 (nx h) 1) 182 (nx h) pl) 199 (nx h) a) 200 (nx h) b) := by
    unfold f_X22_init f_X15_init
    rw [if_pos kn, if_neg hn0, stMI_e, stMI_e, bd_ok, stR_e, stR_e]
    all_goals first | exact kn | exact km
  have s1 : St [] [] 1 h (sR (sR (sI (sI (nO h 22 5) 184 (nx h) 1) 182 (nx h) pl) 199 (nx h) a) 200 (nx h) b) := ((((((St.refl w [] []).nO (k := 22) (n := 5) (b := 1) (by omega) (by omega)).sI kn (by decide) (.inl hnew)).sI kn (by decide) (.inl hnew)).sR kn (by decide) (.inl hnew)).sR kn (by decide) (.inl hnew)).le (by omega)
  have k1 : kc (sR (sR (sI (sI (nO h 22 5) 184 (nx h) 1) 182 (nx h) pl) 199 (nx h) a) 200 (nx h) b) (nx h) = 22 := kn
  have g1 : fi (sR (sR (sI (sI (nO h 22 5) 184 (nx h) 1) 182 (nx h) pl) 199 (nx h) a) 200 (nx h) b) 182 (nx h) = pl := by simp [fi_sI, fi_sR, fi_sJ]
  have g2 : fr (sR (sR (sI (sI (nO h 22 5) 184 (nx h) 1) 182 (nx h) pl) 199 (nx h) a) 200 (nx h) b) 183 (nx h) = 0 := by simp [fr_sI, fr_sR, fr_sJ, fr_nO, z.2]
  have g3 : fi (sR (sR (sI (sI (nO h 22 5) 184 (nx h) 1) 182 (nx h) pl) 199 (nx h) a) 200 (nx h) b) 184 (nx h) = nI 1 := by simp [fi_sI, fi_sR, fi_sJ]; rfl
  have v0 : fr (sR (sR (sI (sI (nO h 22 5) 184 (nx h) 1) 182 (nx h) pl) 199 (nx h) a) 200 (nx h) b) 199 (nx h) = a := by simp [fi_sI, fi_sR, fi_sJ, fr_sI, fr_sR, fr_sJ, fj_sI, fj_sR, fj_sJ, fi_nO, fr_nO, z.1, z.2]
  have v1 : fr (sR (sR (sI (sI (nO h 22 5) 184 (nx h) 1) 182 (nx h) pl) 199 (nx h) a) 200 (nx h) b) 200 (nx h) = b := by simp [fi_sI, fi_sR, fi_sJ, fr_sI, fr_sR, fr_sJ, fj_sI, fj_sR, fj_sJ, fi_nO, fr_nO, z.1, z.2]
  have na : a ≠ nx h := w.ne rfl (fun y => by rw [y] at ka; exact absurd ka (by decide))
  have kka : kc (sR (sR (sI (sI (nO h 22 5) 184 (nx h) 1) 182 (nx h) pl) 199 (nx h) a) 200 (nx h) b) a ∈ ksNode := by show (if a = nx h then 22 else kc h a) ∈ ksNode; rw [if_neg na]; exact ka
  have ffa : fi (sR (sR (sI (sI (nO h 22 5) 184 (nx h) 1) 182 (nx h) pl) 199 (nx h) a) 200 (nx h) b) 184 a = nI Ha := by simp [fi_sI, fi_sR, fi_sJ, fi_nO, na]; exact fa
  have nb : b ≠ nx h := w.ne rfl (fun y => by rw [y] at kb; exact absurd kb (by decide))
  have kkb : kc (sR (sR (sI (sI (nO h 22 5) 184 (nx h) 1) 182 (nx h) pl) 199 (nx h) a) 200 (nx h) b) b ∈ ksNode := by show (if b = nx h then 22 else kc h b) ∈ ksNode; rw [if_neg nb]; exact kb
  have ffb : fi (sR (sR (sI (sI (nO h 22 5) 184 (nx h) 1) 182 (nx h) pl) 199 (nx h) a) 200 (nx h) b) 184 b = nI Hb := by simp [fi_sI, fi_sR, fi_sJ, fi_nO, nb]; exact fb
  generalize sR (sR (sI (sI (nO h 22 5) 184 (nx h) 1) 182 (nx h) pl) 199 (nx h) a) 200 (nx h) b = hh at *
  have km1 : kc hh (nx h) ∈ ksNode := by rw [k1]; decide
  refine ⟨sI (sI (hh) 184 (nx h) (nI (max 1 (Ha + 1)))) 184 (nx h) (nI (max (max 1 (Ha + 1)) (Hb + 1))), fun β K => by rw [nwO_e, if_pos kn, hi, bd_ok, if_pos (show kc (hh) (nx h) ∈ [22] from by show kc hh (nx h) ∈ _; rw [k1]; decide), over_e (h := hh) km1 kka g3 ffa (by omega) (by omega), if_pos (show kc (sI (hh) 184 (nx h) (nI (max 1 (Ha + 1)))) (nx h) ∈ [16, 17, 18, 19, 20, 21, 22, 23, 24, 25, 27, 28, 29] from by show kc hh (nx h) ∈ _; rw [k1]; decide), over_e (h := sI (hh) 184 (nx h) (nI (max 1 (Ha + 1)))) km1 kkb (show fi (sI (hh) 184 (nx h) (nI (max 1 (Ha + 1)))) 184 (nx h) = nI (max 1 (Ha + 1)) from by simp [fi_sI]) (show fi (sI (hh) 184 (nx h) (nI (max 1 (Ha + 1)))) 184 b = nI Hb from by simp [fi_sI, nb]; exact ffb) (by omega) (by omega)], ((s1).sI k1 (by decide) (.inl hnew)).sI k1 (by decide) (.inl hnew), k1, by simp [fi_sI]; exact g1, g2, by simp [fi_sI], v0, v1⟩
theorem xk_mem {h : HP} (w : WG h) {pl : Int32} {a : Nat} {s : Nat} {Ha : Nat} (ka : kc h a ∈ ksNode) (fa : fi h 184 a = nI Ha) (la : Ha ≤ 1000) :
    ∃ h', (∀ (β : Type) (K : Nat → HP → Rs β), nwO 23 8 h (fun p h1 => if kc h1 p = 23 then bd (f_X23_init p pl a s h1) (fun _ h2 => if kc h2 p ∈ [23] then bd (f_X15_over p a h2) K else none) else none) = K (nx h) h') ∧ St [] [] 1 h h' ∧ kc h' (nx h) = 23 ∧ fi h' 182 (nx h) = pl ∧ fr h' 183 (nx h) = 0 ∧ fi h' 184 (nx h) = nI (max 1 (Ha + 1)) ∧ fr h' 201 (nx h) = a ∧ fr h' 202 (nx h) = s ∧ fi h' 203 (nx h) = 0 ∧ fr h' 204 (nx h) = 0 := by
  have hn0 : nx h ≠ 0 := by have := w.1; omega
  have hnew : kc h (nx h) = 0 := w.new
  have z := new0 w
  have kn : kc (nO h 23 8) (nx h) = 23 := kc_nO_n
  have km : kc (nO h 23 8) (nx h) ∈ ksNode := by rw [kn]; decide
  have hi : f_X23_init (nx h) pl a s (nO h 23 8) = rok () (sR (sR (sI (sI (nO h 23 8) 184 (nx h) 1) 182 (nx h) pl) 201 (nx h) a) 202 (nx h) s) := by
    unfold f_X23_init f_X15_init
    rw [if_pos kn, if_neg hn0, stMI_e, stMI_e, bd_ok, stR_e, stR_e]
    all_goals first | exact kn | exact km
  have s1 : St [] [] 1 h (sR (sR (sI (sI (nO h 23 8) 184 (nx h) 1) 182 (nx h) pl) 201 (nx h) a) 202 (nx h) s) := ((((((St.refl w [] []).nO (k := 23) (n := 8) (b := 1) (by omega) (by omega)).sI kn (by decide) (.inl hnew)).sI kn (by decide) (.inl hnew)).sR kn (by decide) (.inl hnew)).sR kn (by decide) (.inl hnew)).le (by omega)
  have k1 : kc (sR (sR (sI (sI (nO h 23 8) 184 (nx h) 1) 182 (nx h) pl) 201 (nx h) a) 202 (nx h) s) (nx h) = 23 := kn
  have g1 : fi (sR (sR (sI (sI (nO h 23 8) 184 (nx h) 1) 182 (nx h) pl) 201 (nx h) a) 202 (nx h) s) 182 (nx h) = pl := by simp [fi_sI, fi_sR, fi_sJ]
  have g2 : fr (sR (sR (sI (sI (nO h 23 8) 184 (nx h) 1) 182 (nx h) pl) 201 (nx h) a) 202 (nx h) s) 183 (nx h) = 0 := by simp [fr_sI, fr_sR, fr_sJ, fr_nO, z.2]
  have g3 : fi (sR (sR (sI (sI (nO h 23 8) 184 (nx h) 1) 182 (nx h) pl) 201 (nx h) a) 202 (nx h) s) 184 (nx h) = nI 1 := by simp [fi_sI, fi_sR, fi_sJ]; rfl
  have v0 : fr (sR (sR (sI (sI (nO h 23 8) 184 (nx h) 1) 182 (nx h) pl) 201 (nx h) a) 202 (nx h) s) 201 (nx h) = a := by simp [fi_sI, fi_sR, fi_sJ, fr_sI, fr_sR, fr_sJ, fj_sI, fj_sR, fj_sJ, fi_nO, fr_nO, z.1, z.2]
  have v1 : fr (sR (sR (sI (sI (nO h 23 8) 184 (nx h) 1) 182 (nx h) pl) 201 (nx h) a) 202 (nx h) s) 202 (nx h) = s := by simp [fi_sI, fi_sR, fi_sJ, fr_sI, fr_sR, fr_sJ, fj_sI, fj_sR, fj_sJ, fi_nO, fr_nO, z.1, z.2]
  have v2 : fi (sR (sR (sI (sI (nO h 23 8) 184 (nx h) 1) 182 (nx h) pl) 201 (nx h) a) 202 (nx h) s) 203 (nx h) = 0 := by simp [fi_sI, fi_sR, fi_sJ, fr_sI, fr_sR, fr_sJ, fj_sI, fj_sR, fj_sJ, fi_nO, fr_nO, z.1, z.2]
  have v3 : fr (sR (sR (sI (sI (nO h 23 8) 184 (nx h) 1) 182 (nx h) pl) 201 (nx h) a) 202 (nx h) s) 204 (nx h) = 0 := by simp [fi_sI, fi_sR, fi_sJ, fr_sI, fr_sR, fr_sJ, fj_sI, fj_sR, fj_sJ, fi_nO, fr_nO, z.1, z.2]
  have na : a ≠ nx h := w.ne rfl (fun y => by rw [y] at ka; exact absurd ka (by decide))
  have kka : kc (sR (sR (sI (sI (nO h 23 8) 184 (nx h) 1) 182 (nx h) pl) 201 (nx h) a) 202 (nx h) s) a ∈ ksNode := by show (if a = nx h then 23 else kc h a) ∈ ksNode; rw [if_neg na]; exact ka
  have ffa : fi (sR (sR (sI (sI (nO h 23 8) 184 (nx h) 1) 182 (nx h) pl) 201 (nx h) a) 202 (nx h) s) 184 a = nI Ha := by simp [fi_sI, fi_sR, fi_sJ, fi_nO, na]; exact fa
  generalize sR (sR (sI (sI (nO h 23 8) 184 (nx h) 1) 182 (nx h) pl) 201 (nx h) a) 202 (nx h) s = hh at *
  have km1 : kc hh (nx h) ∈ ksNode := by rw [k1]; decide
  refine ⟨sI (hh) 184 (nx h) (nI (max 1 (Ha + 1))), fun β K => by rw [nwO_e, if_pos kn, hi, bd_ok, if_pos (show kc (hh) (nx h) ∈ [23] from by show kc hh (nx h) ∈ _; rw [k1]; decide), over_e (h := hh) km1 kka g3 ffa (by omega) (by omega)], (s1).sI k1 (by decide) (.inl hnew), k1, by simp [fi_sI]; exact g1, g2, by simp [fi_sI], v0, v1, by simp [fi_sI]; exact v2, v3⟩
theorem xk_cas {h : HP} (w : WG h) {pl : Int32} {t : Nat} {a : Nat} {Ha : Nat} (ka : kc h a ∈ ksNode) (fa : fi h 184 a = nI Ha) (la : Ha ≤ 1000) :
    ∃ h', (∀ (β : Type) (K : Nat → HP → Rs β), nwO 24 5 h (fun p h1 => if kc h1 p = 24 then bd (f_X24_init p pl t a h1) (fun _ h2 => if kc h2 p ∈ [24] then bd (f_X15_over p a h2) K else none) else none) = K (nx h) h') ∧ St [] [] 1 h h' ∧ kc h' (nx h) = 24 ∧ fi h' 182 (nx h) = pl ∧ fr h' 183 (nx h) = 0 ∧ fi h' 184 (nx h) = nI (max 1 (Ha + 1)) ∧ fr h' 206 (nx h) = t ∧ fr h' 207 (nx h) = a := by
  have hn0 : nx h ≠ 0 := by have := w.1; omega
  have hnew : kc h (nx h) = 0 := w.new
  have z := new0 w
  have kn : kc (nO h 24 5) (nx h) = 24 := kc_nO_n
  have km : kc (nO h 24 5) (nx h) ∈ ksNode := by rw [kn]; decide
  have hi : f_X24_init (nx h) pl t a (nO h 24 5) = rok () (sR (sR (sI (sI (nO h 24 5) 184 (nx h) 1) 182 (nx h) pl) 206 (nx h) t) 207 (nx h) a) := by
    unfold f_X24_init f_X15_init
    rw [if_pos kn, if_neg hn0, stMI_e, stMI_e, bd_ok, stR_e, stR_e]
    all_goals first | exact kn | exact km
  have s1 : St [] [] 1 h (sR (sR (sI (sI (nO h 24 5) 184 (nx h) 1) 182 (nx h) pl) 206 (nx h) t) 207 (nx h) a) := ((((((St.refl w [] []).nO (k := 24) (n := 5) (b := 1) (by omega) (by omega)).sI kn (by decide) (.inl hnew)).sI kn (by decide) (.inl hnew)).sR kn (by decide) (.inl hnew)).sR kn (by decide) (.inl hnew)).le (by omega)
  have k1 : kc (sR (sR (sI (sI (nO h 24 5) 184 (nx h) 1) 182 (nx h) pl) 206 (nx h) t) 207 (nx h) a) (nx h) = 24 := kn
  have g1 : fi (sR (sR (sI (sI (nO h 24 5) 184 (nx h) 1) 182 (nx h) pl) 206 (nx h) t) 207 (nx h) a) 182 (nx h) = pl := by simp [fi_sI, fi_sR, fi_sJ]
  have g2 : fr (sR (sR (sI (sI (nO h 24 5) 184 (nx h) 1) 182 (nx h) pl) 206 (nx h) t) 207 (nx h) a) 183 (nx h) = 0 := by simp [fr_sI, fr_sR, fr_sJ, fr_nO, z.2]
  have g3 : fi (sR (sR (sI (sI (nO h 24 5) 184 (nx h) 1) 182 (nx h) pl) 206 (nx h) t) 207 (nx h) a) 184 (nx h) = nI 1 := by simp [fi_sI, fi_sR, fi_sJ]; rfl
  have v0 : fr (sR (sR (sI (sI (nO h 24 5) 184 (nx h) 1) 182 (nx h) pl) 206 (nx h) t) 207 (nx h) a) 206 (nx h) = t := by simp [fi_sI, fi_sR, fi_sJ, fr_sI, fr_sR, fr_sJ, fj_sI, fj_sR, fj_sJ, fi_nO, fr_nO, z.1, z.2]
  have v1 : fr (sR (sR (sI (sI (nO h 24 5) 184 (nx h) 1) 182 (nx h) pl) 206 (nx h) t) 207 (nx h) a) 207 (nx h) = a := by simp [fi_sI, fi_sR, fi_sJ, fr_sI, fr_sR, fr_sJ, fj_sI, fj_sR, fj_sJ, fi_nO, fr_nO, z.1, z.2]
  have na : a ≠ nx h := w.ne rfl (fun y => by rw [y] at ka; exact absurd ka (by decide))
  have kka : kc (sR (sR (sI (sI (nO h 24 5) 184 (nx h) 1) 182 (nx h) pl) 206 (nx h) t) 207 (nx h) a) a ∈ ksNode := by show (if a = nx h then 24 else kc h a) ∈ ksNode; rw [if_neg na]; exact ka
  have ffa : fi (sR (sR (sI (sI (nO h 24 5) 184 (nx h) 1) 182 (nx h) pl) 206 (nx h) t) 207 (nx h) a) 184 a = nI Ha := by simp [fi_sI, fi_sR, fi_sJ, fi_nO, na]; exact fa
  generalize sR (sR (sI (sI (nO h 24 5) 184 (nx h) 1) 182 (nx h) pl) 206 (nx h) t) 207 (nx h) a = hh at *
  have km1 : kc hh (nx h) ∈ ksNode := by rw [k1]; decide
  refine ⟨sI (hh) 184 (nx h) (nI (max 1 (Ha + 1))), fun β K => by rw [nwO_e, if_pos kn, hi, bd_ok, if_pos (show kc (hh) (nx h) ∈ [24] from by show kc hh (nx h) ∈ _; rw [k1]; decide), over_e (h := hh) km1 kka g3 ffa (by omega) (by omega)], (s1).sI k1 (by decide) (.inl hnew), k1, by simp [fi_sI]; exact g1, g2, by simp [fi_sI], v0, v1⟩
theorem xk_bin {h : HP} (w : WG h) {pl : Int32} {c : Int32} {a : Nat} {b : Nat} {Ha : Nat} (ka : kc h a ∈ ksNode) (fa : fi h 184 a = nI Ha) (la : Ha ≤ 1000) {Hb : Nat} (kb : kc h b ∈ ksNode) (fb : fi h 184 b = nI Hb) (lb : Hb ≤ 1000) :
    ∃ h', (∀ (β : Type) (K : Nat → HP → Rs β), nwO 28 7 h (fun p h1 => if kc h1 p = 28 then bd (f_X28_init p pl c a b h1) (fun _ h2 => if kc h2 p ∈ [28] then bd (f_X15_over p a h2) (fun x3 h3 => if kc h3 x3 ∈ [16, 17, 18, 19, 20, 21, 22, 23, 24, 25, 27, 28, 29] then bd (f_X15_over x3 b h3) K else none) else none) else none) = K (nx h) h') ∧ St [] [] 1 h h' ∧ kc h' (nx h) = 28 ∧ fi h' 182 (nx h) = pl ∧ fr h' 183 (nx h) = 0 ∧ fi h' 184 (nx h) = nI (max (max 1 (Ha + 1)) (Hb + 1)) ∧ fi h' 220 (nx h) = (-1) ∧ fi h' 217 (nx h) = c ∧ fr h' 218 (nx h) = a ∧ fr h' 219 (nx h) = b := by
  have hn0 : nx h ≠ 0 := by have := w.1; omega
  have hnew : kc h (nx h) = 0 := w.new
  have z := new0 w
  have kn : kc (nO h 28 7) (nx h) = 28 := kc_nO_n
  have km : kc (nO h 28 7) (nx h) ∈ ksNode := by rw [kn]; decide
  have hi : f_X28_init (nx h) pl c a b (nO h 28 7) = rok () (sR (sR (sI (sI (sI (sI (nO h 28 7) 184 (nx h) 1) 182 (nx h) pl) 220 (nx h) (-1)) 217 (nx h) c) 218 (nx h) a) 219 (nx h) b) := by
    unfold f_X28_init f_X15_init
    rw [if_pos kn, if_neg hn0, stMI_e, stMI_e, bd_ok, stI_e, stI_e, stR_e, stR_e]
    all_goals first | exact kn | exact km
  have s1 : St [] [] 1 h (sR (sR (sI (sI (sI (sI (nO h 28 7) 184 (nx h) 1) 182 (nx h) pl) 220 (nx h) (-1)) 217 (nx h) c) 218 (nx h) a) 219 (nx h) b) := ((((((((St.refl w [] []).nO (k := 28) (n := 7) (b := 1) (by omega) (by omega)).sI kn (by decide) (.inl hnew)).sI kn (by decide) (.inl hnew)).sI kn (by decide) (.inl hnew)).sI kn (by decide) (.inl hnew)).sR kn (by decide) (.inl hnew)).sR kn (by decide) (.inl hnew)).le (by omega)
  have k1 : kc (sR (sR (sI (sI (sI (sI (nO h 28 7) 184 (nx h) 1) 182 (nx h) pl) 220 (nx h) (-1)) 217 (nx h) c) 218 (nx h) a) 219 (nx h) b) (nx h) = 28 := kn
  have g1 : fi (sR (sR (sI (sI (sI (sI (nO h 28 7) 184 (nx h) 1) 182 (nx h) pl) 220 (nx h) (-1)) 217 (nx h) c) 218 (nx h) a) 219 (nx h) b) 182 (nx h) = pl := by simp [fi_sI, fi_sR, fi_sJ]
  have g2 : fr (sR (sR (sI (sI (sI (sI (nO h 28 7) 184 (nx h) 1) 182 (nx h) pl) 220 (nx h) (-1)) 217 (nx h) c) 218 (nx h) a) 219 (nx h) b) 183 (nx h) = 0 := by simp [fr_sI, fr_sR, fr_sJ, fr_nO, z.2]
  have g3 : fi (sR (sR (sI (sI (sI (sI (nO h 28 7) 184 (nx h) 1) 182 (nx h) pl) 220 (nx h) (-1)) 217 (nx h) c) 218 (nx h) a) 219 (nx h) b) 184 (nx h) = nI 1 := by simp [fi_sI, fi_sR, fi_sJ]; rfl
  have v0 : fi (sR (sR (sI (sI (sI (sI (nO h 28 7) 184 (nx h) 1) 182 (nx h) pl) 220 (nx h) (-1)) 217 (nx h) c) 218 (nx h) a) 219 (nx h) b) 220 (nx h) = (-1) := by simp [fi_sI, fi_sR, fi_sJ, fr_sI, fr_sR, fr_sJ, fj_sI, fj_sR, fj_sJ, fi_nO, fr_nO, z.1, z.2]
  have v1 : fi (sR (sR (sI (sI (sI (sI (nO h 28 7) 184 (nx h) 1) 182 (nx h) pl) 220 (nx h) (-1)) 217 (nx h) c) 218 (nx h) a) 219 (nx h) b) 217 (nx h) = c := by simp [fi_sI, fi_sR, fi_sJ, fr_sI, fr_sR, fr_sJ, fj_sI, fj_sR, fj_sJ, fi_nO, fr_nO, z.1, z.2]
  have v2 : fr (sR (sR (sI (sI (sI (sI (nO h 28 7) 184 (nx h) 1) 182 (nx h) pl) 220 (nx h) (-1)) 217 (nx h) c) 218 (nx h) a) 219 (nx h) b) 218 (nx h) = a := by simp [fi_sI, fi_sR, fi_sJ, fr_sI, fr_sR, fr_sJ, fj_sI, fj_sR, fj_sJ, fi_nO, fr_nO, z.1, z.2]
  have v3 : fr (sR (sR (sI (sI (sI (sI (nO h 28 7) 184 (nx h) 1) 182 (nx h) pl) 220 (nx h) (-1)) 217 (nx h) c) 218 (nx h) a) 219 (nx h) b) 219 (nx h) = b := by simp [fi_sI, fi_sR, fi_sJ, fr_sI, fr_sR, fr_sJ, fj_sI, fj_sR, fj_sJ, fi_nO, fr_nO, z.1, z.2]
  have na : a ≠ nx h := w.ne rfl (fun y => by rw [y] at ka; exact absurd ka (by decide))
  have kka : kc (sR (sR (sI (sI (sI (sI (nO h 28 7) 184 (nx h) 1) 182 (nx h) pl) 220 (nx h) (-1)) 217 (nx h) c) 218 (nx h) a) 219 (nx h) b) a ∈ ksNode := by show (if a = nx h then 28 else kc h a) ∈ ksNode; rw [if_neg na]; exact ka
  have ffa : fi (sR (sR (sI (sI (sI (sI (nO h 28 7) 184 (nx h) 1) 182 (nx h) pl) 220 (nx h) (-1)) 217 (nx h) c) 218 (nx h) a) 219 (nx h) b) 184 a = nI Ha := by simp [fi_sI, fi_sR, fi_sJ, fi_nO, na]; exact fa
  have nb : b ≠ nx h := w.ne rfl (fun y => by rw [y] at kb; exact absurd kb (by decide))
  have kkb : kc (sR (sR (sI (sI (sI (sI (nO h 28 7) 184 (nx h) 1) 182 (nx h) pl) 220 (nx h) (-1)) 217 (nx h) c) 218 (nx h) a) 219 (nx h) b) b ∈ ksNode := by show (if b = nx h then 28 else kc h b) ∈ ksNode; rw [if_neg nb]; exact kb
  have ffb : fi (sR (sR (sI (sI (sI (sI (nO h 28 7) 184 (nx h) 1) 182 (nx h) pl) 220 (nx h) (-1)) 217 (nx h) c) 218 (nx h) a) 219 (nx h) b) 184 b = nI Hb := by simp [fi_sI, fi_sR, fi_sJ, fi_nO, nb]; exact fb
  generalize sR (sR (sI (sI (sI (sI (nO h 28 7) 184 (nx h) 1) 182 (nx h) pl) 220 (nx h) (-1)) 217 (nx h) c) 218 (nx h) a) 219 (nx h) b = hh at *
  have km1 : kc hh (nx h) ∈ ksNode := by rw [k1]; decide
  refine ⟨sI (sI (hh) 184 (nx h) (nI (max 1 (Ha + 1)))) 184 (nx h) (nI (max (max 1 (Ha + 1)) (Hb + 1))), fun β K => by rw [nwO_e, if_pos kn, hi, bd_ok, if_pos (show kc (hh) (nx h) ∈ [28] from by show kc hh (nx h) ∈ _; rw [k1]; decide), over_e (h := hh) km1 kka g3 ffa (by omega) (by omega), if_pos (show kc (sI (hh) 184 (nx h) (nI (max 1 (Ha + 1)))) (nx h) ∈ [16, 17, 18, 19, 20, 21, 22, 23, 24, 25, 27, 28, 29] from by show kc hh (nx h) ∈ _; rw [k1]; decide), over_e (h := sI (hh) 184 (nx h) (nI (max 1 (Ha + 1)))) km1 kkb (show fi (sI (hh) 184 (nx h) (nI (max 1 (Ha + 1)))) 184 (nx h) = nI (max 1 (Ha + 1)) from by simp [fi_sI]) (show fi (sI (hh) 184 (nx h) (nI (max 1 (Ha + 1)))) 184 b = nI Hb from by simp [fi_sI, nb]; exact ffb) (by omega) (by omega)], ((s1).sI k1 (by decide) (.inl hnew)).sI k1 (by decide) (.inl hnew), k1, by simp [fi_sI]; exact g1, g2, by simp [fi_sI], by simp [fi_sI]; exact v0, by simp [fi_sI]; exact v1, v2, v3⟩
theorem xk_cnd {h : HP} (w : WG h) {pl : Int32} {a : Nat} {b : Nat} {d : Nat} {Ha : Nat} (ka : kc h a ∈ ksNode) (fa : fi h 184 a = nI Ha) (la : Ha ≤ 1000) {Hb : Nat} (kb : kc h b ∈ ksNode) (fb : fi h 184 b = nI Hb) (lb : Hb ≤ 1000) {Hd : Nat} (kd : kc h d ∈ ksNode) (fd : fi h 184 d = nI Hd) (ld : Hd ≤ 1000) :
    ∃ h', (∀ (β : Type) (K : Nat → HP → Rs β), nwO 29 6 h (fun p h1 => if kc h1 p = 29 then bd (f_X29_init p pl a b d h1) (fun _ h2 => if kc h2 p ∈ [29] then bd (f_X15_over p a h2) (fun x3 h3 => if kc h3 x3 ∈ [16, 17, 18, 19, 20, 21, 22, 23, 24, 25, 27, 28, 29] then bd (f_X15_over x3 b h3) (fun x4 h4 => if kc h4 x4 ∈ [16, 17, 18, 19, 20, 21, 22, 23, 24, 25, 27, 28, 29] then bd (f_X15_over x4 d h4) K else none) else none) else none) else none) = K (nx h) h') ∧ St [] [] 1 h h' ∧ kc h' (nx h) = 29 ∧ fi h' 182 (nx h) = pl ∧ fr h' 183 (nx h) = 0 ∧ fi h' 184 (nx h) = nI (max (max (max 1 (Ha + 1)) (Hb + 1)) (Hd + 1)) ∧ fr h' 221 (nx h) = a ∧ fr h' 222 (nx h) = b ∧ fr h' 223 (nx h) = d := by
  have hn0 : nx h ≠ 0 := by have := w.1; omega
  have hnew : kc h (nx h) = 0 := w.new
  have z := new0 w
  have kn : kc (nO h 29 6) (nx h) = 29 := kc_nO_n
  have km : kc (nO h 29 6) (nx h) ∈ ksNode := by rw [kn]; decide
  have hi : f_X29_init (nx h) pl a b d (nO h 29 6) = rok () (sR (sR (sR (sI (sI (nO h 29 6) 184 (nx h) 1) 182 (nx h) pl) 221 (nx h) a) 222 (nx h) b) 223 (nx h) d) := by
    unfold f_X29_init f_X15_init
    rw [if_pos kn, if_neg hn0, stMI_e, stMI_e, bd_ok, stR_e, stR_e, stR_e]
    all_goals first | exact kn | exact km
  have s1 : St [] [] 1 h (sR (sR (sR (sI (sI (nO h 29 6) 184 (nx h) 1) 182 (nx h) pl) 221 (nx h) a) 222 (nx h) b) 223 (nx h) d) := (((((((St.refl w [] []).nO (k := 29) (n := 6) (b := 1) (by omega) (by omega)).sI kn (by decide) (.inl hnew)).sI kn (by decide) (.inl hnew)).sR kn (by decide) (.inl hnew)).sR kn (by decide) (.inl hnew)).sR kn (by decide) (.inl hnew)).le (by omega)
  have k1 : kc (sR (sR (sR (sI (sI (nO h 29 6) 184 (nx h) 1) 182 (nx h) pl) 221 (nx h) a) 222 (nx h) b) 223 (nx h) d) (nx h) = 29 := kn
  have g1 : fi (sR (sR (sR (sI (sI (nO h 29 6) 184 (nx h) 1) 182 (nx h) pl) 221 (nx h) a) 222 (nx h) b) 223 (nx h) d) 182 (nx h) = pl := by simp [fi_sI, fi_sR, fi_sJ]
  have g2 : fr (sR (sR (sR (sI (sI (nO h 29 6) 184 (nx h) 1) 182 (nx h) pl) 221 (nx h) a) 222 (nx h) b) 223 (nx h) d) 183 (nx h) = 0 := by simp [fr_sI, fr_sR, fr_sJ, fr_nO, z.2]
  have g3 : fi (sR (sR (sR (sI (sI (nO h 29 6) 184 (nx h) 1) 182 (nx h) pl) 221 (nx h) a) 222 (nx h) b) 223 (nx h) d) 184 (nx h) = nI 1 := by simp [fi_sI, fi_sR, fi_sJ]; rfl
  have v0 : fr (sR (sR (sR (sI (sI (nO h 29 6) 184 (nx h) 1) 182 (nx h) pl) 221 (nx h) a) 222 (nx h) b) 223 (nx h) d) 221 (nx h) = a := by simp [fi_sI, fi_sR, fi_sJ, fr_sI, fr_sR, fr_sJ, fj_sI, fj_sR, fj_sJ, fi_nO, fr_nO, z.1, z.2]
  have v1 : fr (sR (sR (sR (sI (sI (nO h 29 6) 184 (nx h) 1) 182 (nx h) pl) 221 (nx h) a) 222 (nx h) b) 223 (nx h) d) 222 (nx h) = b := by simp [fi_sI, fi_sR, fi_sJ, fr_sI, fr_sR, fr_sJ, fj_sI, fj_sR, fj_sJ, fi_nO, fr_nO, z.1, z.2]
  have v2 : fr (sR (sR (sR (sI (sI (nO h 29 6) 184 (nx h) 1) 182 (nx h) pl) 221 (nx h) a) 222 (nx h) b) 223 (nx h) d) 223 (nx h) = d := by simp [fi_sI, fi_sR, fi_sJ, fr_sI, fr_sR, fr_sJ, fj_sI, fj_sR, fj_sJ, fi_nO, fr_nO, z.1, z.2]
  have na : a ≠ nx h := w.ne rfl (fun y => by rw [y] at ka; exact absurd ka (by decide))
  have kka : kc (sR (sR (sR (sI (sI (nO h 29 6) 184 (nx h) 1) 182 (nx h) pl) 221 (nx h) a) 222 (nx h) b) 223 (nx h) d) a ∈ ksNode := by show (if a = nx h then 29 else kc h a) ∈ ksNode; rw [if_neg na]; exact ka
  have ffa : fi (sR (sR (sR (sI (sI (nO h 29 6) 184 (nx h) 1) 182 (nx h) pl) 221 (nx h) a) 222 (nx h) b) 223 (nx h) d) 184 a = nI Ha := by simp [fi_sI, fi_sR, fi_sJ, fi_nO, na]; exact fa
  have nb : b ≠ nx h := w.ne rfl (fun y => by rw [y] at kb; exact absurd kb (by decide))
  have kkb : kc (sR (sR (sR (sI (sI (nO h 29 6) 184 (nx h) 1) 182 (nx h) pl) 221 (nx h) a) 222 (nx h) b) 223 (nx h) d) b ∈ ksNode := by show (if b = nx h then 29 else kc h b) ∈ ksNode; rw [if_neg nb]; exact kb
  have ffb : fi (sR (sR (sR (sI (sI (nO h 29 6) 184 (nx h) 1) 182 (nx h) pl) 221 (nx h) a) 222 (nx h) b) 223 (nx h) d) 184 b = nI Hb := by simp [fi_sI, fi_sR, fi_sJ, fi_nO, nb]; exact fb
  have nd : d ≠ nx h := w.ne rfl (fun y => by rw [y] at kd; exact absurd kd (by decide))
  have kkd : kc (sR (sR (sR (sI (sI (nO h 29 6) 184 (nx h) 1) 182 (nx h) pl) 221 (nx h) a) 222 (nx h) b) 223 (nx h) d) d ∈ ksNode := by show (if d = nx h then 29 else kc h d) ∈ ksNode; rw [if_neg nd]; exact kd
  have ffd : fi (sR (sR (sR (sI (sI (nO h 29 6) 184 (nx h) 1) 182 (nx h) pl) 221 (nx h) a) 222 (nx h) b) 223 (nx h) d) 184 d = nI Hd := by simp [fi_sI, fi_sR, fi_sJ, fi_nO, nd]; exact fd
  generalize sR (sR (sR (sI (sI (nO h 29 6) 184 (nx h) 1) 182 (nx h) pl) 221 (nx h) a) 222 (nx h) b) 223 (nx h) d = hh at *
  have km1 : kc hh (nx h) ∈ ksNode := by rw [k1]; decide
  refine ⟨sI (sI (sI (hh) 184 (nx h) (nI (max 1 (Ha + 1)))) 184 (nx h) (nI (max (max 1 (Ha + 1)) (Hb + 1)))) 184 (nx h) (nI (max (max (max 1 (Ha + 1)) (Hb + 1)) (Hd + 1))), fun β K => by rw [nwO_e, if_pos kn, hi, bd_ok, if_pos (show kc (hh) (nx h) ∈ [29] from by show kc hh (nx h) ∈ _; rw [k1]; decide), over_e (h := hh) km1 kka g3 ffa (by omega) (by omega), if_pos (show kc (sI (hh) 184 (nx h) (nI (max 1 (Ha + 1)))) (nx h) ∈ [16, 17, 18, 19, 20, 21, 22, 23, 24, 25, 27, 28, 29] from by show kc hh (nx h) ∈ _; rw [k1]; decide), over_e (h := sI (hh) 184 (nx h) (nI (max 1 (Ha + 1)))) km1 kkb (show fi (sI (hh) 184 (nx h) (nI (max 1 (Ha + 1)))) 184 (nx h) = nI (max 1 (Ha + 1)) from by simp [fi_sI]) (show fi (sI (hh) 184 (nx h) (nI (max 1 (Ha + 1)))) 184 b = nI Hb from by simp [fi_sI, nb]; exact ffb) (by omega) (by omega), if_pos (show kc (sI (sI (hh) 184 (nx h) (nI (max 1 (Ha + 1)))) 184 (nx h) (nI (max (max 1 (Ha + 1)) (Hb + 1)))) (nx h) ∈ [16, 17, 18, 19, 20, 21, 22, 23, 24, 25, 27, 28, 29] from by show kc hh (nx h) ∈ _; rw [k1]; decide), over_e (h := sI (sI (hh) 184 (nx h) (nI (max 1 (Ha + 1)))) 184 (nx h) (nI (max (max 1 (Ha + 1)) (Hb + 1)))) km1 kkd (show fi (sI (sI (hh) 184 (nx h) (nI (max 1 (Ha + 1)))) 184 (nx h) (nI (max (max 1 (Ha + 1)) (Hb + 1)))) 184 (nx h) = nI (max (max 1 (Ha + 1)) (Hb + 1)) from by simp [fi_sI]) (show fi (sI (sI (hh) 184 (nx h) (nI (max 1 (Ha + 1)))) 184 (nx h) (nI (max (max 1 (Ha + 1)) (Hb + 1)))) 184 d = nI Hd from by simp [fi_sI, nd]; exact ffd) (by omega) (by omega)], (((s1).sI k1 (by decide) (.inl hnew)).sI k1 (by decide) (.inl hnew)).sI k1 (by decide) (.inl hnew), k1, by simp [fi_sI]; exact g1, g2, by simp [fi_sI], v0, v1, v2⟩
theorem xk_cal {h : HP} (w : WG h) {pl : Int32} {f : Nat} {s : Nat} {l : Nat} :
    ∃ h', (∀ (β : Type) (K : Nat → HP → Rs β), nwO 20 8 h (fun p h1 => if kc h1 p = 20 then bd (f_X20_init p pl f s l h1) (fun _ h2 => K p h2) else none) = K (nx h) h') ∧ St [] [] 1 h h' ∧ kc h' (nx h) = 20 ∧ fi h' 182 (nx h) = pl ∧ fr h' 183 (nx h) = 0 ∧ fi h' 184 (nx h) = nI (1) ∧ fr h' 191 (nx h) = f ∧ fr h' 192 (nx h) = s ∧ fr h' 193 (nx h) = l ∧ fr h' 194 (nx h) = 0 ∧ fi h' 195 (nx h) = 0 := by
  have hn0 : nx h ≠ 0 := by have := w.1; omega
  have hnew : kc h (nx h) = 0 := w.new
  have z := new0 w
  have kn : kc (nO h 20 8) (nx h) = 20 := kc_nO_n
  have km : kc (nO h 20 8) (nx h) ∈ ksNode := by rw [kn]; decide
  have hi : f_X20_init (nx h) pl f s l (nO h 20 8) = rok () (sR (sR (sR (sI (sI (nO h 20 8) 184 (nx h) 1) 182 (nx h) pl) 191 (nx h) f) 192 (nx h) s) 193 (nx h) l) := by
    unfold f_X20_init f_X15_init
    rw [if_pos kn, if_neg hn0, stMI_e, stMI_e, bd_ok, stR_e, stR_e, stR_e]
    all_goals first | exact kn | exact km
  have s1 : St [] [] 1 h (sR (sR (sR (sI (sI (nO h 20 8) 184 (nx h) 1) 182 (nx h) pl) 191 (nx h) f) 192 (nx h) s) 193 (nx h) l) := (((((((St.refl w [] []).nO (k := 20) (n := 8) (b := 1) (by omega) (by omega)).sI kn (by decide) (.inl hnew)).sI kn (by decide) (.inl hnew)).sR kn (by decide) (.inl hnew)).sR kn (by decide) (.inl hnew)).sR kn (by decide) (.inl hnew)).le (by omega)
  have k1 : kc (sR (sR (sR (sI (sI (nO h 20 8) 184 (nx h) 1) 182 (nx h) pl) 191 (nx h) f) 192 (nx h) s) 193 (nx h) l) (nx h) = 20 := kn
  have g1 : fi (sR (sR (sR (sI (sI (nO h 20 8) 184 (nx h) 1) 182 (nx h) pl) 191 (nx h) f) 192 (nx h) s) 193 (nx h) l) 182 (nx h) = pl := by simp [fi_sI, fi_sR, fi_sJ]
  have g2 : fr (sR (sR (sR (sI (sI (nO h 20 8) 184 (nx h) 1) 182 (nx h) pl) 191 (nx h) f) 192 (nx h) s) 193 (nx h) l) 183 (nx h) = 0 := by simp [fr_sI, fr_sR, fr_sJ, fr_nO, z.2]
  have g3 : fi (sR (sR (sR (sI (sI (nO h 20 8) 184 (nx h) 1) 182 (nx h) pl) 191 (nx h) f) 192 (nx h) s) 193 (nx h) l) 184 (nx h) = nI 1 := by simp [fi_sI, fi_sR, fi_sJ]; rfl
  have v0 : fr (sR (sR (sR (sI (sI (nO h 20 8) 184 (nx h) 1) 182 (nx h) pl) 191 (nx h) f) 192 (nx h) s) 193 (nx h) l) 191 (nx h) = f := by simp [fi_sI, fi_sR, fi_sJ, fr_sI, fr_sR, fr_sJ, fj_sI, fj_sR, fj_sJ, fi_nO, fr_nO, z.1, z.2]
  have v1 : fr (sR (sR (sR (sI (sI (nO h 20 8) 184 (nx h) 1) 182 (nx h) pl) 191 (nx h) f) 192 (nx h) s) 193 (nx h) l) 192 (nx h) = s := by simp [fi_sI, fi_sR, fi_sJ, fr_sI, fr_sR, fr_sJ, fj_sI, fj_sR, fj_sJ, fi_nO, fr_nO, z.1, z.2]
  have v2 : fr (sR (sR (sR (sI (sI (nO h 20 8) 184 (nx h) 1) 182 (nx h) pl) 191 (nx h) f) 192 (nx h) s) 193 (nx h) l) 193 (nx h) = l := by simp [fi_sI, fi_sR, fi_sJ, fr_sI, fr_sR, fr_sJ, fj_sI, fj_sR, fj_sJ, fi_nO, fr_nO, z.1, z.2]
  have v3 : fr (sR (sR (sR (sI (sI (nO h 20 8) 184 (nx h) 1) 182 (nx h) pl) 191 (nx h) f) 192 (nx h) s) 193 (nx h) l) 194 (nx h) = 0 := by simp [fi_sI, fi_sR, fi_sJ, fr_sI, fr_sR, fr_sJ, fj_sI, fj_sR, fj_sJ, fi_nO, fr_nO, z.1, z.2]
  have v4 : fi (sR (sR (sR (sI (sI (nO h 20 8) 184 (nx h) 1) 182 (nx h) pl) 191 (nx h) f) 192 (nx h) s) 193 (nx h) l) 195 (nx h) = 0 := by simp [fi_sI, fi_sR, fi_sJ, fr_sI, fr_sR, fr_sJ, fj_sI, fj_sR, fj_sJ, fi_nO, fr_nO, z.1, z.2]
  generalize sR (sR (sR (sI (sI (nO h 20 8) 184 (nx h) 1) 182 (nx h) pl) 191 (nx h) f) 192 (nx h) s) 193 (nx h) l = hh at *
  exact ⟨hh, fun β K => by rw [nwO_e, if_pos kn, hi, bd_ok], s1, k1, g1, g2, g3, v0, v1, v2, v3, v4⟩
