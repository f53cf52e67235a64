/-! PHASE B declarations 21: a member -/
set_option maxRecDepth 100000
variable {e : EE} {Zx Zm : List Nat} {hx hm h h1 h2 h' hx0 hm0 hxA hmA : HP} {i j a b k X Y bx bm l1 l2 l3 : Nat} {IT : List It} {TY : List Ty} {QU : List (List Nat)} {F G : Nat → Prop} {KL : List Nat} {d : DC} {TY' : List Ty} {QU' : List (List Nat)} {num : Nat × Nat}
theorem xtypeN (p : PX e hx i TY QU) (q : PM e hm i IT TY QU) (c : ¬ ((tk e.TS i).1 = 1 ∨ plT (tk e.TS i))) : ∃ hx', f_X10_type e.P hx = rex hx' ∧ XS e (50 * (e.TS.length - i)) hx hx' ∧ StopX e hx' (tk e.TS i).2.1 := by
  obtain ⟨hm', e1, s1, f1⟩ := mtypeN q c
  have e2 := e1 Nat (fun v h => rok v h)
  rcases ty_pair p q with ⟨n, m, hx1, hm1, j, T, a1, a2, _⟩ | ⟨⟨P, hx', a1, a2, a3, a4⟩, V⟩
  · rw [a2, bd_ok] at e2; cases e2
  · rcases a4 with ⟨h5, b1, b2, b3⟩ | ⟨v, h5, b1, b2, b3⟩
    · rw [b1, bd_ex] at e2
      have : h5 = hm' := by cases e2; rfl
      rw [this] at b3
      exact ⟨hx', a1, a2, a3.1, a3.2.trans (b3.2.symm.trans f1.2)⟩
    · rw [b1, bd_ok] at e2; cases e2
/-- the word before a member: 1 abstract, 2 default -/
def wdO (T : Tk) : Nat := if isW T (codes (cStr.getD (36 - 1) "")) then 1 else if isW T (codes (cStr.getD (45 - 1) "")) then 2 else 0
/-- the twin's method is begun -/
theorem b45_e (q : PM e hm i IT TY QU) (nl : kc hm e.nl = 168) {tA pl : Nat} {s0 : Int32} (kt : kc hm tA = 44) (ft : fi hm 350 tA = nI pl) :
    ∃ hm2, f_X48_member_b45 e.Q k tA s0 hm = (if s0 = 0 then (ldI 47 363 k hm2 fun x2 => if x2 = (1 : Int32) then f_X48_member_b130 e.Q k tA s0 (nx hm) hm2 else f_X48_member_b113 e.Q k tA s0 (nx hm) hm2) else f_X48_member_b113 e.Q k tA s0 (nx hm) hm2) ∧ St [] [] 2 hm hm2 ∧ PM e hm2 i IT TY QU ∧ MeP (Fb (nx hm) (nx hm2)) hm2 (nx hm) k (wdO (tk e.TS i)) pl ∧ kc hm2 tA = 44 ∧ fi hm2 350 tA = nI pl := by
  obtain ⟨hA, eA, sA, nA, c0, c1, f391, f392, f393, f394, cp1, ls1⟩ := mk_met q.1
  have zp : kc hm (nx hm) = 0 := q.1.new
  have kn : kc (nO hm 50 9) (nx hm) = 50 := kc_nO_n
  have cat0 : ∀ {hB hC : HP} {c1 c2 : Nat}, St [] [] c1 hm hB → St [] [nx hm] c2 hB hC → St [] [] (c1 + c2) hm hC := fun s t => s.cat t (fun _ z => z) (fun x hx => .inr (.inl (by rw [List.mem_singleton.mp hx]; exact zp)))
  have wr : ∀ {hB : HP}, WG hB → kc hB (nx hm) = 50 → ∀ {f v}, St [] [nx hm] 0 hB (sR hB f (nx hm) v) := fun {hB} w y {f v} => (St.refl w [] [_]).sR y (by decide) (.inr (.inr (by simp)))
  have wi : ∀ {hB : HP}, WG hB → kc hB (nx hm) = 50 → ∀ {f v}, St [] [nx hm] 0 hB (sI hB f (nx hm) v) := fun {hB} w y {f v} => (St.refl w [] [_]).sI y (by decide) (.inr (.inr (by simp)))
  have s1 := cat0 sA (wr sA.1 c0 (f := 386) (v := k))
  have s2 := cat0 s1 (wi s1.1 (show kc (sR hA 386 (nx hm) k) (nx hm) = 50 from c0) (f := 387) (v := nI pl))
  have k2 : kc (sI (sR hA 386 (nx hm) k) 387 (nx hm) (nI pl)) (nx hm) = 50 := c0
  have q2 := q.new s2
  have T := (s2.fr (S := fun _ => true) (by simp) (by simp)).at kt (by decide) rfl
  have tA1 : kc (sR hA 386 (nx hm) k) tA = 44 := T.1
  have pt : tA ≠ nx hm := fun z => by rw [z, zp] at kt; cases kt
  have fA1 : fi (sR hA 386 (nx hm) k) 350 tA = nI pl := by
    have := (s1.fr (S := fun _ => true) (by simp) (by simp)).at kt (by decide) rfl
    exact (this.2.2.1 350).trans ft
  have s3 := cat0 s2 (wi s2.1 k2 (f := 388) (v := nI (wdO (tk e.TS i))))
  have q3 := q.new s3
  have T3 := (s3.fr (S := fun _ => true) (by simp) (by simp)).at kt (by decide) rfl
  refine ⟨sI (sI (sR hA 386 (nx hm) k) 387 (nx hm) (nI pl)) 388 (nx hm) (nI (wdO (tk e.TS i))), ?_, s3.le (by omega), q3, ⟨c0, ?_, ?_, ?_, ?_, ?_, ?_⟩, T3.1, (T3.2.2.1 350).trans ft⟩
  · unfold f_X48_member_b45
    rw [nwO_e, if_pos kn, eA, stR_e c0, ldI_e tA1, fA1, stI_e (show kc (sR hA 386 (nx hm) k) (nx hm) = 50 from c0), m46_e q2, misK_e q2 (by decide) (by decide) rfl]
    unfold wdO
    by_cases c : isW (tk e.TS i) (codes (cStr.getD (36 - 1) ""))
    · rw [if_pos c, if_pos c, if_neg z10]
      unfold f_X48_member_b98
      rw [stI_e k2]; rfl
    · rw [if_neg c, if_neg c, if_pos y00, m46_e q2, misK_e q2 (by decide) (by decide) rfl]
      by_cases c2 : isW (tk e.TS i) (codes (cStr.getD (45 - 1) ""))
      · rw [if_pos c2, if_pos c2, if_neg z10]
        unfold f_X48_member_b98
        rw [stI_e k2]; rfl
      · rw [if_neg c2, if_neg c2, if_pos y00]
        unfold f_X48_member_b98
        rw [stI_e k2]; rfl
  · show fr (sR hA 386 (nx hm) k) 386 (nx hm) = k
    rw [fr_sR, if_pos ⟨rfl, rfl⟩]
  · rw [fi_sI, if_neg (fun y => absurd y.1 (by decide)), fi_sI, if_pos ⟨rfl, rfl⟩]
  · rw [fi_sI, if_pos ⟨rfl, rfl⟩]
  · rw [show fr (sI (sI (sR hA 386 (nx hm) k) 387 (nx hm) (nI pl)) 388 (nx hm) (nI (wdO (tk e.TS i)))) 391 (nx hm) = nx hm + 1 from by
      show fr (sR hA 386 (nx hm) k) 391 (nx hm) = nx hm + 1
      rw [fr_sR, if_neg (fun y => absurd y.1 (by decide))]; exact f391]
    have hF : Fb (nx hm) (nx hA) (nx hm + 1) := ⟨by omega, by omega⟩
    exact ⟨hF, c1, cp1, by show A2 _ (ls hA (nx hm + 1)) []; rw [ls1]; exact True.intro⟩
  · show fr (sR hA 386 (nx hm) k) 392 (nx hm) = 0
    rw [fr_sR, if_neg (fun y => absurd y.1 (by decide))]; exact f392
  · show fr (sR hA 386 (nx hm) k) 394 (nx hm) = 0
    rw [fr_sR, if_neg (fun y => absurd y.1 (by decide))]; exact f394
theorem wdO_b (T : Tk) : wdO T ≤ 2 := by unfold wdO; split; omega; split <;> omega
theorem member_pair (C : Dc e Zx Zm hx0 hm0) (Cu : Cur e bx bm hx hm a k num d) (hl : d.2.2.2.2.2.1.length ≤ 300) (hbx : bx ≤ nx hx) (hbm : bm ≤ nx hm) (Bb : Bx Zx Zm hx0 hm0 bx bm) (hform : d.1 ≤ 4) (S : Dq e Zx Zm hx0 hm0 X Y hx hm i TY QU []) :
    MDon e Zx Zm hx0 hm0 bx bm X Y a k num d i (f_X11_member e.P a (nI d.met.length) (nI (tk e.TS i).2.1) hx) (f_X48_member e.Q k hm) ∨
    DF e Zx Zm hx0 hm0 (X + 88 * (e.TS.length - i)) (Y + 88 * (e.TS.length - i)) (f_X11_member e.P a (nI d.met.length) (nI (tk e.TS i).2.1) hx) (f_X48_member e.Q k hm) := by
  have p0 := S.2.2.1.1
  have q0 := S.2.2.2
  have kP := (S.cl C).2.1
  have nl := (S.cl C).2.2
  have hi := q0.jj.1
  have W : Mw e Zx Zm hx0 hm0 hx hm bx bm X Y hx hm i TY QU [] := Mw.beg S
  have M0 := S.mb0
  obtain ⟨m1, m2, m3, m4, m5, m6⟩ := q0.mt0
  have w36 : codes (cStr.getD (36 - 1) "") ∈ KW := by decide
  have w45 : codes (cStr.getD (45 - 1) "") ∈ KW := by decide
  have i36 := isX_W p0.V w36
  have i45 := isX_W p0.V w45
  have ne : ¬ (isW (tk e.TS i) (codes (cStr.getD (36 - 1) "")) ∧ isW (tk e.TS i) (codes (cStr.getD (45 - 1) ""))) := fun z => absurd (z.1.2.symm.trans z.2.2) (by decide)
  -- the component's flags
  have eX : f_X11_member e.P a (nI d.met.length) (nI (tk e.TS i).2.1) hx = (if wdO (tk e.TS i) = 0 ∧ d.1 = 1 then f_X11_member_b50 e.P a (nI d.met.length) (nI (tk e.TS i).2.1) (if wdO (tk e.TS i) = 1 then 1 else 0) (if wdO (tk e.TS i) = 2 then 1 else 0) (0 : Int32) hx else f_X11_member_b45 e.P a (nI d.met.length) (nI (tk e.TS i).2.1) (if wdO (tk e.TS i) = 1 then 1 else 0) (if wdO (tk e.TS i) = 2 then 1 else 0) hx) := by
    have hw : ∀ {A B : Int32 → Int32 → Rs Nat} {x y : Int32}, x = (if wdO (tk e.TS i) = 1 then 1 else 0) → y = (if wdO (tk e.TS i) = 2 then 1 else 0) → (if x = 0 then (if y = 0 then (ldR 13 163 a hx fun x8 => ldR 4 32 x8 hx fun x9 => eqS x9 903 (A x y) (B x y)) else B x y) else B x y) = if wdO (tk e.TS i) = 0 ∧ d.1 = 1 then A (if wdO (tk e.TS i) = 1 then 1 else 0) (if wdO (tk e.TS i) = 2 then 1 else 0) else B (if wdO (tk e.TS i) = 1 then 1 else 0) (if wdO (tk e.TS i) = 2 then 1 else 0) := fun {A B x y} hx hy => by
      rw [wd_e Cu.1 hx hy (wdO_b _), hx, hy]
    unfold f_X11_member
    rw [xt12_e kP p0, x10_e p0, xis_e p0 (by decide) (by decide) rfl]
    by_cases c : isW (tk e.TS i) (codes (cStr.getD (36 - 1) ""))
    · have w1 : wdO (tk e.TS i) = 1 := by unfold wdO; rw [if_pos c]
      rw [if_pos (i36.mpr c), xt12_e kP p0, x10_e p0, xis_e p0 (by decide) (by decide) rfl, if_neg (fun z => ne ⟨c, i45.mp z⟩)]
      exact hw (A := fun x y => f_X11_member_b50 e.P a (nI d.met.length) (nI (tk e.TS i).2.1) x y (0 : Int32) hx) (B := fun x y => f_X11_member_b45 e.P a (nI d.met.length) (nI (tk e.TS i).2.1) x y hx) (by rw [w1]; rfl) (by rw [w1]; rfl)
    · rw [if_neg (fun z => c (i36.mp z)), xt12_e kP p0, x10_e p0, xis_e p0 (by decide) (by decide) rfl]
      by_cases c2 : isW (tk e.TS i) (codes (cStr.getD (45 - 1) ""))
      · have w1 : wdO (tk e.TS i) = 2 := by unfold wdO; rw [if_neg c, if_pos c2]
        rw [if_pos (i45.mpr c2)]
        exact hw (A := fun x y => f_X11_member_b50 e.P a (nI d.met.length) (nI (tk e.TS i).2.1) x y (0 : Int32) hx) (B := fun x y => f_X11_member_b45 e.P a (nI d.met.length) (nI (tk e.TS i).2.1) x y hx) (by rw [w1]; rfl) (by rw [w1]; rfl)
      · have w1 : wdO (tk e.TS i) = 0 := by unfold wdO; rw [if_neg c, if_neg c2]
        rw [if_neg (fun z => c2 (i45.mp z))]
        exact hw (A := fun x y => f_X11_member_b50 e.P a (nI d.met.length) (nI (tk e.TS i).2.1) x y (0 : Int32) hx) (B := fun x y => f_X11_member_b45 e.P a (nI d.met.length) (nI (tk e.TS i).2.1) x y hx) (by rw [w1]; rfl) (by rw [w1]; rfl)
  -- the twin's
  have eM : f_X48_member e.Q k hm = (if wdO (tk e.TS i) = 0 then (if (tk e.TS i).1 = 1 ∨ plT (tk e.TS i) then f_X48_member_b45 e.Q k (e.tok hm i) 0 hm else (if kc hm e.Q = 46 then bd (f_X48_wrong e.Q hm) (fun x3 h4 => if kc h4 x3 = 69 then rex h4 else none) else none)) else f_X48_member_b45 e.Q k (e.tok hm i) 1 hm) := by
    unfold f_X48_member
    rw [m46_e q0, mtok_e q0, m46_e q0, misK_e q0 (by decide) (by decide) rfl]
    unfold f_X48_member_b23 f_X48_member_b28
    by_cases c : isW (tk e.TS i) (codes (cStr.getD (36 - 1) ""))
    · have w1 : wdO (tk e.TS i) = 1 := by unfold wdO; rw [if_pos c]
      rw [if_pos c, if_neg z10, w1, if_neg z10, if_neg (by decide)]
    · rw [if_neg c, if_pos y00, m46_e q0, misK_e q0 (by decide) (by decide) rfl]
      by_cases c2 : isW (tk e.TS i) (codes (cStr.getD (45 - 1) ""))
      · have w1 : wdO (tk e.TS i) = 2 := by unfold wdO; rw [if_neg c, if_pos c2]
        rw [if_pos c2, if_neg z10, w1, if_neg z10, if_neg (by decide)]
      · have w1 : wdO (tk e.TS i) = 0 := by unfold wdO; rw [if_neg c, if_neg c2]
        rw [if_neg c2, if_pos y00, w1, if_pos rfl, if_pos rfl, m46_e q0, mbeg_e q0]
        by_cases c3 : (tk e.TS i).1 = 1 ∨ plT (tk e.TS i)
        · rw [if_pos c3, if_pos c3, if_neg z10]
        · rw [if_neg c3, if_neg c3, if_pos y00]
  have lm := (own_len d).2.1
  -- too many methods: both fail at the member's place
  have xl : ∀ {a4 a5 : Int32}, d.met.length = 20 → ∃ hx', f_X11_member_b50 e.P a (nI d.met.length) (nI (tk e.TS i).2.1) a4 a5 (1 : Int32) hx = rex hx' ∧ St [] [e.t, e.st] 0 hx hx' ∧ StopX e hx' (tk e.TS i).2.1 := fun c20 => by
    obtain ⟨hx9, e9, s9', f9⟩ := xlim p0 (k := (tk e.TS i).2.1)
    refine ⟨hx9, ?_, s9', f9⟩
    unfold f_X11_member_b50
    rw [if_neg z10, if_pos (show nI d.met.length = (20 : Int32) by rw [c20]; rfl), xst_e kP p0, e9]
  have n20 : d.met.length ≠ 20 → ¬ nI d.met.length = (20 : Int32) := fun y z => y ((nk _ (c := 20) (C := (20 : Int32)) rfl (by omega) (by omega)).mp z)
  rw [eX, eM]
  by_cases cb : wdO (tk e.TS i) = 0 ∧ ¬ ((tk e.TS i).1 = 1 ∨ plT (tk e.TS i))
  · obtain ⟨hm9, ea, sa, fa⟩ := mwrong q0
    obtain ⟨hx7, e7, s7, f7⟩ := xtypeN p0 q0 cb.2
    have b90 : f_X11_member_b90 e.P a (nI d.met.length) (nI (tk e.TS i).2.1) (if wdO (tk e.TS i) = 1 then 1 else 0) (if wdO (tk e.TS i) = 2 then 1 else 0) hx = rex hx7 := by
      unfold f_X11_member_b90
      rw [if_pos (by rw [kP]; simp), e7, bd_ex]
    have b73 : f_X11_member_b73 e.P a (nI d.met.length) (nI (tk e.TS i).2.1) (if wdO (tk e.TS i) = 1 then 1 else 0) (if wdO (tk e.TS i) = 2 then 1 else 0) hx = rex hx7 := by
      unfold f_X11_member_b73
      rw [cb.1, if_pos (by rfl), if_pos (by rfl)]
      rw [cb.1] at b90; exact b90
    rw [if_pos cb.1, if_neg cb.2, m46_e q0, ea]
    have fin : ∀ {r : Rs Nat}, r = rex hx7 → DF e Zx Zm hx0 hm0 (X + 88 * (e.TS.length - i)) (Y + 88 * (e.TS.length - i)) r (rex hm9 : Rs Unit) := fun y => ⟨_, hx7, y, (C.xxZ S.1 s7).le (by omega), f7, .inl ⟨hm9, rfl, (C.trZ S.2.1 sa).le (by omega), fa⟩⟩
    by_cases cs : wdO (tk e.TS i) = 0 ∧ d.1 = 1
    · rw [if_pos cs]
      refine .inr (fin ?_)
      unfold f_X11_member_b50
      rw [if_pos y00, b73]
    · rw [if_neg cs]
      unfold f_X11_member_b45
      by_cases c20 : d.met.length = 20
      · obtain ⟨hx9, e9, s9', f9⟩ := xl c20 (a4 := if wdO (tk e.TS i) = 1 then 1 else 0) (a5 := if wdO (tk e.TS i) = 2 then 1 else 0)
        rw [e9]
        exact .inr ((Dq.err C S s9' f9 sa fa).le (by omega) (by omega))
      · refine .inr (fin ?_)
        unfold f_X11_member_b50
        rw [if_neg z10, if_neg (n20 c20), b73]
  -- the twin's method is begun
  obtain ⟨s0, hs0, em2⟩ : ∃ s0 : Int32, s0 = (if wdO (tk e.TS i) = 0 then 0 else 1) ∧ (if wdO (tk e.TS i) = 0 then (if (tk e.TS i).1 = 1 ∨ plT (tk e.TS i) then f_X48_member_b45 e.Q k (e.tok hm i) 0 hm else (if kc hm e.Q = 46 then bd (f_X48_wrong e.Q hm) (fun x3 h4 => if kc h4 x3 = 69 then rex h4 else none) else none)) else f_X48_member_b45 e.Q k (e.tok hm i) 1 hm) = f_X48_member_b45 e.Q k (e.tok hm i) s0 hm := by
    by_cases z : wdO (tk e.TS i) = 0
    · exact ⟨0, by rw [if_pos z], by rw [if_pos z, if_pos (Classical.byContradiction fun y => cb ⟨z, y⟩)]⟩
    · exact ⟨1, by rw [if_neg z], by rw [if_neg z]⟩
  obtain ⟨hm2, e2, u2, q2, Mp, kt, ft⟩ := b45_e (k := k) q0 nl (s0 := s0) m1 m3
  have W2 := W.chM C M0 u2 (by simp)
  have KM2 := (W2.cur Cu).2
  have hp0 : kc hm (nx hm) = 0 := q0.1.new
  rw [em2, e2, md_e KM2 hs0 hform]
  by_cases cs : wdO (tk e.TS i) = 0 ∧ d.1 = 1
  · rw [if_pos cs, if_pos cs]
    have bx' : f_X11_member_b50 e.P a (nI d.met.length) (nI (tk e.TS i).2.1) (if wdO (tk e.TS i) = 1 then 1 else 0) (if wdO (tk e.TS i) = 2 then 1 else 0) (0 : Int32) hx = f_X11_member_b90 e.P a (nI d.met.length) (nI (tk e.TS i).2.1) (if wdO (tk e.TS i) = 1 then 1 else 0) (if wdO (tk e.TS i) = 2 then 1 else 0) hx := by
      unfold f_X11_member_b50 f_X11_member_b73
      rw [if_pos y00, cs.1, if_pos (by rfl), if_pos (by rfl)]
    have bm' : f_X48_member_b130 e.Q k (e.tok hm i) s0 (nx hm) hm2 = f_X48_member_b144 e.Q k (e.tok hm i) s0 (nx hm) hm2 := by
      unfold f_X48_member_b130
      rw [if_pos (by rw [hs0, if_pos cs.1])]
    rw [bx', bm']
    exact tn_pair C M0 p0.1 Cu hl hbx hbm Bb q0 hp0 hform W2 (wdO_b _) rfl rfl hs0 Mp kt ft (by omega)
  rw [if_neg cs, if_neg cs]
  have L372 : LsX (Fb bm (nx hm2)) hm2 (fr hm2 372 k) 137 (fun h b v => MeM (Fb bm (nx hm2)) h b k v) d.met := by
    obtain ⟨_, _, _, _, _, _, _, _, _, _, _, x, _⟩ := KM2; exact x
  have z2 : lsK hm2 (fr hm2 372 k) := ⟨by rw [L372.2.1]; decide, by rw [L372.2.1]; decide, L372.2.2.1⟩
  have y2 : (ls hm2 (fr hm2 372 k)).length = d.met.length := L372.2.2.2.len
  unfold f_X11_member_b45 f_X48_member_b113
  rw [ldR_e KM2.1, lsSize_e z2, y2]
  by_cases c20 : d.met.length = 20
  · obtain ⟨hx9, e9, s9', f9⟩ := xl c20 (a4 := if wdO (tk e.TS i) = 1 then 1 else 0) (a5 := if wdO (tk e.TS i) = 2 then 1 else 0)
    obtain ⟨hm9, ea, sa, fa⟩ := mwrong q2
    rw [if_pos (show nI d.met.length = (20 : Int32) by rw [c20]; rfl), m46_e q2, e9, ea]
    exact .inr ((Dq.err C W2.1 s9' f9 sa fa).le (by omega) (by omega))
  rw [if_neg (n20 c20)]
  unfold f_X11_member_b50 f_X11_member_b73 f_X48_member_b130
  rw [if_neg z10, if_neg (n20 c20)]
  by_cases w0 : wdO (tk e.TS i) = 0
  · rw [if_pos (show (if wdO (tk e.TS i) = 1 then (1 : Int32) else 0) = 0 by rw [w0]; rfl), if_pos (show (if wdO (tk e.TS i) = 2 then (1 : Int32) else 0) = 0 by rw [w0]; rfl), if_pos (show s0 = 0 by rw [hs0, if_pos w0])]
    exact tn_pair C M0 p0.1 Cu hl hbx hbm Bb q0 hp0 hform W2 (wdO_b _) rfl rfl hs0 Mp kt ft (by omega)
  have wb := wdO_b (tk e.TS i)
  have eb : ∀ {A B : Rs Nat}, (if (if wdO (tk e.TS i) = 1 then (1 : Int32) else 0) = 0 then (if (if wdO (tk e.TS i) = 2 then (1 : Int32) else 0) = 0 then A else B) else B) = B := fun {A B} => by
    have : wdO (tk e.TS i) = 1 ∨ wdO (tk e.TS i) = 2 := by omega
    rcases this with z | z
    · rw [z, if_neg (by decide)]
    · rw [z, if_pos (by decide), if_neg (by decide)]
  have g : tkGo (tk e.TS i) := by
    by_cases c : isW (tk e.TS i) (codes (cStr.getD (36 - 1) ""))
    · exact go_w c
    · by_cases c2 : isW (tk e.TS i) (codes (cStr.getD (45 - 1) ""))
      · exact go_w c2
      · exact absurd (by unfold wdO; rw [if_neg c, if_neg c2]) w0
  rw [eb, if_neg (show ¬ s0 = 0 by rw [hs0, if_neg w0]; exact z10)]
  unfold f_X11_member_b83
  rw [xt12_e kP p0, x10_e p0, mfwd_e q2]
  have q3 := (mfwd_s q2 g).2
  have hi3 := q3.jj.1
  have t3 : MS e 0 hm2 (fwd e hm2 i) := MS.Q (mfwd_s q2 g).1
  have n3' : nx hm2 ≤ nx (fwd e hm2 i) := t3.2.1
  rcases adv p0 q2 g with ⟨hx3, e3, s3, p3, _, _⟩ | ⟨hx3, P, e3, s3, f3, n3, _⟩
  · have W3 := W2.tr C s3 t3 p3 q3
    have A3 := (q2.fr0 t3).at kt (by decide) (by decide)
    rw [e3]
    rcases tn_pair (Y0 := Y + 2) C M0 p0.1 Cu hl hbx hbm Bb q0 hp0 hform W3 wb rfl rfl hs0 (MeP_wk (fun l z => Fb_m z n3') (MeP_fx (MS.fxm (KL := [132]) q2 C.1 t3 (by decide)) (by simp) Mp)) A3.1 ((A3.2.2.1 350).trans ft) (by omega) with r | r
    · exact .inl (MDon_le r (by omega) (by omega) (by omega))
    · exact .inr (r.le (by omega) (by omega))
  · have N3 := PN_at n3 q3
    obtain ⟨h5', e5, s5, f5⟩ := mtypeN q3 (fun z => by
      rcases z with z | z
      · omega
      · have := z.1; omega)
    rw [e3]
    unfold f_X48_member_b144
    rw [m46_e q3, e5]
    exact .inr ⟨P, hx3, rfl, (C.xxZ W2.1.1 s3).le (by omega), f3, .inl ⟨h5', rfl, (C.trZ (C.mmZ W2.1.2.1 t3) s5).le (by omega), N3.2 ▸ f5⟩⟩
