/-! PHASE B declarations 12: a method is made in the component -/
set_option maxRecDepth 100000
variable {e : EE} {Zx Zm : List Nat} {hx hm h h1 h2 h' hx0 hm0 hxA hmA : HP} {i j a b k X Y bx bm l1 l2 l3 : Nat} {IT : List It} {TY : List Ty} {QU : List (List Nat)} {F G : Nat → Prop} {KL : List Nat} {d : DC} {TY' : List Ty} {QU' : List (List Nat)} {num : Nat × Nat}
theorem take_s {α : Type} : ∀ (l : List α) (t : Nat) (h : t < l.length), l.take (t + 1) = l.take t ++ [l[t]]
  | [], t, h => absurd h (by simp)
  | a :: l, 0, h => by simp
  | a :: l, t + 1, h => by
    have := take_s l t (by simpa using h)
    rw [List.take_succ_cons, List.take_succ_cons, this]; rfl
/-- the parameters' lists of a member and its method -/
def PlX (e : EE) (F : Nat → Prop) (h : HP) (v17 v18 : Nat) (us : List Vr) : Prop := kc h v17 = 30 ∧ kc h v18 = 15 ∧ LsX F h (fr h 178 v18) 114 (TyE e) (us.map fun v => v.1) ∧ LsX F h (fr h 179 v18) 113 IvX (us.map fun v => v.2.2) ∧ LsX F h (fr h 231 v17) 115 StrX (us.map fun v => v.2.1)
theorem PX.addL {β : Type} {l c v : Nat} {P : HP → Nat → β → Prop} {xs : List β} {y : β} (p : PX e h i TY QU) (hcl : kc h e.cl = 129) (x : LsX F h l c P xs) (hc : 100 ≤ c ∧ c < 200) (hl : xs.length ≤ 300) (ok : okc c = true) (hk : kdX c = true) (hs : c ∉ KSx) (hv : elK h v) :
    (∀ {β : Type} {K : HP → Rs β}, lsAdd l v h K = K (lad h l v)) ∧ St [] [l] 10 h (lad h l v) ∧ PX e (lad h l v) i TY QU ∧ (∀ (G : Nat → Prop) KL, c ∉ KL → FxX e G KL h (lad h l v)) ∧ ((∀ a b, P h a b → P (lad h l v) a b) → P (lad h l v) v y → LsX F (lad h l v) l c P (xs ++ [y])) := by
  obtain ⟨e1, s1, f1, L⟩ := x.add (v := v) (y := y) hc (by omega) ok hv p.1
  have kl := x.2.1
  have hkd : ∀ x ∈ [l], kdX (kc h x) = true := fun x hx => by rw [List.mem_singleton.mp hx, kl]; exact hk
  exact ⟨e1, s1, p.dec s1.1 f1 hkd hcl, fun G KL n => p.decF f1 hkd (fun x hx => by rw [List.mem_singleton.mp hx, kl]; exact ⟨hs, fun z => absurd z n⟩), L⟩
theorem copy_l {v17 v18 : Nat} (vs : List Vr) (h8 : vs.length ≤ 8) (N : Nat) : ∀ (h : HP) (t NX : Nat), N < NX → vs.length - t < N → t ≤ vs.length → PX e h i TY QU → kc h e.cl = 129 → MhV e G h l1 l2 l3 vs → PlX e F h v17 v18 (vs.take t) →
    ∃ h', f_X11_member_l484 l1 l2 l3 v17 v18 NX (nI t) h = rok () h' ∧ St [] [fr h 178 v18, fr h 179 v18, fr h 231 v17] (30 * (vs.length - t)) h h' ∧ PX e h' i TY QU ∧ PlX e F h' v17 v18 vs := by
  induction N with
  | zero => intro h t NX _ z; omega
  | succ N ih =>
    intro h t NX hNX hN ht p cl Mx Pl
    obtain ⟨NX, rfl⟩ : ∃ k, NX = k + 1 := ⟨NX - 1, by omega⟩
    obtain ⟨A1, A2', A3⟩ := Mx
    have z1 : lsK h l1 := ⟨by rw [A1.2.1]; decide, by rw [A1.2.1]; decide, A1.2.2.1⟩
    have z2 : lsK h l2 := ⟨by rw [A2'.2.1]; decide, by rw [A2'.2.1]; decide, A2'.2.2.1⟩
    have z3 : lsK h l3 := ⟨by rw [A3.2.1]; decide, by rw [A3.2.1]; decide, A3.2.2.1⟩
    have y1 : (ls h l1).length = vs.length := by rw [A1.2.2.2.len, List.length_map]
    have y2 : (ls h l2).length = vs.length := by rw [A2'.2.2.2.len, List.length_map]
    have y3 : (ls h l3).length = vs.length := by rw [A3.2.2.2.len, List.length_map]
    rw [f_X11_member_l484_s]
    unfold b_X11_member_l484
    rw [lsSize_e z1, y1]
    by_cases g : vs.length ≤ t
    · rw [if_pos ((nI_leI (a := vs.length) (b := t) (by omega) (by omega)).mpr g)]
      rw [List.take_of_length_le g] at Pl
      exact ⟨h, rfl, (St.refl p.1 _ _).le (by omega), p, Pl⟩
    have hk1 : t < (ls h l1).length := by omega
    have hk2 : t < (ls h l2).length := by omega
    have hk3 : t < (ls h l3).length := by omega
    have hvs : t < vs.length := by omega
    have m1 : TyE e h (ls h l1)[t] vs[t].1 := by
      have := A1.2.2.2.get hk1 (by rw [List.length_map]; exact hvs)
      rwa [List.getElem_map] at this
    have m2 : StrX h (ls h l2)[t] vs[t].2.1 := by
      have := (A2'.2.2.2.get hk2 (by rw [List.length_map]; exact hvs)).1
      rwa [List.getElem_map] at this
    have m3 : IvX h (ls h l3)[t] vs[t].2.2 := by
      have := A3.2.2.2.get hk3 (by rw [List.length_map]; exact hvs)
      rwa [List.getElem_map] at this
    have b1 : (vs.take t).length ≤ 300 := by rw [List.length_take]; omega
    obtain ⟨k17, k18, P1, P2, P3⟩ := Pl
    obtain ⟨g1, u1, p1, Z1, L1⟩ := p.addL cl P1 (y := vs[t].1) (by omega) (by rw [List.length_map]; exact b1) (by decide) (by decide) (by decide) (v := (ls h l1)[t]) (.inr (.inr (.inr (by rw [m1.1.1]; decide))))
    have n1 : LsX F (lad h (fr h 178 v18) (ls h l1)[t]) (fr h 178 v18) 114 (TyE e) ((vs.take t).map (fun v => v.1) ++ [vs[t].1]) := L1 (fun _ _ z => TyE_fx (Z1 F [] (by decide)) z) (TyE_fx (Z1 F [] (by decide)) m1)
    have c1 := u1.2.kk cl (by decide)
    have B1 : MhV e G (lad h (fr h 178 v18) (ls h l1)[t]) l1 l2 l3 vs := MhX_fx (Z1 G [119, 118, 117] (by decide)) (fun _ z => z) ⟨A1, A2', A3⟩
    have P2a := LsX_fx (Z1 F [113] (by decide)) P2 (by decide) (by decide) (fun _ _ z => IvX_fx (Z1 F [] (by decide)) z)
    have P3a := LsX_fx (Z1 F [115] (by decide)) P3 (by decide) (by decide) (fun _ _ z => StrX_fx (Z1 F [] (by decide)) z)
    have m2a := StrX_fx (Z1 F [] (by decide)) m2
    have m3a := IvX_fx (Z1 F [] (by decide)) m3
    have r2 : ls (lad h (fr h 178 v18) (ls h l1)[t]) l2 = ls h l2 := ((Z1 G [118] (by decide)).li A2'.1 A2'.2.1 (by decide) (by decide)).2.2.2.2.2.2.2.2.1
    have r3 : ls (lad h (fr h 178 v18) (ls h l1)[t]) l3 = ls h l3 := ((Z1 G [117] (by decide)).li A3.1 A3.2.1 (by decide) (by decide)).2.2.2.2.2.2.2.2.1
    have q18 : kc (lad h (fr h 178 v18) (ls h l1)[t]) v18 = 15 := k18
    have q17 : kc (lad h (fr h 178 v18) (ls h l1)[t]) v17 = 30 := k17
    have f178 : fr (lad h (fr h 178 v18) (ls h l1)[t]) 178 v18 = fr h 178 v18 := rfl
    have f179 : fr (lad h (fr h 178 v18) (ls h l1)[t]) 179 v18 = fr h 179 v18 := rfl
    have f231 : fr (lad h (fr h 178 v18) (ls h l1)[t]) 231 v17 = fr h 231 v17 := rfl
    rw [if_neg (fun z => g ((nI_leI (by omega) (by omega)).mp z)), ldR_e k18, lsGet_e ⟨z1, inA_nI hk1 (by omega)⟩, nI_clamp (by omega), gD_in hk1, castR_e (.inr (by rw [m1.1.1]; simp)), g1, ldR_e q18, f179]
    have w3 := B1.2.2
    have zz3 : lsK (lad h (fr h 178 v18) (ls h l1)[t]) l3 := ⟨by rw [w3.2.1]; decide, by rw [w3.2.1]; decide, w3.2.2.1⟩
    rw [lsGet_e ⟨zz3, by rw [r3]; exact inA_nI hk3 (by omega)⟩, r3, nI_clamp (by omega), gD_in hk3, castR_e (.inr (by rw [m3a.1]; simp))]
    generalize (ls h l1)[t] = x1 at *
    generalize hh1 : lad h (fr h 178 v18) x1 = h1 at *
    generalize (ls h l3)[t] = x3 at *
    rw [← f179] at P2a
    obtain ⟨g2, u2, p2, Z2, L2⟩ := p1.addL c1 P2a (y := vs[t].2.2) (by omega) (by rw [List.length_map]; exact b1) (by decide) (by decide) (by decide) (v := x3) (.inr (.inr (.inl m3a.1)))
    have n2 : LsX F (lad h1 (fr h1 179 v18) x3) (fr h1 179 v18) 113 IvX ((vs.take t).map (fun v => v.2.2) ++ [vs[t].2.2]) := L2 (fun _ _ z => IvX_fx (Z2 F [] (by decide)) z) (IvX_fx (Z2 F [] (by decide)) m3a)
    have c2 := u2.2.kk c1 (by decide)
    have B2 : MhV e G (lad h1 (fr h1 179 v18) x3) l1 l2 l3 vs := MhX_fx (Z2 G [119, 118, 117] (by decide)) (fun _ z => z) B1
    have n1a := LsX_fx (Z2 F [114] (by decide)) n1 (by decide) (by decide) (fun _ _ z => TyE_fx (Z2 F [] (by decide)) z)
    have P3b := LsX_fx (Z2 F [115] (by decide)) P3a (by decide) (by decide) (fun _ _ z => StrX_fx (Z2 F [] (by decide)) z)
    have m2b := StrX_fx (Z2 F [] (by decide)) m2a
    have r2b : ls (lad h1 (fr h1 179 v18) x3) l2 = ls h l2 := (((Z2 G [118] (by decide)).li B1.2.1.1 B1.2.1.2.1 (by decide) (by decide)).2.2.2.2.2.2.2.2.1).trans r2
    have q18b : kc (lad h1 (fr h1 179 v18) x3) v18 = 15 := q18
    have q17b : kc (lad h1 (fr h1 179 v18) x3) v17 = 30 := q17
    have f178b : fr (lad h1 (fr h1 179 v18) x3) 178 v18 = fr h 178 v18 := f178
    have f179b : fr (lad h1 (fr h1 179 v18) x3) 179 v18 = fr h 179 v18 := f179
    have f231b : fr (lad h1 (fr h1 179 v18) x3) 231 v17 = fr h 231 v17 := f231
    rw [← f179, g2, ldR_e q17b, f231b]
    have w2 := B2.2.1
    have zz2 : lsK (lad h1 (fr h1 179 v18) x3) l2 := ⟨by rw [w2.2.1]; decide, by rw [w2.2.1]; decide, w2.2.2.1⟩
    rw [lsGet_e ⟨zz2, by rw [r2b]; exact inA_nI hk2 (by omega)⟩, r2b, nI_clamp (by omega), gD_in hk2, castR_e (.inr (by rw [m2b.1]; simp))]
    rw [f179] at u2 n2
    generalize hh2 : lad h1 (fr h1 179 v18) x3 = h2 at *
    rw [f179] at hh2
    rw [hh2] at u2 n2
    generalize (ls h l2)[t] = x2 at *
    rw [← f231b] at P3b
    obtain ⟨g3, u3, p3, Z3, L3⟩ := p2.addL c2 P3b (y := vs[t].2.1) (by omega) (by rw [List.length_map]; exact b1) (by decide) (by decide) (by decide) (v := x2) (.inr (.inl m2b.1))
    have n3 : LsX F (lad h2 (fr h2 231 v17) x2) (fr h2 231 v17) 115 StrX ((vs.take t).map (fun v => v.2.1) ++ [vs[t].2.1]) := L3 (fun _ _ z => StrX_fx (Z3 F [] (by decide)) z) (StrX_fx (Z3 F [] (by decide)) m2b)
    have c3 := u3.2.kk c2 (by decide)
    have B3 : MhV e G (lad h2 (fr h2 231 v17) x2) l1 l2 l3 vs := MhX_fx (Z3 G [119, 118, 117] (by decide)) (fun _ z => z) B2
    have n1b := LsX_fx (Z3 F [114] (by decide)) n1a (by decide) (by decide) (fun _ _ z => TyE_fx (Z3 F [] (by decide)) z)
    have n2b := LsX_fx (Z3 F [113] (by decide)) n2 (by decide) (by decide) (fun _ _ z => IvX_fx (Z3 F [] (by decide)) z)
    have f178c : fr (lad h2 (fr h2 231 v17) x2) 178 v18 = fr h 178 v18 := f178b
    have f179c : fr (lad h2 (fr h2 231 v17) x2) 179 v18 = fr h 179 v18 := f179b
    have f231c : fr (lad h2 (fr h2 231 v17) x2) 231 v17 = fr h 231 v17 := f231b
    have q18c : kc (lad h2 (fr h2 231 v17) x2) v18 = 15 := q18b
    have q17c : kc (lad h2 (fr h2 231 v17) x2) v17 = 30 := q17b
    rw [← f231b, g3]
    simp only [lt3, nI_1]
    rw [f231b] at u3 n3
    generalize hh3 : lad h2 (fr h2 231 v17) x2 = h3 at *
    rw [f231b] at hh3
    rw [hh3] at u3 n3
    obtain ⟨h4, e4, s4, p4, Pl4⟩ := ih h3 (t + 1) NX (by omega) (by omega) (by omega) p3 c3 B3 ⟨q17c, q18c, by rw [f178c, take_s vs t hvs, List.map_append]; exact n1b, by rw [f179c, take_s vs t hvs, List.map_append]; exact n2b, by rw [f231c, take_s vs t hvs, List.map_append]; exact n3⟩
    rw [f178c, f179c, f231c] at s4
    have w1 : ∀ {x : Nat} {c : Nat} {hA hB : HP}, x ∈ [fr h 178 v18, fr h 179 v18, fr h 231 v17] → St [] [x] c hA hB → St [] [fr h 178 v18, fr h 179 v18, fr h 231 v17] c hA hB := fun hx s => s.wk (fun _ z => z) (fun y hy => .inl (by rw [List.mem_singleton.mp hy]; exact hx)) (Nat.le_refl _)
    rw [f179, f231b]
    exact ⟨h4, e4, ((((w1 (by simp) u1).trans (w1 (by simp) u2)).trans (w1 (by simp) u3)).trans s4).le (by omega), p4, Pl4⟩
