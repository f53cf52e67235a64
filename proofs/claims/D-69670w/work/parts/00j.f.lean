/-! PHASE B declarations 6: one more on a list of a declaration (printed by b06_rep.py) -/
set_option maxRecDepth 100000
/-- a face's name -/
theorem DXg_166 {e : EE} {F : Nat → Prop} {h : HP} {i a v : Nat} {TY : List Ty} {QU : List (List Nat)} {num : Nat × Nat} {form ab at' : Nat} {nm : List Nat} {ex : Option Td} {fn : List (List Nat)} {fp : List Nat} {mb : List Mb} {cn : List (List Nat)} {cp' : List Nat} {y : List Nat} (p : PX e h i TY QU) (hcl : kc h e.cl = 129) (x : DXg e F h a num form ab at' nm ex fn fp mb cn cp') (hl : fn.length ≤ 400) (hv : elK h v) (hy : StrX h v y) :
    (∀ {β : Type} {K : HP → Rs β}, lsAdd (fr h 166 a) v h K = K (lad h (fr h 166 a) v)) ∧ St [] [fr h 166 a] 10 h (lad h (fr h 166 a) v) ∧ PX e (lad h (fr h 166 a) v) i TY QU ∧ DXg e F (lad h (fr h 166 a) v) a num form ab at' nm ex (fn ++ [y]) fp mb cn cp' ∧ kc h (fr h 166 a) = 112 ∧ F (fr h 166 a) ∧ Kq e h (lad h (fr h 166 a) v) := by
  obtain ⟨k0, m0, m1, m2, m3, m4, m5, m6, m7, m8⟩ := x
  obtain ⟨e1, s1, f1, L⟩ := m3.add (v := v) (y := y) (by omega) hl (by decide) hv p.1
  have kl : kc h (fr h 166 a) = 112 := m3.2.1
  have hkd : ∀ x ∈ [fr h 166 a], kdX (kc h x) = true := fun x hx => by rw [List.mem_singleton.mp hx, kl]; decide
  have Z : FxX e F [111, 109, 104, 103, 102, 101, 100, 110, 114, 113, 116, 115] h (lad h (fr h 166 a) v) := p.decF f1 hkd (fun x hx => by rw [List.mem_singleton.mp hx, kl]; exact ⟨by decide, fun z => absurd z (by decide)⟩)
  exact ⟨e1, s1, p.dec s1.1 f1 hkd hcl, ⟨k0, KbX_fx Z (fun k hk => by simp at hk ⊢; omega) m0, StrX_fx Z m1, m2, L (fun _ _ z => StrX_fx Z z) (StrX_fx Z hy), LsX_fx Z m4 (by decide) (by decide) (fun _ _ z => IvX_fx Z z), LsR_fx Z m5 (by decide) (by decide) (fun G _ _ hG z => MbX_fx (Z.wk hG (fun _ y => y)) (fun k hk => by simp at hk ⊢; omega) z), LsX_fx Z m6 (by decide) (by decide) (fun _ _ z => IvX_fx Z z), m7, m8.1, ⟨by simp only [List.length_append, List.length_singleton]; omega, m8.2.1.2.1, m8.2.1.2.2⟩, m8.2.2⟩, kl, m3.1, p.keep f1 hkd⟩
/-- a face's place -/
theorem DXg_167 {e : EE} {F : Nat → Prop} {h : HP} {i a v : Nat} {TY : List Ty} {QU : List (List Nat)} {num : Nat × Nat} {form ab at' : Nat} {nm : List Nat} {ex : Option Td} {fn : List (List Nat)} {fp : List Nat} {mb : List Mb} {cn : List (List Nat)} {cp' : List Nat} {y : Nat} (p : PX e h i TY QU) (hcl : kc h e.cl = 129) (x : DXg e F h a num form ab at' nm ex fn fp mb cn cp') (hl : fp.length ≤ 400) (hv : elK h v) (hy : IvX h v y) :
    (∀ {β : Type} {K : HP → Rs β}, lsAdd (fr h 167 a) v h K = K (lad h (fr h 167 a) v)) ∧ St [] [fr h 167 a] 10 h (lad h (fr h 167 a) v) ∧ PX e (lad h (fr h 167 a) v) i TY QU ∧ DXg e F (lad h (fr h 167 a) v) a num form ab at' nm ex fn (fp ++ [y]) mb cn cp' ∧ kc h (fr h 167 a) = 111 ∧ F (fr h 167 a) ∧ Kq e h (lad h (fr h 167 a) v) := by
  obtain ⟨k0, m0, m1, m2, m3, m4, m5, m6, m7, m8⟩ := x
  obtain ⟨e1, s1, f1, L⟩ := m4.add (v := v) (y := y) (by omega) hl (by decide) hv p.1
  have kl : kc h (fr h 167 a) = 111 := m4.2.1
  have hkd : ∀ x ∈ [fr h 167 a], kdX (kc h x) = true := fun x hx => by rw [List.mem_singleton.mp hx, kl]; decide
  have Z : FxX e F [112, 109, 104, 103, 102, 101, 100, 110, 114, 113, 116, 115] h (lad h (fr h 167 a) v) := p.decF f1 hkd (fun x hx => by rw [List.mem_singleton.mp hx, kl]; exact ⟨by decide, fun z => absurd z (by decide)⟩)
  exact ⟨e1, s1, p.dec s1.1 f1 hkd hcl, ⟨k0, KbX_fx Z (fun k hk => by simp at hk ⊢; omega) m0, StrX_fx Z m1, m2, LsX_fx Z m3 (by decide) (by decide) (fun _ _ z => StrX_fx Z z), L (fun _ _ z => IvX_fx Z z) (IvX_fx Z hy), LsR_fx Z m5 (by decide) (by decide) (fun G _ _ hG z => MbX_fx (Z.wk hG (fun _ y => y)) (fun k hk => by simp at hk ⊢; omega) z), LsX_fx Z m6 (by decide) (by decide) (fun _ _ z => IvX_fx Z z), m7, m8.1, ⟨m8.2.1.1, m8.2.1.2.1, m8.2.1.2.2⟩, m8.2.2⟩, kl, m4.1, p.keep f1 hkd⟩
/-- a member -/
theorem DXg_168 {e : EE} {F G F' : Nat → Prop} {h : HP} {i a v : Nat} {TY : List Ty} {QU : List (List Nat)} {num : Nat × Nat} {form ab at' : Nat} {nm : List Nat} {ex : Option Td} {fn : List (List Nat)} {fp : List Nat} {mb : List Mb} {cn : List (List Nat)} {cp' : List Nat} {y : Mb} (p : PX e h i TY QU) (hcl : kc h e.cl = 129) (x : DXg e F h a num form ab at' nm ex fn fp mb cn cp') (hl : mb.length ≤ 400) (hv : elK h v) (hy : MbX e G h v (fr h 163 a) y) (hF : ∀ q, F q → F' q) (hG : ∀ q, G q → F' q) (hD : ∀ q, F q → ¬ G q) :
    (∀ {β : Type} {K : HP → Rs β}, lsAdd (fr h 168 a) v h K = K (lad h (fr h 168 a) v)) ∧ St [] [fr h 168 a] 10 h (lad h (fr h 168 a) v) ∧ PX e (lad h (fr h 168 a) v) i TY QU ∧ DXg e F' (lad h (fr h 168 a) v) a num form ab at' nm ex fn fp (mb ++ [y]) cn cp' ∧ kc h (fr h 168 a) = 110 ∧ F (fr h 168 a) ∧ Kq e h (lad h (fr h 168 a) v) := by
  have x' := DXg_wk hF x
  obtain ⟨_, _, _, _, _, _, n5, _, _⟩ := x
  obtain ⟨k0, m0, m1, m2, m3, m4, m5, m6, m7, m8⟩ := x'
  obtain ⟨x0, x1, x2, x3, Fs, x4, x5, x6⟩ := n5
  have K1 : lsK h (fr h 168 a) := ⟨by omega, by omega, x2⟩
  have s0 : St [] [fr h 168 a] (0 + 10) h (lad h (fr h 168 a) v) := (St.refl p.1 [] [fr h 168 a]).ladd x1 (by decide) (.inr (.inr (by simp))) (by omega) (by omega)
  have KK := lad_K (v := v) K1 (by omega)
  have f1 := s0.fx
  have hkd : ∀ x ∈ [fr h 168 a], kdX (kc h x) = true := fun x hx => by rw [List.mem_singleton.mp hx, x1]; decide
  have Z : FxX e F' [112, 111, 109, 104, 103, 102, 101, 100, 114, 113, 116, 115] h (lad h (fr h 168 a) v) := p.decF f1 hkd (fun x hx => by rw [List.mem_singleton.mp hx, x1]; exact ⟨by decide, fun z => absurd z (by decide)⟩)
  have ZG : FxX e G [112, 111, 109, 104, 103, 102, 101, 100, 114, 113, 116, 115] h (lad h (fr h 168 a) v) := p.decF f1 hkd (fun x hx => by rw [List.mem_singleton.mp hx, x1]; exact ⟨by decide, fun z => absurd z (by decide)⟩)
  refine ⟨lsAdd_e K1 hv (by omega), s0.le (by omega), p.dec s0.1 f1 hkd hcl, ⟨k0, KbX_fx Z (fun k hk => by simp at hk ⊢; omega) m0, StrX_fx Z m1, m2, LsX_fx Z m3 (by decide) (by decide) (fun _ _ z => StrX_fx Z z), LsX_fx Z m4 (by decide) (by decide) (fun _ _ z => IvX_fx Z z), ?_, LsX_fx Z m6 (by decide) (by decide) (fun _ _ z => IvX_fx Z z), m7, m8.1, ⟨m8.2.1.1, by simp only [List.length_append, List.length_singleton]; omega, m8.2.1.2.2⟩, m8.2.2⟩, x1, x0, p.keep f1 hkd⟩
  refine ⟨hF _ x0, x1, KK.2.2, by show (ls (lad h (fr h 168 a) v) (fr h 168 a)).length = _; rw [lad_ls, List.length_append, List.length_append, x3]; rfl, fun r q => (r < mb.length ∧ Fs r q) ∨ (r = mb.length ∧ G q), ?_, ?_, ?_⟩
  · rintro r q (z | z)
    · exact hF _ (x4 r q z.2)
    · exact hG _ z.2
  · rintro r s q (z | z) (y | y)
    · exact x5 r s q z.2 y.2
    · exact absurd y.2 (hD q (x4 r q z.2))
    · exact absurd z.2 (hD q (x4 s q y.2))
    · omega
  · intro r hr
    show MbX e _ _ ((ls (lad h (fr h 168 a) v) (fr h 168 a)).getD r 0) (fr h 163 a) _
    rw [lad_ls]
    by_cases c : r < mb.length
    · rw [List.getD_eq_getElem?_getD, List.getElem?_append_left (by omega), ← List.getD_eq_getElem?_getD, List.getElem_append_left c]
      have ZF : FxX e F [112, 111, 109, 104, 103, 102, 101, 100, 114, 113, 116, 115] h (lad h (fr h 168 a) v) := p.decF f1 hkd (fun x hx => by rw [List.mem_singleton.mp hx, x1]; exact ⟨by decide, fun z => absurd z (by decide)⟩)
      exact MbX_wk (fun q z => .inl ⟨c, z⟩) (MbX_fx (ZF.wk (x4 r) (fun _ y => y)) (fun k hk => by simp at hk ⊢; omega) (x6 r c))
    · have hr2 : r = mb.length := by rw [List.length_append] at hr; simp at hr; omega
      subst hr2
      rw [List.getD_eq_getElem?_getD, List.getElem?_append_right (by omega), List.getElem_append_right (Nat.le_refl _)]
      simp only [x3, Nat.sub_self, List.getElem?_cons_zero, Option.getD_some, List.getElem_cons_zero]
      exact MbX_wk (fun q z => .inr (by first | exact ⟨rfl, z⟩ | exact ⟨trivial, z⟩ | simpa using z)) (MbX_fx ZG (fun k hk => by simp at hk ⊢; omega) hy)
/-- a constant's place -/
theorem DXg_169 {e : EE} {F : Nat → Prop} {h : HP} {i a v : Nat} {TY : List Ty} {QU : List (List Nat)} {num : Nat × Nat} {form ab at' : Nat} {nm : List Nat} {ex : Option Td} {fn : List (List Nat)} {fp : List Nat} {mb : List Mb} {cn : List (List Nat)} {cp' : List Nat} {y : Nat} (p : PX e h i TY QU) (hcl : kc h e.cl = 129) (x : DXg e F h a num form ab at' nm ex fn fp mb cn cp') (hl : cp'.length ≤ 400) (hv : elK h v) (hy : IvX h v y) :
    (∀ {β : Type} {K : HP → Rs β}, lsAdd (fr h 169 a) v h K = K (lad h (fr h 169 a) v)) ∧ St [] [fr h 169 a] 10 h (lad h (fr h 169 a) v) ∧ PX e (lad h (fr h 169 a) v) i TY QU ∧ DXg e F (lad h (fr h 169 a) v) a num form ab at' nm ex fn fp mb cn (cp' ++ [y]) ∧ kc h (fr h 169 a) = 109 ∧ F (fr h 169 a) ∧ Kq e h (lad h (fr h 169 a) v) := by
  obtain ⟨k0, m0, m1, m2, m3, m4, m5, m6, m7, m8⟩ := x
  obtain ⟨e1, s1, f1, L⟩ := m6.add (v := v) (y := y) (by omega) hl (by decide) hv p.1
  have kl : kc h (fr h 169 a) = 109 := m6.2.1
  have hkd : ∀ x ∈ [fr h 169 a], kdX (kc h x) = true := fun x hx => by rw [List.mem_singleton.mp hx, kl]; decide
  have Z : FxX e F [112, 111, 104, 103, 102, 101, 100, 110, 114, 113, 116, 115] h (lad h (fr h 169 a) v) := p.decF f1 hkd (fun x hx => by rw [List.mem_singleton.mp hx, kl]; exact ⟨by decide, fun z => absurd z (by decide)⟩)
  exact ⟨e1, s1, p.dec s1.1 f1 hkd hcl, ⟨k0, KbX_fx Z (fun k hk => by simp at hk ⊢; omega) m0, StrX_fx Z m1, m2, LsX_fx Z m3 (by decide) (by decide) (fun _ _ z => StrX_fx Z z), LsX_fx Z m4 (by decide) (by decide) (fun _ _ z => IvX_fx Z z), LsR_fx Z m5 (by decide) (by decide) (fun G _ _ hG z => MbX_fx (Z.wk hG (fun _ y => y)) (fun k hk => by simp at hk ⊢; omega) z), L (fun _ _ z => IvX_fx Z z) (IvX_fx Z hy), m7, m8.1, ⟨m8.2.1.1, m8.2.1.2.1, m8.2.1.2.2⟩, m8.2.2⟩, kl, m6.1, p.keep f1 hkd⟩
/-- a constant's name -/
theorem DXg_46 {e : EE} {F : Nat → Prop} {h : HP} {i a v : Nat} {TY : List Ty} {QU : List (List Nat)} {num : Nat × Nat} {form ab at' : Nat} {nm : List Nat} {ex : Option Td} {fn : List (List Nat)} {fp : List Nat} {mb : List Mb} {cn : List (List Nat)} {cp' : List Nat} {y : List Nat} (p : PX e h i TY QU) (hcl : kc h e.cl = 129) (x : DXg e F h a num form ab at' nm ex fn fp mb cn cp') (hl : cn.length ≤ 400) (hv : elK h v) (hy : StrX h v y) :
    (∀ {β : Type} {K : HP → Rs β}, lsAdd (fr h 46 (fr h 163 a)) v h K = K (lad h (fr h 46 (fr h 163 a)) v)) ∧ St [] [fr h 46 (fr h 163 a)] 10 h (lad h (fr h 46 (fr h 163 a)) v) ∧ PX e (lad h (fr h 46 (fr h 163 a)) v) i TY QU ∧ DXg e F (lad h (fr h 46 (fr h 163 a)) v) a num form ab at' nm ex fn fp mb (cn ++ [y]) cp' ∧ kc h (fr h 46 (fr h 163 a)) = 100 ∧ F (fr h 46 (fr h 163 a)) ∧ Kq e h (lad h (fr h 46 (fr h 163 a)) v) := by
  obtain ⟨k0, m0, m1, m2, m3, m4, m5, m6, m7, m8⟩ := x
  have m0' := m0
  obtain ⟨n0, n1, n2, n3, n4, n5, n6, n7, n8, n9, n10, na, nb, nc, nd, ne, n15, n16, n17⟩ := m0
  obtain ⟨e1, s1, f1, L⟩ := n15.add (v := v) (y := y) (by omega) hl (by decide) hv p.1
  have kl : kc h (fr h 46 (fr h 163 a)) = 100 := n15.2.1
  have hkd : ∀ x ∈ [fr h 46 (fr h 163 a)], kdX (kc h x) = true := fun x hx => by rw [List.mem_singleton.mp hx, kl]; decide
  have Z : FxX e F [112, 111, 109, 104, 103, 102, 101, 110, 114, 113, 116, 115] h (lad h (fr h 46 (fr h 163 a)) v) := p.decF f1 hkd (fun x hx => by rw [List.mem_singleton.mp hx, kl]; exact ⟨by decide, fun z => absurd z (by decide)⟩)
  exact ⟨e1, s1, p.dec s1.1 f1 hkd hcl, ⟨k0, ⟨n0, n1, n2, StrX_fx Z n3, n4, n5, StrX_fx Z n6, n7, n8, n9, n10, LsX_fx Z na (by decide) (by decide) (fun _ _ z => StrX_fx Z z), ArZ_fx Z nb rfl, LsX_fx Z nc (by decide) (by decide) (fun _ _ z => StrX_fx Z z), LsX_fx Z nd (by decide) (by decide) (fun _ _ z => StrX_fx Z z), LsX_fx Z ne (by decide) (by decide) (fun _ _ z => StrX_fx Z z), L (fun _ _ z => StrX_fx Z z) (StrX_fx Z hy), n16, n17⟩, StrX_fx Z m1, m2, LsX_fx Z m3 (by decide) (by decide) (fun _ _ z => StrX_fx Z z), LsX_fx Z m4 (by decide) (by decide) (fun _ _ z => IvX_fx Z z), LsR_fx Z m5 (by decide) (by decide) (fun G _ _ hG z => MbX_fx (Z.wk hG (fun _ y => y)) (fun k hk => by simp at hk ⊢; omega) z), LsX_fx Z m6 (by decide) (by decide) (fun _ _ z => IvX_fx Z z), m7, m8.1, ⟨m8.2.1.1, m8.2.1.2.1, by simp only [List.length_append, List.length_singleton]; omega⟩, m8.2.2⟩, kl, n15.1, p.keep f1 hkd⟩
/-- a face's name -/
theorem KdMg_370 {e : EE} {F : Nat → Prop} {h : HP} {i a v : Nat} {IT : List It} {TY : List Ty} {QU : List (List Nat)} {num form ab at' : Nat} {nm : List Nat} {ex : Option Td} {im : List Td} {ow : List Vr} {mt : List (Vr × Mt)} {cs : List Td} {fl : List Nat} {y : Td} (q : PM e h i IT TY QU) (hnl : kc h e.nl = 168) (x : KdMg F h a num form ab at' nm ex im ow mt cs fl) (hl : im.length ≤ 400) (hv : elK h v) (hy : ToM h v y) :
    (∀ {β : Type} {K : HP → Rs β}, lsAdd (fr h 370 a) v h K = K (lad h (fr h 370 a) v)) ∧ St [] [fr h 370 a] 10 h (lad h (fr h 370 a) v) ∧ PM e (lad h (fr h 370 a) v) i IT TY QU ∧ KdMg F (lad h (fr h 370 a) v) a num form ab at' nm ex (im ++ [y]) ow mt cs fl ∧ kc h (fr h 370 a) = 139 ∧ F (fr h 370 a) ∧ Fx [fr h 370 a] h (lad h (fr h 370 a) v) := by
  obtain ⟨k0, m0, m1, m2, m3, m4, m5, m6, m7, m8, m9, ma, mb, mc, md, me, mf, mg, mh⟩ := x
  obtain ⟨e1, s1, f1, L⟩ := m8.add (v := v) (y := y) (by omega) hl (by decide) hv q.1
  have kl : kc h (fr h 370 a) = 139 := m8.2.1
  have Z : FxM F [138, 137, 136, 135, 134, 132, 133] h (lad h (fr h 370 a) v) := ⟨_, f1, fun x hx => by rw [List.mem_singleton.mp hx, kl]; exact ⟨by decide, fun z => absurd z (by decide)⟩⟩
  exact ⟨e1, s1, q.dec s1.1 f1 (fun x hx => by rw [List.mem_singleton.mp hx, kl]; decide) hnl, ⟨k0, m0, m1, m2, StrM_fx Z m3, m4, m5, m6, ToO_fx Z m7, L (fun _ _ z => ToM_fx Z z) (ToM_fx Z hy), LsM_fx Z m9 (by decide) (by decide) (fun _ _ z => VarM_fx (e := e) Z (fun k hk => by simp at hk) z), LsM_fx Z ma (by decide) (by decide) (fun _ _ z => MeM_fx (e := e) Z (fun k hk => by simp at hk ⊢; omega) z), LsM_fx Z mb (by decide) (by decide) (fun _ _ z => ToM_fx Z z), LsM_fx Z mc (by decide) (by decide) (fun _ _ z => IvM_fx Z z), md, LsM_fx Z me (by decide) (by decide) (fun _ _ z => StrM_fx Z z), mf, mg, mh⟩, kl, m8.1, f1⟩
/-- a field -/
theorem KdMg_371 {e : EE} {F : Nat → Prop} {h : HP} {i a v : Nat} {IT : List It} {TY : List Ty} {QU : List (List Nat)} {num form ab at' : Nat} {nm : List Nat} {ex : Option Td} {im : List Td} {ow : List Vr} {mt : List (Vr × Mt)} {cs : List Td} {fl : List Nat} {y : Vr} (q : PM e h i IT TY QU) (hnl : kc h e.nl = 168) (x : KdMg F h a num form ab at' nm ex im ow mt cs fl) (hl : ow.length ≤ 400) (hv : elK h v) (hy : VarM F h v y) :
    (∀ {β : Type} {K : HP → Rs β}, lsAdd (fr h 371 a) v h K = K (lad h (fr h 371 a) v)) ∧ St [] [fr h 371 a] 10 h (lad h (fr h 371 a) v) ∧ PM e (lad h (fr h 371 a) v) i IT TY QU ∧ KdMg F (lad h (fr h 371 a) v) a num form ab at' nm ex im (ow ++ [y]) mt cs fl ∧ kc h (fr h 371 a) = 138 ∧ F (fr h 371 a) ∧ Fx [fr h 371 a] h (lad h (fr h 371 a) v) := by
  obtain ⟨k0, m0, m1, m2, m3, m4, m5, m6, m7, m8, m9, ma, mb, mc, md, me, mf, mg, mh⟩ := x
  obtain ⟨e1, s1, f1, L⟩ := m9.add (v := v) (y := y) (by omega) hl (by decide) hv q.1
  have kl : kc h (fr h 371 a) = 138 := m9.2.1
  have Z : FxM F [139, 137, 136, 135, 134, 132, 133] h (lad h (fr h 371 a) v) := ⟨_, f1, fun x hx => by rw [List.mem_singleton.mp hx, kl]; exact ⟨by decide, fun z => absurd z (by decide)⟩⟩
  exact ⟨e1, s1, q.dec s1.1 f1 (fun x hx => by rw [List.mem_singleton.mp hx, kl]; decide) hnl, ⟨k0, m0, m1, m2, StrM_fx Z m3, m4, m5, m6, ToO_fx Z m7, LsM_fx Z m8 (by decide) (by decide) (fun _ _ z => ToM_fx Z z), L (fun _ _ z => VarM_fx (e := e) Z (fun k hk => by simp at hk) z) (VarM_fx (e := e) Z (fun k hk => by simp at hk) hy), LsM_fx Z ma (by decide) (by decide) (fun _ _ z => MeM_fx (e := e) Z (fun k hk => by simp at hk ⊢; omega) z), LsM_fx Z mb (by decide) (by decide) (fun _ _ z => ToM_fx Z z), LsM_fx Z mc (by decide) (by decide) (fun _ _ z => IvM_fx Z z), md, LsM_fx Z me (by decide) (by decide) (fun _ _ z => StrM_fx Z z), mf, mg, mh⟩, kl, m9.1, f1⟩
/-- a method -/
theorem KdMg_372 {e : EE} {F : Nat → Prop} {h : HP} {i a v : Nat} {IT : List It} {TY : List Ty} {QU : List (List Nat)} {num form ab at' : Nat} {nm : List Nat} {ex : Option Td} {im : List Td} {ow : List Vr} {mt : List (Vr × Mt)} {cs : List Td} {fl : List Nat} {y : (Vr × Mt)} (q : PM e h i IT TY QU) (hnl : kc h e.nl = 168) (x : KdMg F h a num form ab at' nm ex im ow mt cs fl) (hl : mt.length ≤ 400) (hv : elK h v) (hy : MeM F h v a y) :
    (∀ {β : Type} {K : HP → Rs β}, lsAdd (fr h 372 a) v h K = K (lad h (fr h 372 a) v)) ∧ St [] [fr h 372 a] 10 h (lad h (fr h 372 a) v) ∧ PM e (lad h (fr h 372 a) v) i IT TY QU ∧ KdMg F (lad h (fr h 372 a) v) a num form ab at' nm ex im ow (mt ++ [y]) cs fl ∧ kc h (fr h 372 a) = 137 ∧ F (fr h 372 a) ∧ Fx [fr h 372 a] h (lad h (fr h 372 a) v) := by
  obtain ⟨k0, m0, m1, m2, m3, m4, m5, m6, m7, m8, m9, ma, mb, mc, md, me, mf, mg, mh⟩ := x
  obtain ⟨e1, s1, f1, L⟩ := ma.add (v := v) (y := y) (by omega) hl (by decide) hv q.1
  have kl : kc h (fr h 372 a) = 137 := ma.2.1
  have Z : FxM F [139, 138, 136, 135, 134, 132, 133] h (lad h (fr h 372 a) v) := ⟨_, f1, fun x hx => by rw [List.mem_singleton.mp hx, kl]; exact ⟨by decide, fun z => absurd z (by decide)⟩⟩
  exact ⟨e1, s1, q.dec s1.1 f1 (fun x hx => by rw [List.mem_singleton.mp hx, kl]; decide) hnl, ⟨k0, m0, m1, m2, StrM_fx Z m3, m4, m5, m6, ToO_fx Z m7, LsM_fx Z m8 (by decide) (by decide) (fun _ _ z => ToM_fx Z z), LsM_fx Z m9 (by decide) (by decide) (fun _ _ z => VarM_fx (e := e) Z (fun k hk => by simp at hk) z), L (fun _ _ z => MeM_fx (e := e) Z (fun k hk => by simp at hk ⊢; omega) z) (MeM_fx (e := e) Z (fun k hk => by simp at hk ⊢; omega) hy), LsM_fx Z mb (by decide) (by decide) (fun _ _ z => ToM_fx Z z), LsM_fx Z mc (by decide) (by decide) (fun _ _ z => IvM_fx Z z), md, LsM_fx Z me (by decide) (by decide) (fun _ _ z => StrM_fx Z z), mf, mg, mh⟩, kl, ma.1, f1⟩
/-- a constant -/
theorem KdMg_373 {e : EE} {F : Nat → Prop} {h : HP} {i a v : Nat} {IT : List It} {TY : List Ty} {QU : List (List Nat)} {num form ab at' : Nat} {nm : List Nat} {ex : Option Td} {im : List Td} {ow : List Vr} {mt : List (Vr × Mt)} {cs : List Td} {fl : List Nat} {y : Td} (q : PM e h i IT TY QU) (hnl : kc h e.nl = 168) (x : KdMg F h a num form ab at' nm ex im ow mt cs fl) (hl : cs.length ≤ 400) (hv : elK h v) (hy : ToM h v y) :
    (∀ {β : Type} {K : HP → Rs β}, lsAdd (fr h 373 a) v h K = K (lad h (fr h 373 a) v)) ∧ St [] [fr h 373 a] 10 h (lad h (fr h 373 a) v) ∧ PM e (lad h (fr h 373 a) v) i IT TY QU ∧ KdMg F (lad h (fr h 373 a) v) a num form ab at' nm ex im ow mt (cs ++ [y]) fl ∧ kc h (fr h 373 a) = 136 ∧ F (fr h 373 a) ∧ Fx [fr h 373 a] h (lad h (fr h 373 a) v) := by
  obtain ⟨k0, m0, m1, m2, m3, m4, m5, m6, m7, m8, m9, ma, mb, mc, md, me, mf, mg, mh⟩ := x
  obtain ⟨e1, s1, f1, L⟩ := mb.add (v := v) (y := y) (by omega) hl (by decide) hv q.1
  have kl : kc h (fr h 373 a) = 136 := mb.2.1
  have Z : FxM F [139, 138, 137, 135, 134, 132, 133] h (lad h (fr h 373 a) v) := ⟨_, f1, fun x hx => by rw [List.mem_singleton.mp hx, kl]; exact ⟨by decide, fun z => absurd z (by decide)⟩⟩
  exact ⟨e1, s1, q.dec s1.1 f1 (fun x hx => by rw [List.mem_singleton.mp hx, kl]; decide) hnl, ⟨k0, m0, m1, m2, StrM_fx Z m3, m4, m5, m6, ToO_fx Z m7, LsM_fx Z m8 (by decide) (by decide) (fun _ _ z => ToM_fx Z z), LsM_fx Z m9 (by decide) (by decide) (fun _ _ z => VarM_fx (e := e) Z (fun k hk => by simp at hk) z), LsM_fx Z ma (by decide) (by decide) (fun _ _ z => MeM_fx (e := e) Z (fun k hk => by simp at hk ⊢; omega) z), L (fun _ _ z => ToM_fx Z z) (ToM_fx Z hy), LsM_fx Z mc (by decide) (by decide) (fun _ _ z => IvM_fx Z z), md, LsM_fx Z me (by decide) (by decide) (fun _ _ z => StrM_fx Z z), mf, mg, mh⟩, kl, mb.1, f1⟩
/-- what a member is -/
theorem KdMg_374 {e : EE} {F : Nat → Prop} {h : HP} {i a v : Nat} {IT : List It} {TY : List Ty} {QU : List (List Nat)} {num form ab at' : Nat} {nm : List Nat} {ex : Option Td} {im : List Td} {ow : List Vr} {mt : List (Vr × Mt)} {cs : List Td} {fl : List Nat} {y : Nat} (q : PM e h i IT TY QU) (hnl : kc h e.nl = 168) (x : KdMg F h a num form ab at' nm ex im ow mt cs fl) (hl : fl.length ≤ 400) (hv : elK h v) (hy : IvX h v y) :
    (∀ {β : Type} {K : HP → Rs β}, lsAdd (fr h 374 a) v h K = K (lad h (fr h 374 a) v)) ∧ St [] [fr h 374 a] 10 h (lad h (fr h 374 a) v) ∧ PM e (lad h (fr h 374 a) v) i IT TY QU ∧ KdMg F (lad h (fr h 374 a) v) a num form ab at' nm ex im ow mt cs (fl ++ [y]) ∧ kc h (fr h 374 a) = 135 ∧ F (fr h 374 a) ∧ Fx [fr h 374 a] h (lad h (fr h 374 a) v) := by
  obtain ⟨k0, m0, m1, m2, m3, m4, m5, m6, m7, m8, m9, ma, mb, mc, md, me, mf, mg, mh⟩ := x
  obtain ⟨e1, s1, f1, L⟩ := mc.add (v := v) (y := y) (by omega) hl (by decide) hv q.1
  have kl : kc h (fr h 374 a) = 135 := mc.2.1
  have Z : FxM F [139, 138, 137, 136, 134, 132, 133] h (lad h (fr h 374 a) v) := ⟨_, f1, fun x hx => by rw [List.mem_singleton.mp hx, kl]; exact ⟨by decide, fun z => absurd z (by decide)⟩⟩
  exact ⟨e1, s1, q.dec s1.1 f1 (fun x hx => by rw [List.mem_singleton.mp hx, kl]; decide) hnl, ⟨k0, m0, m1, m2, StrM_fx Z m3, m4, m5, m6, ToO_fx Z m7, LsM_fx Z m8 (by decide) (by decide) (fun _ _ z => ToM_fx Z z), LsM_fx Z m9 (by decide) (by decide) (fun _ _ z => VarM_fx (e := e) Z (fun k hk => by simp at hk) z), LsM_fx Z ma (by decide) (by decide) (fun _ _ z => MeM_fx (e := e) Z (fun k hk => by simp at hk ⊢; omega) z), LsM_fx Z mb (by decide) (by decide) (fun _ _ z => ToM_fx Z z), L (fun _ _ z => IvM_fx Z z) (IvM_fx Z hy), md, LsM_fx Z me (by decide) (by decide) (fun _ _ z => StrM_fx Z z), mf, mg, mh⟩, kl, mc.1, f1⟩
