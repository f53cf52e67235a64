/-! PHASE B declarations 28: extends -/
set_option maxRecDepth 100000
variable {e : EE} {Zx Zm : List Nat} {hx hm h h1 h2 h' hx0 hm0 hxA hmA : HP} {i j a b k X Y bx bm l1 l2 l3 : Nat} {IT : List It} {TY : List Ty} {QU : List (List Nat)} {F G : Nat → Prop} {KL : List Nat} {d : DC} {TY' : List Ty} {QU' : List (List Nat)} {num : Nat × Nat}
theorem DX_ext {S : Nat → Bool} {fm ab pl : Nat} {nm : Td} {w : List Nat} (D : DX e F h a num (fm, nm, ab, none, [], [], [])) (Fz : Fr S h h') (hS : ∀ k ∈ [4, 71, 104, 242, 103, 102, 101, 100, 112, 111, 110, 109], S k = true) (hf : ∀ f, f ≠ 164 → fr h' f a = fr h f a) (hk : kc h' a = 13) (hs : StrX h' (fr h' 164 a) w) (h165 : fi h' 165 a = nI pl) (hpl : pl ≤ 300) (hfm : fm = 1) : DX e F h' a num (fm, nm, ab, some (w, pl), [], [], []) := by
  obtain ⟨k0, m0, m1, m2, m3, m4, m5, m6, m7, m8⟩ := D
  obtain ⟨y1, y2, y3⟩ := Fz.at m0.1 (by decide) (hS _ (by decide))
  have m0' := m0
  obtain ⟨_, n31, n32, n33, n34, n35, n36, n37, n38, n39, n40, n41, n42, n43, n44, n45, n46, n47, n48⟩ := m0'
  refine ⟨hk, ?_, hs, ⟨h165, fun t ht => by cases ht; exact hpl⟩, ?_, ?_, ?_, ?_, (hf _ (by decide)).trans m7, m8.1, m8.2.1, m8.2.2.1, m8.2.2.2.1, m8.2.2.2.2.1, fun z => absurd hfm z⟩
  · rw [hf _ (by decide)]
    exact KbX_setF m0 Fz (fun k hk => hS k (by simp at hk ⊢; omega)) (fun f => y3.2.2.1 f) (fun f _ _ => y3.1 f) y1 ((y3.1 38).trans n38) ((y3.1 48).trans n48)
  · rw [hf _ (by decide)]; exact m3.fr0 Fz (by decide) (hS _ (by decide))
  · rw [hf _ (by decide)]; exact m4.fr0 Fz (by decide) (hS _ (by decide))
  · rw [hf _ (by decide), hf _ (by decide)]; exact ((LsR.x0 m5).fr0 Fz (by decide) (hS _ (by decide))).r0
  · rw [hf _ (by decide)]; exact m6.fr0 Fz (by decide) (hS _ (by decide))
