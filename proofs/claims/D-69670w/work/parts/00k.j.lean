/-! PHASE B declarations 35: the twin's declaration returns its own object -/
set_option maxRecDepth 100000
def Ret (k : Nat) (r : Rs Nat) : Prop := ∀ v h', r = rok v h' → v = k
variable {k : Nat} {h : HP}
theorem Ret.ok : Ret k (rok k h) := fun v h' z => by cases z; rfl
theorem Ret.no : Ret k none := fun v h' z => by cases z
theorem Ret.ex : Ret k (rex h) := fun v h' z => by cases z
theorem Ret.bnd {α : Type} {r : Rs α} {K : α → HP → Rs Nat} (hK : ∀ x h, Ret k (K x h)) : Ret k (bd r K) := fun v h' z => by
  cases r with
  | none => cases z
  | some x =>
    cases x with
    | inl y => cases z
    | inr y => exact hK _ _ v h' z
theorem Ret.ite' {c : Prop} [Decidable c] {A B : Rs Nat} (a : Ret k A) (b : Ret k B) : Ret k (if c then A else B) := by
  split
  · exact a
  · exact b
theorem Ret.ldI' {c f p : Nat} {K : Int32 → Rs Nat} (hK : ∀ x, Ret k (K x)) : Ret k (ldI c f p h K) := by
  unfold ldI
  split
  · exact hK _
  · exact Ret.no
theorem Ret.ldR' {c f p : Nat} {K : Nat → Rs Nat} (hK : ∀ x, Ret k (K x)) : Ret k (ldR c f p h K) := by
  unfold ldR
  split
  · exact hK _
  · exact Ret.no
theorem Ret.stI' {c f p : Nat} {v : Int32} {K : HP → Rs Nat} (hK : ∀ x, Ret k (K x)) : Ret k (stI c f p v h K) := by
  unfold stI
  split
  · exact hK _
  · exact Ret.no
theorem Ret.stR' {c f p v : Nat} {K : HP → Rs Nat} (hK : ∀ x, Ret k (K x)) : Ret k (stR c f p v h K) := by
  unfold stR
  split
  · exact hK _
  · exact Ret.no
theorem Ret.stZ' {c f p : Nat} {v : Int32} {K : HP → Rs Nat} (hK : ∀ x, Ret k (K x)) : Ret k (stZ c f p v h K) := by
  unfold stZ
  split
  · exact Ret.stI' hK
  · exact Ret.no
theorem ret_b221 {Q : Nat} : Ret k (f_X48_declaration_b221 Q k h) := by
  unfold f_X48_declaration_b221
  exact Ret.ite' (Ret.bnd fun _ _ => Ret.ldI' fun _ => Ret.ite' (Ret.ite' (Ret.bnd fun _ _ => Ret.ok) Ret.no) (Ret.bnd fun _ _ => Ret.ldI' fun _ => Ret.stI' fun _ => Ret.ok)) Ret.no
theorem ret_b189 {Q s0 s1 : Nat} : Ret k (f_X48_declaration_b189 Q k s0 s1 h) := by
  unfold f_X48_declaration_b189
  exact Ret.ite' (Ret.bnd fun _ _ => Ret.ite' ret_b221 (Ret.ldI' fun _ => Ret.ite' ret_b221 (Ret.ldI' fun _ => Ret.stI' fun _ => Ret.ldR' fun _ => Ret.ite' (Ret.bnd fun _ _ => ret_b221) Ret.no))) Ret.no
theorem ret_b173 {Q : Nat} : Ret k (f_X48_declaration_b173 Q k h) := by
  unfold f_X48_declaration_b173
  exact Ret.ldI' fun _ => Ret.ite' ret_b189 ret_b189
theorem ret_b138 {Q : Nat} : Ret k (f_X48_declaration_b138 Q k h) := by
  unfold f_X48_declaration_b138
  exact Ret.ldI' fun _ => Ret.ite' (Ret.ite' (Ret.bnd fun _ _ => Ret.ite' ret_b173 (Ret.ldI' fun _ => Ret.stI' fun _ => Ret.ite' (Ret.bnd fun _ _ => Ret.stR' fun _ => ret_b173) Ret.no)) Ret.no) ret_b173
theorem ret_b91 {Q s0 : Nat} {s1 : Int32} : Ret k (f_X48_declaration_b91 Q k s0 s1 h) := by
  unfold f_X48_declaration_b91
  exact Ret.stI' fun _ => Ret.ldI' fun _ => Ret.stI' fun _ => Ret.ite' (Ret.bnd fun _ _ => Ret.ldR' fun _ => Ret.stR' fun _ => Ret.ldI' fun _ => Ret.stI' fun _ => Ret.ldI' fun _ => Ret.ite' (Ret.ite' (Ret.bnd fun _ _ => ret_b138) Ret.no) ret_b138) Ret.no
theorem ret_b50 {Q : Nat} : Ret k (f_X48_declaration_b50 Q k h) := by
  unfold f_X48_declaration_b50
  exact Ret.ite' (Ret.bnd fun _ _ => Ret.ite' (Ret.ite' (Ret.bnd fun _ _ => Ret.ite' (Ret.ite' (Ret.bnd fun _ _ => Ret.ite' ret_b91 ret_b91) Ret.no) ret_b91) Ret.no) ret_b91) Ret.no
theorem ret_decl {Q : Nat} {a1 : Int32} : Ret (nx h) (f_X48_declaration Q a1 h) := by
  unfold f_X48_declaration
  rw [nwO_e]
  exact Ret.ite' (Ret.bnd fun _ _ => Ret.ite' (Ret.bnd fun _ _ => Ret.stZ' fun _ => Ret.ldI' fun _ => Ret.ite' ret_b50 (Ret.ldI' fun _ => Ret.stI' fun _ => Ret.ite' (Ret.bnd fun _ _ => Ret.ite' (Ret.ite' (Ret.bnd fun _ _ => Ret.ite' Ret.ex Ret.no) Ret.no) ret_b50) Ret.no)) Ret.no) Ret.no
