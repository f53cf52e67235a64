/-! PHASE B declarations 2: what a declaration is, in both heaps (printed by b06_rep.py) -/
set_option maxRecDepth 100000
abbrev Vr : Type := Ty × Td
/-- a body: where return stands, items, height -/
abbrev Bd : Type := Nat × List It × Nat
/-- a method: its word, its place, parameters, body -/
abbrev Mt : Type := Nat × Nat × List Vr × Option Bd
abbrev Mb : Type := Vr × Option Mt
/-- a declaration: form, name, abstract, extends, the faces' names, members, constants -/
abbrev DC : Type := Nat × Td × Nat × Option Td × List Td × List Mb × List Td
def DC.own (d : DC) : List Vr := d.2.2.2.2.2.1.filterMap fun m => if m.2.isSome then none else some m.1
def DC.met (d : DC) : List (Vr × Mt) := d.2.2.2.2.2.1.filterMap fun m => m.2.map fun t => (m.1, t)
def DC.flg (d : DC) : List Nat := d.2.2.2.2.2.1.map fun m => if m.2.isSome then 1 else 0
def Fx (X : List Nat) (h h' : HP) : Prop := ∀ p, kc h p ≠ 0 → p ∉ X → kc h' p = kc h p ∧ xl h' p = xl h p ∧ Eq1 h h' p
theorem St.fx {X : List Nat} {a : Nat} {h h' : HP} (s : St [] X a h h') : Fx X h h' := fun p h0 hX => ⟨(s.2.2.2.2 p h0).1, (s.2.2.2.2 p h0).2.1, (s.2.2.2.2 p h0).2.2 (by simp) hX⟩
/-- a list of things -/
def LsX {β : Type} (F : Nat → Prop) (h : HP) (l c : Nat) (P : HP → Nat → β → Prop) (xs : List β) : Prop := F l ∧ kc h l = c ∧ cp h l ≠ RAW ∧ A2 (P h) (ls h l) xs
/-- a list of things, each with places of its own -/
def LsR {β : Type} (F : Nat → Prop) (h : HP) (l c : Nat) (P : (Nat → Prop) → HP → Nat → β → Prop) (xs : List β) : Prop := F l ∧ kc h l = c ∧ cp h l ≠ RAW ∧ (ls h l).length = xs.length ∧ ∃ Fs : Nat → Nat → Prop, (∀ r q, Fs r q → F q) ∧ (∀ r s q, Fs r q → Fs s q → r = s) ∧ ∀ r, (hr : r < xs.length) → P (Fs r) h ((ls h l).getD r 0) xs[r]
theorem LsR.wk {β : Type} {F G : Nat → Prop} {h : HP} {l c : Nat} {P : (Nat → Prop) → HP → Nat → β → Prop} {xs : List β} (x : LsR F h l c P xs) (hG : ∀ q, F q → G q) : LsR G h l c P xs := by
  obtain ⟨x0, x1, x2, x3, Fs, x4, x5, x6⟩ := x
  exact ⟨hG _ x0, x1, x2, x3, Fs, fun r q z => hG _ (x4 r q z), x5, x6⟩
def IvX (h : HP) (a v : Nat) : Prop := kc h a = 73 ∧ fi h 491 a = nI v
/-- a node stands for items -/
def Nx (e : EE) (F : Nat → Prop) (h : HP) (n : Nat) (its : List It) (H : Nat) : Prop := ∃ d, Nd e F d h n its H
theorem Nx_F {e : EE} {F G : Nat → Prop} {h : HP} {n H : Nat} {its : List It} (fg : ∀ q, F q → G q) (x : Nx e F h n its H) : Nx e G h n its H := by
  obtain ⟨d, y⟩ := x
  exact ⟨d, Nd_F fg y⟩
def ALLX : List Nat := [112, 111, 109, 104, 103, 102, 101, 100, 110, 114, 113, 116, 115]
def ALLM : List Nat := [139, 138, 137, 136, 135, 134, 132, 133]
def KSx : List Nat := [4, 13, 14, 15, 30, 31, 71, 73, 242]
def KSm : List Nat := [45, 47, 48, 49, 50, 51, 71, 73]
def FxX (e : EE) (F : Nat → Prop) (KL : List Nat) (h h' : HP) : Prop := ∃ X, Fx X h h' ∧ (∀ x ∈ X, kc h x ∉ KSx ∧ (kc h x ∈ KL → ¬ F x)) ∧ (∀ x ∈ ls h e.tl, x ∈ ls h' e.tl) ∧ ∀ Q n its H, Nx e Q h n its H → Nx e Q h' n its H
def FxM (F : Nat → Prop) (KL : List Nat) (h h' : HP) : Prop := ∃ X, Fx X h h' ∧ ∀ x ∈ X, kc h x ∉ KSm ∧ (kc h x ∈ KL → ¬ F x)
theorem FxX.ob {e : EE} {F : Nat → Prop} {KL : List Nat} {h h' : HP} (f : FxX e F KL h h') {p c : Nat} (hp : kc h p = c) (hc : c ≠ 0) (hk : c ∈ KSx) : kc h' p = c ∧ xl h' p = xl h p ∧ Eq1 h h' p := by
  obtain ⟨X, f1, f2, _⟩ := f
  have := f1 p (by rw [hp]; exact hc) (fun m => (f2 p m).1 (by rw [hp]; exact hk))
  exact ⟨this.1.trans hp, this.2⟩
theorem FxX.li {e : EE} {F : Nat → Prop} {KL : List Nat} {h h' : HP} (f : FxX e F KL h h') {p c : Nat} (hF : F p) (hp : kc h p = c) (hc : c ≠ 0) (hk : c ∈ KL) : kc h' p = c ∧ xl h' p = xl h p ∧ Eq1 h h' p := by
  obtain ⟨X, f1, f2, _⟩ := f
  have := f1 p (by rw [hp]; exact hc) (fun m => (f2 p m).2 (by rw [hp]; exact hk) hF)
  exact ⟨this.1.trans hp, this.2⟩
theorem FxX.wk {e : EE} {F G : Nat → Prop} {KL KL' : List Nat} {h h' : HP} (f : FxX e F KL h h') (hG : ∀ p, G p → F p) (hk : ∀ k ∈ KL', k ∈ KL) : FxX e G KL' h h' := by
  obtain ⟨X, f1, f2, f3⟩ := f
  exact ⟨X, f1, fun x hx => ⟨(f2 x hx).1, fun z y => (f2 x hx).2 (hk _ z) (hG _ y)⟩, f3⟩
theorem FxM.ob {F : Nat → Prop} {KL : List Nat} {h h' : HP} (f : FxM F KL h h') {p c : Nat} (hp : kc h p = c) (hc : c ≠ 0) (hk : c ∈ KSm) : kc h' p = c ∧ xl h' p = xl h p ∧ Eq1 h h' p := by
  obtain ⟨X, f1, f2⟩ := f
  have := f1 p (by rw [hp]; exact hc) (fun m => (f2 p m).1 (by rw [hp]; exact hk))
  exact ⟨this.1.trans hp, this.2⟩
theorem FxM.li {F : Nat → Prop} {KL : List Nat} {h h' : HP} (f : FxM F KL h h') {p c : Nat} (hF : F p) (hp : kc h p = c) (hc : c ≠ 0) (hk : c ∈ KL) : kc h' p = c ∧ xl h' p = xl h p ∧ Eq1 h h' p := by
  obtain ⟨X, f1, f2⟩ := f
  have := f1 p (by rw [hp]; exact hc) (fun m => (f2 p m).2 (by rw [hp]; exact hk) hF)
  exact ⟨this.1.trans hp, this.2⟩
theorem FxM.wk {F G : Nat → Prop} {KL KL' : List Nat} {h h' : HP} (f : FxM F KL h h') (hG : ∀ p, G p → F p) (hk : ∀ k ∈ KL', k ∈ KL) : FxM G KL' h h' := by
  obtain ⟨X, f1, f2⟩ := f
  exact ⟨X, f1, fun x hx => ⟨(f2 x hx).1, fun z y => (f2 x hx).2 (hk _ z) (hG _ y)⟩⟩
theorem LsX_fx {β : Type} {e : EE} {F : Nat → Prop} {KL : List Nat} {h h' : HP} (f : FxX e F KL h h') {l c : Nat} {P : HP → Nat → β → Prop} {xs : List β} (x : LsX F h l c P xs) (hc : c ≠ 0) (hk : c ∈ KL) (hP : ∀ a b, P h a b → P h' a b) : LsX F h' l c P xs := by
  obtain ⟨x0, x1, x2, x3⟩ := x
  obtain ⟨e1, _, e2⟩ := f.li x0 x1 hc hk
  exact ⟨x0, e1, by rw [e2.2.2.2.2.2.2.2.2]; exact x2, by rw [e2.2.2.2.2.2.2.1]; exact x3.imp fun a _ b z => hP a b z⟩
theorem LsM_fx {β : Type} {F : Nat → Prop} {KL : List Nat} {h h' : HP} (f : FxM F KL h h') {l c : Nat} {P : HP → Nat → β → Prop} {xs : List β} (x : LsX F h l c P xs) (hc : c ≠ 0) (hk : c ∈ KL) (hP : ∀ a b, P h a b → P h' a b) : LsX F h' l c P xs := by
  obtain ⟨x0, x1, x2, x3⟩ := x
  obtain ⟨e1, _, e2⟩ := f.li x0 x1 hc hk
  exact ⟨x0, e1, by rw [e2.2.2.2.2.2.2.2.2]; exact x2, by rw [e2.2.2.2.2.2.2.1]; exact x3.imp fun a _ b z => hP a b z⟩
theorem LsR_fx {β : Type} {e : EE} {F : Nat → Prop} {KL : List Nat} {h h' : HP} (f : FxX e F KL h h') {l c : Nat} {P : (Nat → Prop) → HP → Nat → β → Prop} {xs : List β} (x : LsR F h l c P xs) (hc : c ≠ 0) (hk : c ∈ KL) (hP : ∀ G a b, (∀ q, G q → F q) → P G h a b → P G h' a b) : LsR F h' l c P xs := by
  obtain ⟨x0, x1, x2, x3, Fs, x4, x5, x6⟩ := x
  obtain ⟨e1, _, e2⟩ := f.li x0 x1 hc hk
  exact ⟨x0, e1, by rw [e2.2.2.2.2.2.2.2.2]; exact x2, by rw [e2.2.2.2.2.2.2.1]; exact x3, Fs, x4, x5, fun r hr => by rw [e2.2.2.2.2.2.2.1]; exact hP _ _ _ (x4 r) (x6 r hr)⟩
theorem LsX.wk {β : Type} {F G : Nat → Prop} {h : HP} {l c : Nat} {P Q : HP → Nat → β → Prop} {xs : List β} (x : LsX F h l c P xs) (hG : F l → G l) (hP : ∀ a b, P h a b → Q h a b) : LsX G h l c Q xs := ⟨hG x.1, x.2.1, x.2.2.1, x.2.2.2.imp fun a _ b z => hP a b z⟩
theorem StrX_fx {e : EE} {F : Nat → Prop} {KL : List Nat} {h h' : HP} (f : FxX e F KL h h') {a : Nat} {s : List Nat} (x : StrX h a s) : StrX h' a s := by
  obtain ⟨e1, _, e2⟩ := f.ob x.1 (by decide) (by decide)
  exact ⟨e1, e2.2.2.2.2.2.2.2.1.trans x.2⟩
theorem StrM_fx {F : Nat → Prop} {KL : List Nat} {h h' : HP} (f : FxM F KL h h') {a : Nat} {s : List Nat} (x : StrX h a s) : StrX h' a s := by
  obtain ⟨e1, _, e2⟩ := f.ob x.1 (by decide) (by decide)
  exact ⟨e1, e2.2.2.2.2.2.2.2.1.trans x.2⟩
theorem IvX_fx {e : EE} {F : Nat → Prop} {KL : List Nat} {h h' : HP} (f : FxX e F KL h h') {a v : Nat} (x : IvX h a v) : IvX h' a v := by
  obtain ⟨e1, _, e2⟩ := f.ob x.1 (by decide) (by decide)
  exact ⟨e1, (e2.1 _).trans x.2⟩
theorem IvM_fx {F : Nat → Prop} {KL : List Nat} {h h' : HP} (f : FxM F KL h h') {a v : Nat} (x : IvX h a v) : IvX h' a v := by
  obtain ⟨e1, _, e2⟩ := f.ob x.1 (by decide) (by decide)
  exact ⟨e1, (e2.1 _).trans x.2⟩
theorem TyX_fx {e : EE} {F : Nat → Prop} {KL : List Nat} {h h' : HP} (f : FxX e F KL h h') {a : Nat} {T : Ty} (x : TyX h a T) : TyX h' a T := by
  obtain ⟨m1, m2, m3, m4, m5, m6⟩ := x
  obtain ⟨a1, _, a3⟩ := f.ob m1 (by decide) (by decide)
  have s := StrX_fx f (⟨m2, m3⟩ : StrX h (fr h 170 a) T.1)
  exact ⟨a1, by rw [a3.2.2.1]; exact s.1, by rw [a3.2.2.1]; exact s.2, (a3.1 _).trans m4, (a3.1 _).trans m5, m6⟩
/-- a type that is among the parser's -/
def TyE (e : EE) (h : HP) (a : Nat) (T : Ty) : Prop := TyX h a T ∧ a ∈ ls h e.tl
theorem TyE_fx {e : EE} {F : Nat → Prop} {KL : List Nat} {h h' : HP} (f : FxX e F KL h h') {a : Nat} {T : Ty} (x : TyE e h a T) : TyE e h' a T := ⟨TyX_fx f x.1, by obtain ⟨X, f1, f2, f3, f4⟩ := f; exact f3 _ x.2⟩
theorem TyM_fx {F : Nat → Prop} {KL : List Nat} {h h' : HP} (f : FxM F KL h h') {a : Nat} {T : Ty} (x : TyM h a T) : TyM h' a T := by
  obtain ⟨m1, m2, m3, m4, m5, m6⟩ := x
  obtain ⟨a1, _, a3⟩ := f.ob m1 (by decide) (by decide)
  have s := StrM_fx f (⟨m2, m3⟩ : StrX h (fr h 380 a) T.1)
  exact ⟨a1, by rw [a3.2.2.1]; exact s.1, by rw [a3.2.2.1]; exact s.2, (a3.1 _).trans m4, (a3.1 _).trans m5, (a3.1 _).trans m6⟩
theorem ToM_fx {F : Nat → Prop} {KL : List Nat} {h h' : HP} (f : FxM F KL h h') {a : Nat} {s : Td} (x : ToM h a s) : ToM h' a s := by
  obtain ⟨m1, m2, m3⟩ := x
  obtain ⟨a1, _, a3⟩ := f.ob m1 (by decide) (by decide)
  exact ⟨a1, by rw [a3.2.2.1]; exact StrM_fx f m2, (a3.1 _).trans m3⟩
theorem ItM_fx {F : Nat → Prop} {KL : List Nat} {h h' : HP} (f : FxM F KL h h') {a : Nat} {I : It} (x : ItM h a I) : ItM h' a I := by
  obtain ⟨m1, m2, m3, m4, m5, m6, m7⟩ := x
  obtain ⟨a1, _, a3⟩ := f.ob m1 (by decide) (by decide)
  refine ⟨a1, (a3.1 _).trans m2, (a3.1 _).trans m3, by rw [a3.2.2.1]; exact StrM_fx f m4, (a3.2.1 _).trans m5, (a3.1 _).trans m6, ?_⟩
  rw [a3.2.2.1]
  cases hI : I.2.2.2.2.2 with
  | none => rw [hI] at m7; exact m7
  | some T => rw [hI] at m7; exact TyM_fx f m7
/-- an empty row of booleans -/
def ArZ (h : HP) (a c : Nat) : Prop := kc h a = c ∧ xl h a = 0
theorem ArZ_fx {e : EE} {F : Nat → Prop} {KL : List Nat} {h h' : HP} (f : FxX e F KL h h') {a c : Nat} (x : ArZ h a c) (hc : c = 242) : ArZ h' a c := by
  obtain ⟨e1, e2, _⟩ := f.ob x.1 (by omega) (by rw [hc]; decide)
  exact ⟨e1, e2.trans x.2⟩
def srt (f : Nat) : Nat := if f = 1 then 3 else if f = 2 then 4 else if f = 3 then 6 else 5
def oat (t : Option Td) : Int32 := match t with
  | none => -1
  | some t => nI t.2
def onm (t : Option Td) : List Nat := match t with
  | none => []
  | some t => t.1
/-- a told name, or none -/
def ToO (h : HP) (a : Nat) (o : Option Td) : Prop := match o with
  | none => a = 0
  | some T => ToM h a T
theorem ToO_fx {F : Nat → Prop} {KL : List Nat} {h h' : HP} (f : FxM F KL h h') {a : Nat} {s : Option Td} (x : ToO h a s) : ToO h' a s := by
  cases s with
  | none => exact x
  | some T => exact ToM_fx f x
def BdX (e : EE) (F : Nat → Prop) (h : HP) (a : Nat) (b : Option Bd) : Prop := fi h 228 a = (match b with | none => -1 | some b => nI b.1) ∧ (match b with | none => fr h 232 a = 0 | some b => fr h 232 a ≠ 0 ∧ Nx e F h (fr h 232 a) b.2.1 b.2.2 ∧ b.1 ≤ 300)
theorem BdX_wk {e : EE} {F G : Nat → Prop} {h : HP} {a : Nat} {b : Option Bd} (fg : ∀ q, F q → G q) (x : BdX e F h a b) : BdX e G h a b := by
  obtain ⟨b1, b2⟩ := x
  refine ⟨b1, ?_⟩
  cases b with
  | none => exact b2
  | some b => exact ⟨b2.1, Nx_F fg b2.2.1, b2.2.2⟩
def BdM (F : Nat → Prop) (h : HP) (a : Nat) (b : Option Bd) : Prop := match b with
  | none => fr h 392 a = 0
  | some b => fr h 392 a ≠ 0 ∧ fi h 393 a = nI b.1 ∧ LsX F h (fr h 392 a) 133 ItM b.2.1
/-- a kind as it is begun -/
def KbX (e : EE) (F : Nat → Prop) (h : HP) (a : Nat) (num sort ab at' : Nat) (nm : List Nat) (cs : List (List Nat)) : Prop :=
  kc h a = 4 ∧ fi h 31 a = nI num ∧ fr h 32 a = 900 + sort ∧ StrX h (fr h 33 a) nm ∧ fr h 34 a = 0 ∧ fi h 35 a = 0 ∧ StrX h (fr h 36 a) (76 :: nm ++ [59]) ∧ fr h 37 a = 0 ∧ fi h 38 a = nI ab ∧ fi h 39 a = 0 ∧ fr h 40 a = 0 ∧ LsX F h (fr h 41 a) 104 StrX ([] : List (List Nat)) ∧ ArZ h (fr h 42 a) 242 ∧ LsX F h (fr h 43 a) 103 StrX ([] : List (List Nat)) ∧ LsX F h (fr h 44 a) 102 StrX ([] : List (List Nat)) ∧ LsX F h (fr h 45 a) 101 StrX ([] : List (List Nat)) ∧ LsX F h (fr h 46 a) 100 StrX cs ∧ fi h 47 a = 0 ∧ fi h 48 a = nI at'
theorem KbX_fx {e : EE} {F : Nat → Prop} {KL : List Nat} {h h' : HP} (f : FxX e F KL h h') (hk : ∀ k ∈ [104, 103, 102, 101, 100], k ∈ KL) {a : Nat} {num sort ab at' : Nat} {nm : List Nat} {cs : List (List Nat)} (x : KbX e F h a num sort ab at' nm cs) : KbX e F h' a num sort ab at' nm cs := by
  obtain ⟨k0, m0, m1, m2, m3, m4, m5, m6, m7, m8, m9, m10, m11, m12, m13, m14, m15, m16, m17⟩ := x
  obtain ⟨a1, _, a3⟩ := f.ob k0 (by decide) (by decide)
  exact ⟨a1, (a3.1 _).trans m0, (a3.2.2.1 _).trans m1, by rw [a3.2.2.1]; exact StrX_fx f m2, (a3.2.2.1 _).trans m3, (a3.1 _).trans m4, by rw [a3.2.2.1]; exact StrX_fx f m5, (a3.2.2.1 _).trans m6, (a3.1 _).trans m7, (a3.1 _).trans m8, (a3.2.2.1 _).trans m9, by rw [a3.2.2.1]; exact LsX_fx f m10 (by decide) (hk _ (by decide)) (fun _ _ z => StrX_fx f z), by rw [a3.2.2.1]; exact ArZ_fx f m11 rfl, by rw [a3.2.2.1]; exact LsX_fx f m12 (by decide) (hk _ (by decide)) (fun _ _ z => StrX_fx f z), by rw [a3.2.2.1]; exact LsX_fx f m13 (by decide) (hk _ (by decide)) (fun _ _ z => StrX_fx f z), by rw [a3.2.2.1]; exact LsX_fx f m14 (by decide) (hk _ (by decide)) (fun _ _ z => StrX_fx f z), by rw [a3.2.2.1]; exact LsX_fx f m15 (by decide) (hk _ (by decide)) (fun _ _ z => StrX_fx f z), (a3.1 _).trans m16, (a3.1 _).trans m17⟩
theorem KbX_wk {e : EE} {F G : Nat → Prop} {h : HP} (hG : ∀ l, F l → G l) {a : Nat} {num sort ab at' : Nat} {nm : List Nat} {cs : List (List Nat)} (x : KbX e F h a num sort ab at' nm cs) : KbX e G h a num sort ab at' nm cs := by
  obtain ⟨k0, m0, m1, m2, m3, m4, m5, m6, m7, m8, m9, m10, m11, m12, m13, m14, m15, m16, m17⟩ := x
  exact ⟨k0, m0, m1, m2, m3, m4, m5, m6, m7, m8, m9, m10.wk (hG _) (fun _ _ z => z), m11, m12.wk (hG _) (fun _ _ z => z), m13.wk (hG _) (fun _ _ z => z), m14.wk (hG _) (fun _ _ z => z), m15.wk (hG _) (fun _ _ z => z), m16, m17⟩
/-- a method as it is read -/
def MtX (e : EE) (F : Nat → Prop) (h : HP) (a : Nat) (k : Nat) (nm : Td) (m : Mt) : Prop :=
  kc h a = 30 ∧ StrX h (fr h 224 a) nm.1 ∧ fr h 225 a = k ∧ fi h 226 a = nI m.2.1 ∧ fi h 227 a = nI nm.2 ∧ fr h 229 a = 0 ∧ LsX F h (fr h 230 a) 116 StrX ([] : List (List Nat)) ∧ LsX F h (fr h 231 a) 115 StrX (m.2.2.1.map fun v => v.2.1) ∧ fi h 233 a = 0 ∧ BdX e F h a m.2.2.2
theorem MtX_fx {e : EE} {F : Nat → Prop} {KL : List Nat} {h h' : HP} (f : FxX e F KL h h') (hk : ∀ k ∈ [116, 115], k ∈ KL) {a : Nat} {k : Nat} {nm : Td} {m : Mt} (x : MtX e F h a k nm m) : MtX e F h' a k nm m := by
  obtain ⟨k0, m0, m1, m2, m3, m4, m5, m6, m7, m8⟩ := x
  obtain ⟨a1, _, a3⟩ := f.ob k0 (by decide) (by decide)
  exact ⟨a1, by rw [a3.2.2.1]; exact StrX_fx f m0, (a3.2.2.1 _).trans m1, (a3.1 _).trans m2, (a3.1 _).trans m3, (a3.2.2.1 _).trans m4, by rw [a3.2.2.1]; exact LsX_fx f m5 (by decide) (hk _ (by decide)) (fun _ _ z => StrX_fx f z), by rw [a3.2.2.1]; exact LsX_fx f m6 (by decide) (hk _ (by decide)) (fun _ _ z => StrX_fx f z), (a3.1 _).trans m7, by
    obtain ⟨b1, b2⟩ := m8
    refine ⟨(a3.1 _).trans b1, ?_⟩
    rw [a3.2.2.1]
    cases hb : m.2.2.2 with
    | none => rw [hb] at b2; exact b2
    | some b => rw [hb] at b2; exact ⟨b2.1, by obtain ⟨X, f1, f2, f3, f4⟩ := f; exact f4 _ _ _ _ b2.2.1, b2.2.2⟩⟩
theorem MtX_wk {e : EE} {F G : Nat → Prop} {h : HP} (hG : ∀ l, F l → G l) {a : Nat} {k : Nat} {nm : Td} {m : Mt} (x : MtX e F h a k nm m) : MtX e G h a k nm m := by
  obtain ⟨k0, m0, m1, m2, m3, m4, m5, m6, m7, m8⟩ := x
  exact ⟨k0, m0, m1, m2, m3, m4, m5.wk (hG _) (fun _ _ z => z), m6.wk (hG _) (fun _ _ z => z), m7, BdX_wk hG m8⟩
def MtO (e : EE) (F : Nat → Prop) (k : Nat) (nm : Td) (h : HP) (a : Nat) (m : Option Mt) : Prop := match m with
  | none => a = 0
  | some m => a ≠ 0 ∧ MtX e F h a k nm m
theorem MtO_fx {e : EE} {F : Nat → Prop} {KL : List Nat} {h h' : HP} (f : FxX e F KL h h') (hk : ∀ k ∈ [116, 115], k ∈ KL) {a k : Nat} {nm : Td} {m : Option Mt} (x : MtO e F k nm h a m) : MtO e F k nm h' a m := by
  cases m with
  | none => exact x
  | some m => exact ⟨x.1, MtX_fx f hk x.2⟩
theorem MtO_wk {e : EE} {F G : Nat → Prop} {h : HP} (hG : ∀ l, F l → G l) {a k : Nat} {nm : Td} {m : Option Mt} (x : MtO e F k nm h a m) : MtO e G k nm h a m := by
  cases m with
  | none => exact x
  | some m => exact ⟨x.1, MtX_wk hG x.2⟩
def mwd (m : Option Mt) : Nat := match m with
  | none => 0
  | some m => m.1
def mps (m : Option Mt) : List Vr := match m with
  | none => []
  | some m => m.2.2.1
/-- names are no plain kinds' words -/
def okMb (m : Mb) : Prop := (m.2 = none → m.1.2.1 ∉ PW) ∧ (∀ v ∈ mps m.2, v.2.1 ∉ PW) ∧ (mps m.2).length ≤ 8
/-- a member as it is read -/
def MbX (e : EE) (F : Nat → Prop) (h : HP) (a : Nat) (k : Nat) (m : Mb) : Prop :=
  kc h a = 15 ∧ TyE e h (fr h 174 a) m.1.1 ∧ StrX h (fr h 175 a) m.1.2.1 ∧ fi h 176 a = nI m.1.2.2 ∧ LsX F h (fr h 178 a) 114 (TyE e) ((mps m.2).map fun v => v.1) ∧ LsX F h (fr h 179 a) 113 IvX ((mps m.2).map fun v => v.2.2) ∧ fi h 180 a = (if mwd m.2 = 1 then 1 else 0) ∧ fi h 181 a = (if mwd m.2 = 2 then 1 else 0) ∧ MtO e F k m.1.2 h (fr h 177 a) m.2 ∧ okMb m
theorem MbX_fx {e : EE} {F : Nat → Prop} {KL : List Nat} {h h' : HP} (f : FxX e F KL h h') (hk : ∀ k ∈ [114, 113, 116, 115], k ∈ KL) {a : Nat} {k : Nat} {m : Mb} (x : MbX e F h a k m) : MbX e F h' a k m := by
  obtain ⟨k0, m0, m1, m2, m3, m4, m5, m6, m7, m8⟩ := x
  obtain ⟨a1, _, a3⟩ := f.ob k0 (by decide) (by decide)
  exact ⟨a1, by rw [a3.2.2.1]; exact TyE_fx f m0, by rw [a3.2.2.1]; exact StrX_fx f m1, (a3.1 _).trans m2, by rw [a3.2.2.1]; exact LsX_fx f m3 (by decide) (hk _ (by decide)) (fun _ _ z => TyE_fx f z), by rw [a3.2.2.1]; exact LsX_fx f m4 (by decide) (hk _ (by decide)) (fun _ _ z => IvX_fx f z), (a3.1 _).trans m5, (a3.1 _).trans m6, by rw [a3.2.2.1]; exact MtO_fx f (fun k hk' => hk k (by simp at hk' ⊢; omega)) m7, m8⟩
theorem MbX_wk {e : EE} {F G : Nat → Prop} {h : HP} (hG : ∀ l, F l → G l) {a : Nat} {k : Nat} {m : Mb} (x : MbX e F h a k m) : MbX e G h a k m := by
  obtain ⟨k0, m0, m1, m2, m3, m4, m5, m6, m7, m8⟩ := x
  exact ⟨k0, m0, m1, m2, m3.wk (hG _) (fun _ _ z => z), m4.wk (hG _) (fun _ _ z => z), m5, m6, MtO_wk hG m7, m8⟩
/-- a declaration as it is read -/
def DXg (e : EE) (F : Nat → Prop) (h : HP) (a : Nat) (num : Nat × Nat) (form ab at' : Nat) (nm : List Nat) (ex : Option Td) (fn : List (List Nat)) (fp : List Nat) (mb : List Mb) (cn : List (List Nat)) (cp' : List Nat) : Prop :=
  kc h a = 13 ∧ KbX e F h (fr h 163 a) num.1 (srt form) (if form = 2 then 1 else ab) at' nm cn ∧ StrX h (fr h 164 a) (onm ex) ∧ (fi h 165 a = oat ex ∧ ∀ t, ex = some t → t.2 ≤ 300) ∧ LsX F h (fr h 166 a) 112 StrX fn ∧ LsX F h (fr h 167 a) 111 IvX fp ∧ LsR F h (fr h 168 a) 110 (fun G g b m => MbX e G g b (fr h 163 a) m) mb ∧ LsX F h (fr h 169 a) 109 IvX cp' ∧ fr h 163 a = num.2 ∧ (nm ∉ PW ∧ nm.length ≤ 100) ∧ (fn.length ≤ 401 ∧ mb.length ≤ 401 ∧ cn.length ≤ 401) ∧ 1 ≤ form ∧ form ≤ 4 ∧ ab ≤ 1 ∧ (form ≠ 1 → ex = none)
theorem DXg_fx {e : EE} {F : Nat → Prop} {KL : List Nat} {h h' : HP} (f : FxX e F KL h h') (hk : ∀ k ∈ [112, 111, 109, 104, 103, 102, 101, 100, 110, 114, 113, 116, 115], k ∈ KL) {a : Nat} {num : Nat × Nat} {form ab at' : Nat} {nm : List Nat} {ex : Option Td} {fn : List (List Nat)} {fp : List Nat} {mb : List Mb} {cn : List (List Nat)} {cp' : List Nat} (x : DXg e F h a num form ab at' nm ex fn fp mb cn cp') : DXg e F h' a num form ab at' nm ex fn fp mb cn cp' := by
  obtain ⟨k0, m0, m1, m2, m3, m4, m5, m6, m7, m8⟩ := x
  obtain ⟨a1, _, a3⟩ := f.ob k0 (by decide) (by decide)
  exact ⟨a1, by rw [a3.2.2.1]; exact KbX_fx f (fun k hk' => hk k (by simp at hk' ⊢; omega)) m0, by rw [a3.2.2.1]; exact StrX_fx f m1, ⟨(a3.1 _).trans m2.1, m2.2⟩, by rw [a3.2.2.1]; exact LsX_fx f m3 (by decide) (hk _ (by decide)) (fun _ _ z => StrX_fx f z), by rw [a3.2.2.1]; exact LsX_fx f m4 (by decide) (hk _ (by decide)) (fun _ _ z => IvX_fx f z), by rw [a3.2.2.1, a3.2.2.1]; exact (LsR_fx f m5 (by decide) (hk _ (by decide)) (fun G _ _ hG z => MbX_fx (f.wk hG (fun _ y => y)) (fun k hk' => hk k (by simp at hk' ⊢; omega)) z)), by rw [a3.2.2.1]; exact LsX_fx f m6 (by decide) (hk _ (by decide)) (fun _ _ z => IvX_fx f z), (a3.2.2.1 _).trans m7, m8⟩
theorem DXg_wk {e : EE} {F G : Nat → Prop} {h : HP} (hG : ∀ l, F l → G l) {a : Nat} {num : Nat × Nat} {form ab at' : Nat} {nm : List Nat} {ex : Option Td} {fn : List (List Nat)} {fp : List Nat} {mb : List Mb} {cn : List (List Nat)} {cp' : List Nat} (x : DXg e F h a num form ab at' nm ex fn fp mb cn cp') : DXg e G h a num form ab at' nm ex fn fp mb cn cp' := by
  obtain ⟨k0, m0, m1, m2, m3, m4, m5, m6, m7, m8⟩ := x
  exact ⟨k0, KbX_wk hG m0, m1, m2, m3.wk (hG _) (fun _ _ z => z), m4.wk (hG _) (fun _ _ z => z), m5.wk hG, m6.wk (hG _) (fun _ _ z => z), m7, m8⟩
abbrev DX (e : EE) (F : Nat → Prop) (h : HP) (a : Nat) (num : Nat × Nat) (d : DC) : Prop := DXg e F h a num d.1 d.2.2.1 d.2.1.2 d.2.1.1 d.2.2.2.1 (d.2.2.2.2.1.map Prod.fst) (d.2.2.2.2.1.map Prod.snd) d.2.2.2.2.2.1 (d.2.2.2.2.2.2.map Prod.fst) (d.2.2.2.2.2.2.map Prod.snd)
/-- a variable -/
def VarM (F : Nat → Prop) (h : HP) (a : Nat) (v : Vr) : Prop :=
  kc h a = 49 ∧ TyM h (fr h 384 a) v.1 ∧ ToM h (fr h 385 a) v.2
theorem VarM_fx {e : EE} {F : Nat → Prop} {KL : List Nat} {h h' : HP} (f : FxM F KL h h') (hk : ∀ k ∈ [], k ∈ KL) {a : Nat} {v : Vr} (x : VarM F h a v) : VarM F h' a v := by
  obtain ⟨k0, m0, m1⟩ := x
  obtain ⟨a1, _, a3⟩ := f.ob k0 (by decide) (by decide)
  exact ⟨a1, by rw [a3.2.2.1]; exact TyM_fx f m0, by rw [a3.2.2.1]; exact ToM_fx f m1⟩
theorem VarM_wk {e : EE} {F G : Nat → Prop} {h : HP} (hG : ∀ l, F l → G l) {a : Nat} {v : Vr} (x : VarM F h a v) : VarM G h a v := by
  obtain ⟨k0, m0, m1⟩ := x
  exact ⟨k0, m0, m1⟩
/-- a method in the twin -/
def MeM (F : Nat → Prop) (h : HP) (a : Nat) (k : Nat) (v : Vr × Mt) : Prop :=
  kc h a = 50 ∧ fr h 386 a = k ∧ fi h 387 a = nI v.2.2.1 ∧ fi h 388 a = nI v.2.1 ∧ TyM h (fr h 389 a) v.1.1 ∧ ToM h (fr h 390 a) v.1.2 ∧ LsX F h (fr h 391 a) 132 (fun h a v => VarM F h a v) v.2.2.2.1 ∧ BdM F h a v.2.2.2.2 ∧ fr h 394 a = 0
theorem MeM_fx {e : EE} {F : Nat → Prop} {KL : List Nat} {h h' : HP} (f : FxM F KL h h') (hk : ∀ k ∈ [132, 133], k ∈ KL) {a : Nat} {k : Nat} {v : Vr × Mt} (x : MeM F h a k v) : MeM F h' a k v := by
  obtain ⟨k0, m0, m1, m2, m3, m4, m5, m6, m7⟩ := x
  obtain ⟨a1, _, a3⟩ := f.ob k0 (by decide) (by decide)
  exact ⟨a1, (a3.2.2.1 _).trans m0, (a3.1 _).trans m1, (a3.1 _).trans m2, by rw [a3.2.2.1]; exact TyM_fx f m3, by rw [a3.2.2.1]; exact ToM_fx f m4, by rw [a3.2.2.1]; exact LsM_fx f m5 (by decide) (hk _ (by decide)) (fun _ _ z => VarM_fx (e := e) f (fun k hk' => by simp at hk') z), by
    unfold BdM
    cases hb : v.2.2.2.2 with
    | none => unfold BdM at m6; rw [hb] at m6; exact (a3.2.2.1 _).trans m6
    | some b =>
      unfold BdM at m6; rw [hb] at m6
      exact ⟨by rw [a3.2.2.1]; exact m6.1, (a3.1 _).trans m6.2.1, by rw [a3.2.2.1]; exact LsM_fx f m6.2.2 (by decide) (hk _ (by decide)) (fun _ _ z => ItM_fx f z)⟩, (a3.2.2.1 _).trans m7⟩
theorem MeM_wk {e : EE} {F G : Nat → Prop} {h : HP} (hG : ∀ l, F l → G l) {a : Nat} {k : Nat} {v : Vr × Mt} (x : MeM F h a k v) : MeM G h a k v := by
  obtain ⟨k0, m0, m1, m2, m3, m4, m5, m6, m7⟩ := x
  exact ⟨k0, m0, m1, m2, m3, m4, m5.wk (hG _) (fun _ _ z => VarM_wk (e := e) hG z), by
    unfold BdM at m6 ⊢
    cases hb : v.2.2.2.2 with
    | none => rw [hb] at m6; exact m6
    | some b => rw [hb] at m6; exact ⟨m6.1, m6.2.1, m6.2.2.wk (hG _) (fun _ _ z => z)⟩, m7⟩
/-- a kind in the twin -/
def KdMg (F : Nat → Prop) (h : HP) (a : Nat) (num form ab at' : Nat) (nm : List Nat) (ex : Option Td) (im : List Td) (ow : List Vr) (mt : List (Vr × Mt)) (cs : List Td) (fl : List Nat) : Prop :=
  kc h a = 47 ∧ fi h 362 a = nI num ∧ fi h 363 a = nI form ∧ fi h 364 a = nI ab ∧ StrX h (fr h 365 a) nm ∧ fi h 366 a = nI at' ∧ fi h 367 a = -1 ∧ fi h 368 a = 0 ∧ ToO h (fr h 369 a) ex ∧ LsX F h (fr h 370 a) 139 ToM im ∧ LsX F h (fr h 371 a) 138 (fun h a v => VarM F h a v) ow ∧ LsX F h (fr h 372 a) 137 (fun h b v => MeM F h b a v) mt ∧ LsX F h (fr h 373 a) 136 ToM cs ∧ LsX F h (fr h 374 a) 135 IvX fl ∧ fr h 375 a = 0 ∧ LsX F h (fr h 376 a) 134 StrX ([] : List (List Nat)) ∧ fr h 377 a = 0 ∧ fi h 378 a = 0 ∧ fr h 379 a = 0
theorem KdMg_fx {e : EE} {F : Nat → Prop} {KL : List Nat} {h h' : HP} (f : FxM F KL h h') (hk : ∀ k ∈ [139, 138, 137, 136, 135, 134, 132, 133], k ∈ KL) {a : Nat} {num form ab at' : Nat} {nm : List Nat} {ex : Option Td} {im : List Td} {ow : List Vr} {mt : List (Vr × Mt)} {cs : List Td} {fl : List Nat} (x : KdMg F h a num form ab at' nm ex im ow mt cs fl) : KdMg F h' a num form ab at' nm ex im ow mt cs fl := by
  obtain ⟨k0, m0, m1, m2, m3, m4, m5, m6, m7, m8, m9, m10, m11, m12, m13, m14, m15, m16, m17⟩ := x
  obtain ⟨a1, _, a3⟩ := f.ob k0 (by decide) (by decide)
  exact ⟨a1, (a3.1 _).trans m0, (a3.1 _).trans m1, (a3.1 _).trans m2, by rw [a3.2.2.1]; exact StrM_fx f m3, (a3.1 _).trans m4, (a3.1 _).trans m5, (a3.1 _).trans m6, by rw [a3.2.2.1]; exact ToO_fx f m7, by rw [a3.2.2.1]; exact LsM_fx f m8 (by decide) (hk _ (by decide)) (fun _ _ z => ToM_fx f z), by rw [a3.2.2.1]; exact LsM_fx f m9 (by decide) (hk _ (by decide)) (fun _ _ z => VarM_fx (e := e) f (fun k hk' => by simp at hk') z), by rw [a3.2.2.1]; exact LsM_fx f m10 (by decide) (hk _ (by decide)) (fun _ _ z => MeM_fx (e := e) f (fun k hk' => hk k (by simp at hk' ⊢; omega)) z), by rw [a3.2.2.1]; exact LsM_fx f m11 (by decide) (hk _ (by decide)) (fun _ _ z => ToM_fx f z), by rw [a3.2.2.1]; exact LsM_fx f m12 (by decide) (hk _ (by decide)) (fun _ _ z => IvM_fx f z), (a3.2.2.1 _).trans m13, by rw [a3.2.2.1]; exact LsM_fx f m14 (by decide) (hk _ (by decide)) (fun _ _ z => StrM_fx f z), (a3.2.2.1 _).trans m15, (a3.1 _).trans m16, (a3.2.2.1 _).trans m17⟩
theorem KdMg_wk {e : EE} {F G : Nat → Prop} {h : HP} (hG : ∀ l, F l → G l) {a : Nat} {num form ab at' : Nat} {nm : List Nat} {ex : Option Td} {im : List Td} {ow : List Vr} {mt : List (Vr × Mt)} {cs : List Td} {fl : List Nat} (x : KdMg F h a num form ab at' nm ex im ow mt cs fl) : KdMg G h a num form ab at' nm ex im ow mt cs fl := by
  obtain ⟨k0, m0, m1, m2, m3, m4, m5, m6, m7, m8, m9, m10, m11, m12, m13, m14, m15, m16, m17⟩ := x
  exact ⟨k0, m0, m1, m2, m3, m4, m5, m6, m7, m8.wk (hG _) (fun _ _ z => z), m9.wk (hG _) (fun _ _ z => VarM_wk (e := e) hG z), m10.wk (hG _) (fun _ _ z => MeM_wk (e := e) hG z), m11.wk (hG _) (fun _ _ z => z), m12.wk (hG _) (fun _ _ z => z), m13, m14.wk (hG _) (fun _ _ z => z), m15, m16, m17⟩
abbrev KdM (F : Nat → Prop) (h : HP) (a num : Nat) (d : DC) : Prop := KdMg F h a num d.1 d.2.2.1 d.2.1.2 d.2.1.1 d.2.2.2.1 d.2.2.2.2.1 d.own d.met d.2.2.2.2.2.2 d.flg
/-- a kind in the twin, before it is told -/
def KdP (F : Nat → Prop) (h : HP) (a : Nat) (num : Nat) : Prop :=
  kc h a = 47 ∧ fi h 362 a = nI num ∧ fi h 367 a = -1 ∧ fi h 368 a = 0 ∧ fr h 369 a = 0 ∧ LsX F h (fr h 370 a) 139 StrX ([] : List (List Nat)) ∧ LsX F h (fr h 371 a) 138 StrX ([] : List (List Nat)) ∧ LsX F h (fr h 372 a) 137 StrX ([] : List (List Nat)) ∧ LsX F h (fr h 373 a) 136 StrX ([] : List (List Nat)) ∧ LsX F h (fr h 374 a) 135 StrX ([] : List (List Nat)) ∧ fr h 375 a = 0 ∧ LsX F h (fr h 376 a) 134 StrX ([] : List (List Nat)) ∧ fr h 377 a = 0 ∧ fi h 378 a = 0 ∧ fr h 379 a = 0
theorem KdP_fx {e : EE} {F : Nat → Prop} {KL : List Nat} {h h' : HP} (f : FxM F KL h h') (hk : ∀ k ∈ [139, 138, 137, 136, 135, 134], k ∈ KL) {a : Nat} {num : Nat} (x : KdP F h a num) : KdP F h' a num := by
  obtain ⟨k0, m0, m1, m2, m3, m4, m5, m6, m7, m8, m9, m10, m11, m12, m13⟩ := x
  obtain ⟨a1, _, a3⟩ := f.ob k0 (by decide) (by decide)
  exact ⟨a1, (a3.1 _).trans m0, (a3.1 _).trans m1, (a3.1 _).trans m2, (a3.2.2.1 _).trans m3, by rw [a3.2.2.1]; exact LsM_fx f m4 (by decide) (hk _ (by decide)) (fun _ _ z => StrM_fx f z), by rw [a3.2.2.1]; exact LsM_fx f m5 (by decide) (hk _ (by decide)) (fun _ _ z => StrM_fx f z), by rw [a3.2.2.1]; exact LsM_fx f m6 (by decide) (hk _ (by decide)) (fun _ _ z => StrM_fx f z), by rw [a3.2.2.1]; exact LsM_fx f m7 (by decide) (hk _ (by decide)) (fun _ _ z => StrM_fx f z), by rw [a3.2.2.1]; exact LsM_fx f m8 (by decide) (hk _ (by decide)) (fun _ _ z => StrM_fx f z), (a3.2.2.1 _).trans m9, by rw [a3.2.2.1]; exact LsM_fx f m10 (by decide) (hk _ (by decide)) (fun _ _ z => StrM_fx f z), (a3.2.2.1 _).trans m11, (a3.1 _).trans m12, (a3.2.2.1 _).trans m13⟩
theorem KdP_wk {e : EE} {F G : Nat → Prop} {h : HP} (hG : ∀ l, F l → G l) {a : Nat} {num : Nat} (x : KdP F h a num) : KdP G h a num := by
  obtain ⟨k0, m0, m1, m2, m3, m4, m5, m6, m7, m8, m9, m10, m11, m12, m13⟩ := x
  exact ⟨k0, m0, m1, m2, m3, m4.wk (hG _) (fun _ _ z => z), m5.wk (hG _) (fun _ _ z => z), m6.wk (hG _) (fun _ _ z => z), m7.wk (hG _) (fun _ _ z => z), m8.wk (hG _) (fun _ _ z => z), m9, m10.wk (hG _) (fun _ _ z => z), m11, m12, m13⟩
