/-! PHASE B settle 2: what stays while declarations are settled (printed by b11_st.py) -/
set_option maxRecDepth 100000
variable {F K : List Nat} {c : Nat} {h h' : HP}
def SFL : List Nat := [27, 30, 31, 32, 33, 34, 35, 36, 38, 41, 43, 44, 45, 46, 48, 157, 158, 159, 160, 161, 162, 163, 164, 165, 166, 167, 168, 169, 170, 171, 172, 174, 175, 176, 177, 178, 179, 180, 181, 182, 184, 185, 186, 187, 188, 189, 191, 192, 193, 196, 199, 200, 201, 202, 206, 207, 208, 209, 210, 211, 213, 215, 216, 217, 218, 219, 221, 222, 223, 224, 225, 226, 227, 228, 230, 231, 232, 491, 353, 354, 355, 356, 357, 360, 361, 362, 363, 364, 365, 366, 367, 368, 369, 370, 371, 372, 373, 374, 376, 380, 381, 382, 384, 385, 386, 387, 388, 389, 390, 391, 392, 393, 395, 396, 397, 398, 399, 400, 52, 53, 54]
def SKL : List Nat := [71, 73, 100, 105, 106, 107, 108, 109, 110, 111, 112, 113, 114, 115, 129, 131, 132, 133, 135, 136, 137, 138, 139, 140, 141, 168]
/-- fields and kinds that may change are none of those that stay -/
def Sx (F K : List Nat) : Prop := (∀ f ∈ SFL, f ∉ F) ∧ ∀ k ∈ SKL, k ∉ K
theorem StrX_ef (u : Ef F K c h h') (s : Sx F K) {a : Nat} {t : List Nat} (x : StrX h a t) : StrX h' a t := u.str x (s.2 _ (by decide))
theorem IvX_ef (u : Ef F K c h h') (s : Sx F K) {a v : Nat} (x : IvX h a v) : IvX h' a v := u.iv x (s.1 _ (by decide))
theorem TyX_ef (u : Ef F K c h h') (s : Sx F K) {a : Nat} {T : Ty} (x : TyX h a T) : TyX h' a T := by
  obtain ⟨x1, x2, x3, x4, x5, x6⟩ := x
  have g := u.gr x1 (by decide) (s.1 170 (by decide))
  exact ⟨u.kk x1 (by decide), by rw [g]; exact u.kk x2 (by decide), by rw [g]; exact (u.gt x2 (by decide) (s.2 _ (by decide))).trans x3, (u.gi x1 (by decide) (s.1 _ (by decide))).trans x4, (u.gi x1 (by decide) (s.1 _ (by decide))).trans x5, x6⟩
/-- a list that stays -/
def LsS {β : Type} (h : HP) (l c : Nat) (P : HP → Nat → β → Prop) (xs : List β) : Prop := kc h l = c ∧ cp h l ≠ RAW ∧ A2 (P h) (ls h l) xs
theorem LsS_ef {β : Type} (u : Ef F K c h h') {l k : Nat} {P : HP → Nat → β → Prop} {xs : List β} (x : LsS h l k P xs) (hc : k ≠ 0) (hk : k ∉ K) (hP : ∀ a b, P h a b → P h' a b) : LsS h' l k P xs := by
  obtain ⟨x1, x2, x3⟩ := x
  exact ⟨u.kk x1 hc, by rw [u.gc x1 hc hk]; exact x2, by rw [u.gl x1 hc hk]; exact x3.imp fun a _ b z => hP a b z⟩
theorem LsX.st {β : Type} {G : Nat → Prop} {l k : Nat} {P Q : HP → Nat → β → Prop} {xs : List β} (x : LsX G h l k P xs) (hP : ∀ a b, P h a b → Q h a b) : LsS h l k Q xs := ⟨x.2.1, x.2.2.1, x.2.2.2.imp fun a _ b z => hP a b z⟩
theorem LsS.k {β : Type} {l k : Nat} {P : HP → Nat → β → Prop} {xs : List β} (x : LsS h l k P xs) (h1 : 100 ≤ k) (h2 : k < 200) : lsK h l := ⟨by rw [x.1]; exact h1, by rw [x.1]; exact h2, x.2.1⟩
theorem LsS.len {β : Type} {l k : Nat} {P : HP → Nat → β → Prop} {xs : List β} (x : LsS h l k P xs) : (ls h l).length = xs.length := x.2.2.len
/-- a type name of the list of type names -/
def TyS (e : EE) (h : HP) (a : Nat) (T : Ty) : Prop := TyX h a T ∧ a ∈ ls h e.tl ∧ kc h e.tl = 106
theorem TyS_ef {e : EE} (u : Ef F K c h h') (s : Sx F K) {a : Nat} {T : Ty} (x : TyS e h a T) : TyS e h' a T := ⟨TyX_ef u s x.1, by rw [u.gl x.2.2 (by decide) (s.2 _ (by decide))]; exact x.2.1, u.kk x.2.2 (by decide)⟩
/-- a kind -/
def KsX (h : HP) (a : Nat) (num sort ab at' : Nat) (nm dsc : List Nat) (cs : List (List Nat)) : Prop :=
  kc h a = 4 ∧ fi h 31 a = nI num ∧ fr h 32 a = 900 + sort ∧ StrX h (fr h 33 a) nm ∧ fr h 34 a = 0 ∧ fi h 35 a = 0 ∧ StrX h (fr h 36 a) dsc ∧ fi h 38 a = nI ab ∧ kc h (fr h 41 a) = 104 ∧ kc h (fr h 43 a) = 103 ∧ kc h (fr h 44 a) = 102 ∧ kc h (fr h 45 a) = 101 ∧ LsS h (fr h 46 a) 100 StrX cs ∧ fi h 48 a = nI at'
theorem KsX_ef (u : Ef F K c h h') (s : Sx F K) {a : Nat} {num sort ab at' : Nat} {nm dsc : List Nat} {cs : List (List Nat)} (x : KsX h a num sort ab at' nm dsc cs) : KsX h' a num sort ab at' nm dsc cs := by
  obtain ⟨k0, m0, m1, m2, m3, m4, m5, m6, m7, m8, m9, m10, m11, m12⟩ := x
  exact ⟨u.kk k0 (by decide), (u.gi k0 (by decide) (s.1 31 (by decide))).trans m0, (u.gr k0 (by decide) (s.1 32 (by decide))).trans m1, by rw [(u.gr k0 (by decide) (s.1 33 (by decide)))]; exact StrX_ef u s m2, (u.gr k0 (by decide) (s.1 34 (by decide))).trans m3, (u.gi k0 (by decide) (s.1 35 (by decide))).trans m4, by rw [(u.gr k0 (by decide) (s.1 36 (by decide)))]; exact StrX_ef u s m5, (u.gi k0 (by decide) (s.1 38 (by decide))).trans m6, by rw [(u.gr k0 (by decide) (s.1 41 (by decide)))]; exact u.kk m7 (by decide), by rw [(u.gr k0 (by decide) (s.1 43 (by decide)))]; exact u.kk m8 (by decide), by rw [(u.gr k0 (by decide) (s.1 44 (by decide)))]; exact u.kk m9 (by decide), by rw [(u.gr k0 (by decide) (s.1 45 (by decide)))]; exact u.kk m10 (by decide), by rw [(u.gr k0 (by decide) (s.1 46 (by decide)))]; exact LsS_ef u m11 (by decide) (s.2 _ (by decide)) (fun _ _ z => StrX_ef u s z), (u.gi k0 (by decide) (s.1 48 (by decide))).trans m12⟩
/-- whether a method has a body: where return stands, how high it is -/
def BkX (h : HP) (a : Nat) (b : Option (Nat × Nat)) : Prop :=
  kc h a = 30 ∧ fi h 228 a = (match b with | none => -1 | some b => nI b.1) ∧ (match b with | none => fr h 232 a = 0 | some b => fr h 232 a ≠ 0 ∧ fi h 184 (fr h 232 a) = nI b.2 ∧ 16 ≤ kc h (fr h 232 a) ∧ kc h (fr h 232 a) ≤ 29)
theorem BkX_ef (u : Ef F K c h h') (s : Sx F K) {a : Nat} {b : Option (Nat × Nat)} (x : BkX h a b) : BkX h' a b := by
  obtain ⟨k0, m0⟩ := x
  exact ⟨u.kk k0 (by decide), by
    obtain ⟨b1, b2⟩ := m0
    refine ⟨(u.gi k0 (by decide) (s.1 228 (by decide))).trans b1, ?_⟩
    rw [u.gr k0 (by decide) (s.1 232 (by decide))]
    cases b with
    | none => exact b2
    | some b =>
      have kk : kc h (fr h 232 a) ≠ 0 := by omega
      exact ⟨b2.1, (u.gi rfl kk (s.1 184 (by decide))).trans b2.2.1, by rw [u.kk rfl kk]; exact b2.2.2⟩⟩
def bdS (m : Mt) : Option (Nat × Nat) := m.2.2.2.map fun b => (b.1, b.2.2)
/-- a method -/
def MtS (h : HP) (a : Nat) (k : Nat) (nm : Td) (m : Mt) : Prop :=
  kc h a = 30 ∧ StrX h (fr h 224 a) nm.1 ∧ fr h 225 a = k ∧ fi h 226 a = nI m.2.1 ∧ fi h 227 a = nI nm.2 ∧ kc h (fr h 230 a) = 116 ∧ LsS h (fr h 231 a) 115 StrX (m.2.2.1.map fun v => v.2.1) ∧ BkX h a (bdS m)
theorem MtS_ef (u : Ef F K c h h') (s : Sx F K) {a : Nat} {k : Nat} {nm : Td} {m : Mt} (x : MtS h a k nm m) : MtS h' a k nm m := by
  obtain ⟨k0, m0, m1, m2, m3, m4, m5, m6⟩ := x
  exact ⟨u.kk k0 (by decide), by rw [(u.gr k0 (by decide) (s.1 224 (by decide)))]; exact StrX_ef u s m0, (u.gr k0 (by decide) (s.1 225 (by decide))).trans m1, (u.gi k0 (by decide) (s.1 226 (by decide))).trans m2, (u.gi k0 (by decide) (s.1 227 (by decide))).trans m3, by rw [(u.gr k0 (by decide) (s.1 230 (by decide)))]; exact u.kk m4 (by decide), by rw [(u.gr k0 (by decide) (s.1 231 (by decide)))]; exact LsS_ef u m5 (by decide) (s.2 _ (by decide)) (fun _ _ z => StrX_ef u s z), BkX_ef u s m6⟩
def MoS (k : Nat) (nm : Td) (h : HP) (a : Nat) (m : Option Mt) : Prop := match m with
  | none => a = 0
  | some m => a ≠ 0 ∧ MtS h a k nm m
theorem MoS_ef (u : Ef F K c h h') (s : Sx F K) {k a : Nat} {nm : Td} {m : Option Mt} (x : MoS k nm h a m) : MoS k nm h' a m := by
  cases m with
  | none => exact x
  | some m => exact ⟨x.1, MtS_ef u s x.2⟩
/-- a member -/
def MbS (e : EE) (h : HP) (a : Nat) (k : Nat) (m : Mb) : Prop :=
  kc h a = 15 ∧ TyS e h (fr h 174 a) m.1.1 ∧ StrX h (fr h 175 a) m.1.2.1 ∧ fi h 176 a = nI m.1.2.2 ∧ LsS h (fr h 178 a) 114 (TyS e) ((mps m.2).map fun v => v.1) ∧ LsS h (fr h 179 a) 113 IvX ((mps m.2).map fun v => v.2.2) ∧ fi h 180 a = (if mwd m.2 = 1 then 1 else 0) ∧ fi h 181 a = (if mwd m.2 = 2 then 1 else 0) ∧ MoS k m.1.2 h (fr h 177 a) m.2 ∧ okMb m
theorem MbS_ef {e : EE} (u : Ef F K c h h') (s : Sx F K) {a : Nat} {k : Nat} {m : Mb} (x : MbS e h a k m) : MbS e h' a k m := by
  obtain ⟨k0, m0, m1, m2, m3, m4, m5, m6, m7, m8⟩ := x
  exact ⟨u.kk k0 (by decide), by rw [(u.gr k0 (by decide) (s.1 174 (by decide)))]; exact TyS_ef u s m0, by rw [(u.gr k0 (by decide) (s.1 175 (by decide)))]; exact StrX_ef u s m1, (u.gi k0 (by decide) (s.1 176 (by decide))).trans m2, by rw [(u.gr k0 (by decide) (s.1 178 (by decide)))]; exact LsS_ef u m3 (by decide) (s.2 _ (by decide)) (fun _ _ z => TyS_ef u s z), by rw [(u.gr k0 (by decide) (s.1 179 (by decide)))]; exact LsS_ef u m4 (by decide) (s.2 _ (by decide)) (fun _ _ z => IvX_ef u s z), (u.gi k0 (by decide) (s.1 180 (by decide))).trans m5, (u.gi k0 (by decide) (s.1 181 (by decide))).trans m6, by rw [(u.gr k0 (by decide) (s.1 177 (by decide)))]; exact MoS_ef u s m7, m8⟩
/-- a declaration -/
def DdX (e : EE) (h : HP) (a : Nat) (k : Nat) (d : DC) : Prop :=
  kc h a = 13 ∧ fr h 163 a = k ∧ StrX h (fr h 164 a) (onm d.2.2.2.1) ∧ fi h 165 a = (oat d.2.2.2.1) ∧ LsS h (fr h 166 a) 112 StrX (d.2.2.2.2.1.map Prod.fst) ∧ LsS h (fr h 167 a) 111 IvX (d.2.2.2.2.1.map Prod.snd) ∧ LsS h (fr h 168 a) 110 (fun h b m => MbS e h b k m) d.2.2.2.2.2.1 ∧ LsS h (fr h 169 a) 109 IvX (d.2.2.2.2.2.2.map Prod.snd)
theorem DdX_ef {e : EE} (u : Ef F K c h h') (s : Sx F K) {a : Nat} {k : Nat} {d : DC} (x : DdX e h a k d) : DdX e h' a k d := by
  obtain ⟨k0, m0, m1, m2, m3, m4, m5, m6⟩ := x
  exact ⟨u.kk k0 (by decide), (u.gr k0 (by decide) (s.1 163 (by decide))).trans m0, by rw [(u.gr k0 (by decide) (s.1 164 (by decide)))]; exact StrX_ef u s m1, (u.gi k0 (by decide) (s.1 165 (by decide))).trans m2, by rw [(u.gr k0 (by decide) (s.1 166 (by decide)))]; exact LsS_ef u m3 (by decide) (s.2 _ (by decide)) (fun _ _ z => StrX_ef u s z), by rw [(u.gr k0 (by decide) (s.1 167 (by decide)))]; exact LsS_ef u m4 (by decide) (s.2 _ (by decide)) (fun _ _ z => IvX_ef u s z), by rw [(u.gr k0 (by decide) (s.1 168 (by decide)))]; exact LsS_ef u m5 (by decide) (s.2 _ (by decide)) (fun _ _ z => MbS_ef u s z), by rw [(u.gr k0 (by decide) (s.1 169 (by decide)))]; exact LsS_ef u m6 (by decide) (s.2 _ (by decide)) (fun _ _ z => IvX_ef u s z)⟩
