/-! PHASE B settle 6: what stays in the twin (printed by b11_st.py) -/
set_option maxRecDepth 100000
variable {F K : List Nat} {c : Nat} {h h' : HP} {W : Nat → Prop}
/-- a type as it is told, one of those that were made -/
def TyN (W : Nat → Prop) (h : HP) (a : Nat) (T : Ty) : Prop := kc h a = 48 ∧ StrX h (fr h 380 a) T.1 ∧ fi h 381 a = nI T.2.1 ∧ fi h 382 a = nI T.2.2 ∧ W a
theorem TyN_ef (u : Ef F K c h h') (s : Sx F K) {a : Nat} {T : Ty} (x : TyN W h a T) : TyN W h' a T := by
  obtain ⟨x1, x2, x3, x4, x5⟩ := x
  exact ⟨u.kk x1 (by decide), by rw [u.gr x1 (by decide) (s.1 380 (by decide))]; exact StrX_ef u s x2, (u.gi x1 (by decide) (s.1 381 (by decide))).trans x3, (u.gi x1 (by decide) (s.1 382 (by decide))).trans x4, x5⟩
theorem ToM_ef (u : Ef F K c h h') (s : Sx F K) {a : Nat} {t : Td} (x : ToM h a t) : ToM h' a t := by
  obtain ⟨x1, x2, x3⟩ := x
  exact ⟨u.kk x1 (by decide), by rw [u.gr x1 (by decide) (s.1 353 (by decide))]; exact StrX_ef u s x2, (u.gi x1 (by decide) (s.1 354 (by decide))).trans x3⟩
def ToOs (h : HP) (a : Nat) (o : Option Td) : Prop := match o with
  | none => a = 0
  | some t => a ≠ 0 ∧ ToM h a t
theorem ToOs_ef (u : Ef F K c h h') (s : Sx F K) {a : Nat} {o : Option Td} (x : ToOs h a o) : ToOs h' a o := by
  cases o with
  | none => exact x
  | some t => exact ⟨x.1, ToM_ef u s x.2⟩
def TyOs (W : Nat → Prop) (h : HP) (a : Nat) (o : Option Ty) : Prop := match o with
  | none => a = 0
  | some T => a ≠ 0 ∧ TyN W h a T
theorem TyOs_ef (u : Ef F K c h h') (s : Sx F K) {a : Nat} {o : Option Ty} (x : TyOs W h a o) : TyOs W h' a o := by
  cases o with
  | none => exact x
  | some t => exact ⟨x.1, TyN_ef u s x.2⟩
/-- an item -/
def ItN (W : Nat → Prop) (h : HP) (a : Nat) (I : It) : Prop :=
  kc h a = 51 ∧ fi h 395 a = nI I.1 ∧ fi h 396 a = nI I.2.1 ∧ StrX h (fr h 397 a) I.2.2.1 ∧ fj h 398 a = I.2.2.2.1 ∧ fi h 399 a = nI I.2.2.2.2.1 ∧ TyOs W h (fr h 400 a) I.2.2.2.2.2
theorem ItN_ef (u : Ef F K c h h') (s : Sx F K) {a : Nat} {I : It} (x : ItN W h a I) : ItN W h' a I := by
  obtain ⟨k0, m0, m1, m2, m3, m4, m5⟩ := x
  exact ⟨u.kk k0 (by decide), (u.gi k0 (by decide) (s.1 395 (by decide))).trans m0, (u.gi k0 (by decide) (s.1 396 (by decide))).trans m1, by rw [(u.gr k0 (by decide) (s.1 397 (by decide)))]; exact StrX_ef u s m2, (u.gj k0 (by decide) (s.1 398 (by decide))).trans m3, (u.gi k0 (by decide) (s.1 399 (by decide))).trans m4, by rw [(u.gr k0 (by decide) (s.1 400 (by decide)))]; exact TyOs_ef u s m5⟩
/-- a variable -/
def VaN (W : Nat → Prop) (h : HP) (a : Nat) (v : Vr) : Prop :=
  kc h a = 49 ∧ TyN W h (fr h 384 a) v.1 ∧ ToM h (fr h 385 a) v.2
theorem VaN_ef (u : Ef F K c h h') (s : Sx F K) {a : Nat} {v : Vr} (x : VaN W h a v) : VaN W h' a v := by
  obtain ⟨k0, m0, m1⟩ := x
  exact ⟨u.kk k0 (by decide), by rw [(u.gr k0 (by decide) (s.1 384 (by decide)))]; exact TyN_ef u s m0, by rw [(u.gr k0 (by decide) (s.1 385 (by decide)))]; exact ToM_ef u s m1⟩
/-- a method -/
def MeN (W : Nat → Prop) (h : HP) (a : Nat) (k : Nat) (v : Vr × Mt) : Prop :=
  kc h a = 50 ∧ fr h 386 a = k ∧ fi h 387 a = nI v.2.2.1 ∧ fi h 388 a = nI v.2.1 ∧ TyN W h (fr h 389 a) v.1.1 ∧ ToM h (fr h 390 a) v.1.2 ∧ LsS h (fr h 391 a) 132 (VaN W) v.2.2.2.1 ∧ match v.2.2.2.2 with | none => fr h 392 a = 0 | some b => fr h 392 a ≠ 0 ∧ fi h 393 a = nI b.1 ∧ LsS h (fr h 392 a) 133 (ItN W) b.2.1
theorem MeN_ef (u : Ef F K c h h') (s : Sx F K) {a : Nat} {k : Nat} {v : Vr × Mt} (x : MeN W h a k v) : MeN W h' a k v := by
  obtain ⟨k0, m0, m1, m2, m3, m4, m5, m6⟩ := x
  exact ⟨u.kk k0 (by decide), (u.gr k0 (by decide) (s.1 386 (by decide))).trans m0, (u.gi k0 (by decide) (s.1 387 (by decide))).trans m1, (u.gi k0 (by decide) (s.1 388 (by decide))).trans m2, by rw [(u.gr k0 (by decide) (s.1 389 (by decide)))]; exact TyN_ef u s m3, by rw [(u.gr k0 (by decide) (s.1 390 (by decide)))]; exact ToM_ef u s m4, by rw [(u.gr k0 (by decide) (s.1 391 (by decide)))]; exact LsS_ef u m5 (by decide) (s.2 _ (by decide)) (fun _ _ z => VaN_ef u s z), by
    have g := u.gr k0 (by decide) (s.1 392 (by decide))
    cases hb : v.2.2.2.2 with
    | none => rw [hb] at m6; exact g.trans m6
    | some b =>
      rw [hb] at m6
      exact ⟨by rw [g]; exact m6.1, (u.gi k0 (by decide) (s.1 393 (by decide))).trans m6.2.1, by rw [g]; exact LsS_ef u m6.2.2 (by decide) (s.2 _ (by decide)) (fun _ _ z => ItN_ef u s z)⟩⟩
/-- a kind -/
def KdN (W : Nat → Prop) (h : HP) (a : Nat) (num : Nat) (d : DC) : Prop :=
  kc h a = 47 ∧ fi h 362 a = nI num ∧ fi h 363 a = nI d.1 ∧ fi h 364 a = nI d.2.2.1 ∧ StrX h (fr h 365 a) d.2.1.1 ∧ fi h 366 a = nI d.2.1.2 ∧ fi h 367 a = -1 ∧ fi h 368 a = 0 ∧ ToOs h (fr h 369 a) d.2.2.2.1 ∧ LsS h (fr h 370 a) 139 ToM d.2.2.2.2.1 ∧ LsS h (fr h 371 a) 138 (VaN W) d.own ∧ LsS h (fr h 372 a) 137 (fun h b v => MeN W h b a v) d.met ∧ LsS h (fr h 373 a) 136 ToM d.2.2.2.2.2.2 ∧ LsS h (fr h 374 a) 135 IvX d.flg ∧ kc h (fr h 376 a) = 134
theorem KdN_ef (u : Ef F K c h h') (s : Sx F K) {a : Nat} {num : Nat} {d : DC} (x : KdN W h a num d) : KdN W h' a num d := by
  obtain ⟨k0, m0, m1, m2, m3, m4, m5, m6, m7, m8, m9, m10, m11, m12, m13⟩ := x
  exact ⟨u.kk k0 (by decide), (u.gi k0 (by decide) (s.1 362 (by decide))).trans m0, (u.gi k0 (by decide) (s.1 363 (by decide))).trans m1, (u.gi k0 (by decide) (s.1 364 (by decide))).trans m2, by rw [(u.gr k0 (by decide) (s.1 365 (by decide)))]; exact StrX_ef u s m3, (u.gi k0 (by decide) (s.1 366 (by decide))).trans m4, (u.gi k0 (by decide) (s.1 367 (by decide))).trans m5, (u.gi k0 (by decide) (s.1 368 (by decide))).trans m6, by rw [(u.gr k0 (by decide) (s.1 369 (by decide)))]; exact ToOs_ef u s m7, by rw [(u.gr k0 (by decide) (s.1 370 (by decide)))]; exact LsS_ef u m8 (by decide) (s.2 _ (by decide)) (fun _ _ z => ToM_ef u s z), by rw [(u.gr k0 (by decide) (s.1 371 (by decide)))]; exact LsS_ef u m9 (by decide) (s.2 _ (by decide)) (fun _ _ z => VaN_ef u s z), by rw [(u.gr k0 (by decide) (s.1 372 (by decide)))]; exact LsS_ef u m10 (by decide) (s.2 _ (by decide)) (fun _ _ z => MeN_ef u s z), by rw [(u.gr k0 (by decide) (s.1 373 (by decide)))]; exact LsS_ef u m11 (by decide) (s.2 _ (by decide)) (fun _ _ z => ToM_ef u s z), by rw [(u.gr k0 (by decide) (s.1 374 (by decide)))]; exact LsS_ef u m12 (by decide) (s.2 _ (by decide)) (fun _ _ z => IvX_ef u s z), by rw [(u.gr k0 (by decide) (s.1 376 (by decide)))]; exact u.kk m13 (by decide)⟩
