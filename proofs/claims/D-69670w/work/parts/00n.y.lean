/-! PHASE B settle 44: methods alike, told plainly; the component's methods of a kind -/
set_option maxRecDepth 100000
variable {F K : List Nat} {c : Nat} {h h' h0 : HP} {e : EE} {kx ax : Nat → Nat} {ds : List DC} {C DL kl q s j k p a b i r l : Nat} {AR : AT} {D : List (List Nat)} {nm : List Nat} {d : DC} {m : Mb} {T : Ty} {ps fs : List Vr} {t : Mt} {v w : Vr × Mt} {g : Nat → Nat}
def mts (ds : List DC) (j : Nat) : List (Vr × Mt) := if j < 10 then [] else metL (mem (dc ds (j - 10)))
theorem mts_hi : mts ds (10 + k) = metL (mem (dc ds k)) := by unfold mts; rw [if_neg (by omega), show 10 + k - 10 = k by omega]
abbrev nmV (v : Vr × Mt) : List Nat := v.1.2.1
/-- a method by its name -/
def fdm (l : List (Vr × Mt)) (nm : List Nat) : Option (Vr × Mt) := match fnd (l.map nmV) nm with
  | none => none
  | some i => some (l.getD i (vr0, mt0))
def sameT (ds : List DC) (AR : AT) (v w : Vr × Mt) : Bool := decide (res ds AR v.1.1 = res ds AR w.1.1) && decide (v.2.2.2.1.map (fun x => res ds AR x.1) = w.2.2.2.1.map (fun x => res ds AR x.1))
/-- a method of the same name and other types -/
def clash (ds : List DC) (AR : AT) (j : Nat) (v : Vr × Mt) : Bool := match fdm (mts ds j) (nmV v) with
  | none => false
  | some w => !sameT ds AR v w
def cl1b (ds : List DC) (AR : AT) (k : Nat) (v : Vr × Mt) : Bool := (List.range (10 + ds.length)).any fun j => Wn ds k j && clash ds AR j v
def cl2b (ds : List DC) (AR : AT) (k : Nat) : Bool := (List.range (10 + ds.length)).any fun j => Wn ds k j && (mts ds j).any fun v => (List.range j).any fun i => Wn ds k i && clash ds AR i v
def bo (ds : List DC) (AR : AT) (k i : Nat) : Option Nat := if cl1b ds AR k ((mts ds (10 + k)).getD i (vr0, mt0)) = true then some ((mts ds (10 + k)).getD i (vr0, mt0)).1.2.2 else none
def bad5 (ds : List DC) (AR : AT) (k : Nat) : Option Nat := thn (frs (bo ds AR k) (mts ds (10 + k)).length) (if cl2b ds AR k = true then some (dc ds k).2.1.2 else none)
/-- every method's types are there -/
def okR (ds : List DC) (AR : AT) : Prop := ∀ k, k < ds.length → ∀ v ∈ mts ds (10 + k), res ds AR v.1.1 ≠ none ∧ ∀ x ∈ v.2.2.2.1, res ds AR x.1 ≠ none
theorem okR_of (hn : ∀ k, k < ds.length → bad4 ds AR k = none) : okR ds AR := fun k hk v hv => by
  have h4 := hn k hk
  unfold bad4 at h4
  have h5 : frs (mbb ds AR k) (mem (dc ds k)).length = none := by
    cases g : frs (mbb ds AR k) (mem (dc ds k)).length with
    | none => rfl
    | some p => rw [g] at h4; cases h4
  have all := frs_no h5
  rw [mts_hi] at hv
  obtain ⟨m, hm, e⟩ := List.mem_filterMap.mp hv
  obtain ⟨i, hi, em⟩ := List.getElem_of_mem hm
  have em : (mem (dc ds k)).getD i mb0 = m := by rw [List.getD_eq_getElem?_getD, List.getElem?_eq_getElem hi]; exact em
  have b := all i hi
  unfold mbb at b
  rw [em] at b
  cases gm : m.2 with
  | none => rw [gm] at e; cases e
  | some t =>
    rw [gm] at e b
    have e : (m.1, t) = v := Option.some.inj e
    by_cases z : res ds AR m.1.1 = none
    · rw [if_pos z] at b; cases b
    · rw [if_neg z] at b
      refine ⟨by rw [← e]; exact z, fun x hx => ?_⟩
      rw [← e] at hx
      have b : mtb ds AR k i m.1 t = none := b
      unfold mtb at b
      have f : frs (pbd ds AR t.2.2.1) t.2.2.1.length = none := by
        cases g : frs (pbd ds AR t.2.2.1) t.2.2.1.length with
        | none => rfl
        | some p => rw [g] at b; cases b
      obtain ⟨jj, hjj, ex⟩ := List.getElem_of_mem (show x ∈ t.2.2.1 from hx)
      have ex : t.2.2.1.getD jj vr0 = x := by rw [List.getD_eq_getElem?_getD, List.getElem?_eq_getElem hjj]; exact ex
      have := frs_no f jj hjj
      unfold pbd at this
      rw [ex] at this
      by_cases zz : res ds AR x.1 = none
      · rw [if_pos zz] at this; cases this
      · exact zz
theorem A2.mapR {α β γ : Type} {P : α → β → Prop} {Q : α → γ → Prop} {f : β → γ} : ∀ {l : List α} {m : List β}, A2 P l m → (∀ a b, P a b → Q a (f b)) → A2 Q l (m.map f)
  | [], [], _, _ => True.intro
  | _ :: _, _ :: _, h, hf => ⟨hf _ _ h.1, A2.mapR h.2 hf⟩
  | [], _ :: _, h, _ => h.elim
  | _ :: _, [], h, _ => h.elim
/-- a method of the component, its kinds told -/
def MtF (h : HP) (kx : Nat → Nat) (ds : List DC) (AR : AT) (q p : Nat) (v : Vr × Mt) : Prop := MtS h p q v.1.2 v.2 ∧ MtD h kx ds AR p v.1.1 v.2.2.2.1
theorem XM.ml (x : XM e h C DL kl kx ax ds AR D (gX ds ds.length)) (hk : k < ds.length) : A2 (MtF h kx ds AR (kx (10 + k))) (ls h (fr h 45 (kx (10 + k)))) (mts ds (10 + k)) := by
  have S := x.1.1
  obtain ⟨⟨m1, _⟩, m3⟩ := x.2.2.2 k hk
  have gk : gX ds ds.length k = (mem (dc ds k)).length := if_pos hk
  rw [gk] at m1 m3
  rw [m1, mts_hi]
  have main : ∀ i, i ≤ (mem (dc ds k)).length → A2 (MtF h kx ds AR (kx (10 + k))) (mAs h ax ds k i) (metL ((mem (dc ds k)).take i)) := by
    intro i
    induction i with
    | zero => intro _; unfold mAs metL; rw [List.take_zero]; exact True.intro
    | succ i ih =>
      intro hi
      rw [mAs_s, metL_s (by omega)]
      refine A2.app (ih (by omega)) ?_
      cases g : ((mem (dc ds k)).getD i mb0).2 with
      | none =>
        have : isM ds k i = false := by unfold isM; rw [g]; rfl
        rw [this]; exact True.intro
      | some t =>
        have D3 := m3 i (by omega) t g
        rw [if_pos (by omega)] at D3
        rw [isM_s g]
        exact ⟨⟨(S.mt hk (by omega) g).2, D3⟩, True.intro⟩
  have := main _ (Nat.le_refl _)
  rwa [List.take_length] at this
theorem XM.k45 (x : XM e h C DL kl kx ax ds AR D (gX ds ds.length)) (hk : k < ds.length) : lsK h (fr h 45 (kx (10 + k))) := by
  have k0 := x.1.1.kk (i := 10 + k) (by omega)
  exact ⟨by rw [k0.k45]; decide, by rw [k0.k45]; decide, (x.2.2.2 k hk).1.2⟩
theorem mts_le (o : okDs ds) : (mts ds j).length ≤ 401 := by
  unfold mts
  split
  · exact Nat.zero_le _
  · by_cases c : j - 10 < ds.length
    · exact Nat.le_trans metL_le (o.2 _ c).2.2.1.2.1
    · rw [show dc ds (j - 10) = d0 by unfold dc; rw [List.getD_eq_getElem?_getD, List.getElem?_eq_none (by omega)]; rfl]
      exact Nat.zero_le _
/-- a kind's own method by its name -/
theorem ownX_e (x : XM e h C DL kl kx ax ds AR D (gX ds ds.length)) (hk : k < ds.length) (hs : StrX h s nm) :
    ∃ p, f_X3_own (kx (10 + k)) s h = rok p h ∧ (match fdm (mts ds (10 + k)) nm with | none => p = 0 | some v => p ≠ 0 ∧ MtF h kx ds AR (kx (10 + k)) p v ∧ v ∈ mts ds (10 + k)) := by
  have A := x.ml hk
  have S := x.1.1
  have k0 := S.kk (i := 10 + k) (by omega)
  have ml := mts_le (j := 10 + k) S.2.2.2.1
  have E := own_e (NM := (mts ds (10 + k)).map nmV) k0.1 k0.k45 (x.k45 hk).2.2 (A2.mapR (f := nmV) A (fun a b z => ⟨z.1.1, z.1.2.1⟩)) hs (by rw [List.length_map]; omega)
  refine ⟨_, E, ?_⟩
  unfold fdm
  cases g : fnd ((mts ds (10 + k)).map nmV) nm with
  | none => rfl
  | some i =>
    obtain ⟨hi, _, _⟩ := fnd_some g
    rw [List.length_map] at hi
    have F : MtF h kx ds AR (kx (10 + k)) ((ls h (fr h 45 (kx (10 + k)))).getD i 0) ((mts ds (10 + k)).getD i (vr0, mt0)) := A.getD hi
    refine ⟨fun z => ?_, F, gDm _ hi⟩
    have z : (ls h (fr h 45 (kx (10 + k)))).getD i 0 = 0 := z
    have := S.1.ge F.1.1 (by decide)
    omega
/-- whether methods are alike -/
theorem isLike_e (x : XM e h C DL kl kx ax ds AR D (gX ds ds.length)) (r1 : res ds AR v.1.1 ≠ none ∧ ∀ x ∈ v.2.2.2.1, res ds AR x.1 ≠ none) (r2 : res ds AR w.1.1 ≠ none ∧ ∀ x ∈ w.2.2.2.1, res ds AR x.1 ≠ none) (A : MtF h kx ds AR q a v) (B : MtF h kx ds AR s b w) (hv : v.2.2.2.1.length ≤ 8) (hw8 : w.2.2.2.1.length ≤ 8) :
    f_X30_isLike a b h = rok (if sameT ds AR v w = true then 1 else 0) h := by
  obtain ⟨a1, a2⟩ := A
  obtain ⟨b1, b2⟩ := B
  have X := x.1
  have inj : ∀ {o o' : Option Nat}, (∀ k, o = some k → k < 10 + ds.length + AR.length) → (∀ k, o' = some k → k < 10 + ds.length + AR.length) → (kxo kx o = kxo kx o' ↔ o = o') := fun {o o'} h1 h2 => by
    constructor
    · intro z
      cases o with
      | none =>
        cases o' with
        | none => rfl
        | some k => exact absurd z.symm (X.nz (h2 k rfl))
      | some j =>
        cases o' with
        | none => exact absurd z (X.nz (h1 j rfl))
        | some k =>
          have z : kx j = kx k := z
          have := X.2.2.2.2.2.1.2 41 (by simp) j k (h1 j rfl) (h2 k rfl) (by rw [z])
          rw [this]
    · intro z; rw [z]
  have k4 : ∀ {T : Ty}, res ds AR T ≠ none → kc h (kxo kx (res ds AR T)) = 4 := fun {T} z => by
    obtain ⟨k, hk⟩ := Option.ne_none_iff_exists'.mp z
    rw [hk]; exact (X.2.2.2.2.2.1.1 k (res_lt hk)).1
  have ka : lsK h (fr h 230 a) := ⟨by rw [a1.2.2.2.2.2.1]; decide, by rw [a1.2.2.2.2.2.1]; decide, a2.2.2⟩
  have kb : lsK h (fr h 230 b) := ⟨by rw [b1.2.2.2.2.2.1]; decide, by rw [b1.2.2.2.2.2.1]; decide, b2.2.2⟩
  have la : (ls h (fr h 230 a)).length = v.2.2.2.1.length := by rw [a2.2.1, List.length_map]
  have lb : (ls h (fr h 230 b)).length = w.2.2.2.1.length := by rw [b2.2.1, List.length_map]
  unfold f_X30_isLike sameT
  rw [ldR_e a1.1, a2.1, ldR_e b1.1, b2.1, eqR_e (k4 r1.1) (by decide)]
  by_cases z1 : ¬ res ds AR v.1.1 = res ds AR w.1.1
  · rw [if_neg (fun y => z1 ((inj (fun k hk => res_lt hk) (fun k hk => res_lt hk)).mp y)), if_neg (by simp [z1])]
  have z1 : res ds AR v.1.1 = res ds AR w.1.1 := Classical.byContradiction z1
  rw [if_pos (by rw [z1]), ldR_e a1.1, lsSize_e ka, la, ldR_e b1.1]
  by_cases hw : ¬ w.2.2.2.1.length = v.2.2.2.1.length
  · have ne : ¬ v.2.2.2.1.map (fun x => res ds AR x.1) = w.2.2.2.1.map (fun x => res ds AR x.1) := fun y => hw (by have := congrArg List.length y; rw [List.length_map, List.length_map] at this; exact this.symm)
    rw [lsSize_e kb, lb]
    rw [if_neg (fun y => hw ((nI_eq (by omega) (by omega)).mp y).symm), if_neg (by simp [ne])]
  have hw : w.2.2.2.1.length = v.2.2.2.1.length := Classical.byContradiction hw
  rw [lsSize_e kb, lb, hw, if_pos rfl]
  have ga : ∀ i, i < v.2.2.2.1.length → (ls h (fr h 230 a)).getD i 0 = kxo kx (res ds AR (v.2.2.2.1.getD i vr0).1) := fun i hi => by
    rw [a2.2.1]; exact gE_map (f := fun x : Vr => kxo kx (res ds AR x.1)) vr0 hi
  have gb : ∀ i, i < v.2.2.2.1.length → (ls h (fr h 230 b)).getD i 0 = kxo kx (res ds AR (w.2.2.2.1.getD i vr0).1) := fun i hi => by
    rw [b2.2.1]; exact gE_map (f := fun x : Vr => kxo kx (res ds AR x.1)) vr0 (by omega)
  have main : f_X30_isLike_l32 a b NN (nI 0) h = rok (if v.2.2.2.1.map (fun x => res ds AR x.1) = w.2.2.2.1.map (fun x => res ds AR x.1) then Sum.inr () else Sum.inl ()) h := by
    refine loop_NN (n := v.2.2.2.1.length) (F := f_X30_isLike_l32 a b) (by omega) (fun i h' => h' = h ∧ ∀ t, t < i → res ds AR (v.2.2.2.1.getD t vr0).1 = res ds AR (w.2.2.2.1.getD t vr0).1) (fun R => R = rok (if v.2.2.2.1.map (fun x => res ds AR x.1) = w.2.2.2.1.map (fun x => res ds AR x.1) then Sum.inr () else Sum.inl ()) h) ?_ ?_ (Nat.zero_le _) ⟨rfl, fun t ht => by omega⟩
    · rintro N i h' hi ⟨rfl, he⟩ next
      rw [f_X30_isLike_l32_s]
      unfold b_X30_isLike_l32
      rw [ldR_e a1.1, lsSize_e ka, la, if_neg (sz_no hi (by omega)), ldR_e a1.1, lg_e ka (by omega) (by omega), ga i hi, ldR_e b1.1, lg_e kb (by omega) (by omega), gb i hi, eqR_e (k4 (r1.2 _ (gDm vr0 hi))) (by decide)]
      by_cases z : res ds AR (v.2.2.2.1.getD i vr0).1 = res ds AR (w.2.2.2.1.getD i vr0).1
      · rw [if_pos (by rw [z]), lt3_n]
        exact next h' ⟨rfl, fun t ht => by
          by_cases y : t = i
          · rw [y]; exact z
          · exact he t (by omega)⟩
      · rw [if_neg (fun y => z ((inj (fun k hk => res_lt hk) (fun k hk => res_lt hk)).mp y)), if_neg]
        intro y
        have := congrArg (fun l => l.getD i none) y
        rw [show (v.2.2.2.1.map (fun x => res ds AR x.1)).getD i none = res ds AR (v.2.2.2.1.getD i vr0).1 from gE_map (f := fun x : Vr => res ds AR x.1) vr0 hi, show (w.2.2.2.1.map (fun x => res ds AR x.1)).getD i none = res ds AR (w.2.2.2.1.getD i vr0).1 from gE_map (f := fun x : Vr => res ds AR x.1) vr0 (by omega)] at this
        exact z this
    · rintro N h' ⟨rfl, he⟩
      rw [f_X30_isLike_l32_s]
      unfold b_X30_isLike_l32
      have eqq : v.2.2.2.1.map (fun x => res ds AR x.1) = w.2.2.2.1.map (fun x => res ds AR x.1) := by
        refine List.ext_getElem (by rw [List.length_map, List.length_map, hw]) fun i h1 h2 => ?_
        rw [List.length_map] at h1 h2
        have := he i h1
        rw [List.getD_eq_getElem?_getD, List.getElem?_eq_getElem h1, List.getD_eq_getElem?_getD, List.getElem?_eq_getElem h2] at this
        rw [List.getElem_map, List.getElem_map]; exact this
      rw [ldR_e a1.1, lsSize_e ka, la, if_pos (sz_le (Nat.le_refl _) (by omega)), if_pos eqq]
  rw [show (0 : Int32) = nI 0 from rfl, main, bd_ok]
  by_cases z2 : v.2.2.2.1.map (fun x => res ds AR x.1) = w.2.2.2.1.map (fun x => res ds AR x.1)
  · rw [if_pos z2, if_pos (by simp [z1, z2])]; rfl
  · rw [if_neg z2, if_neg (by simp [z2])]; rfl
