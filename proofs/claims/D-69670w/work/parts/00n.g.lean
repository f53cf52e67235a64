/-! PHASE B settle 26: the twin: all kinds, arrays too -/
set_option maxRecDepth 100000
variable {F K : List Nat} {c : Nat} {h h' h0 : HP} {mx : Nat → Nat} {ds : List DC} {W : Nat → Prop} {H tr L q : Nat} {AR : AT}
def ArM (h : HP) (ds : List DC) (mx : Nat → Nat) (AR : AT) : Prop := ∀ i, i < AR.length →
  kc h (mx (10 + ds.length + i)) = 47 ∧ fi h 362 (mx (10 + ds.length + i)) = nI (10 + ds.length + i) ∧ fi h 363 (mx (10 + ds.length + i)) = 0 ∧ fi h 367 (mx (10 + ds.length + i)) = nI (AR.getD i (0, 0)).1 ∧ fi h 368 (mx (10 + ds.length + i)) = nI (AR.getD i (0, 0)).2 ∧
  (kc h (fr h 372 (mx (10 + ds.length + i))) = 137 ∧ ls h (fr h 372 (mx (10 + ds.length + i))) = [] ∧ cp h (fr h 372 (mx (10 + ds.length + i))) ≠ RAW)
def KKm (h : HP) (mx : Nat → Nat) (m : Nat) : Prop := ∀ j, j < m → kc h (mx j) = 47 ∧ kc h (fr h 376 (mx j)) = 134
def InM (h : HP) (mx : Nat → Nat) (m : Nat) : Prop := ∀ i j, i < m → j < m → fr h 376 (mx i) = fr h 376 (mx j) → i = j
def PEm (h : HP) (mx : Nat → Nat) (m : Nat) (pa : Nat → Option Nat) : Prop := ∀ j, j < m → fr h 375 (mx j) = kxo mx (pa j)
theorem LE_ef4 {m : Nat} {la : Nat → List Nat} (u : Ef F K c h h') (hf : 376 ∉ F) (hk : 134 ∉ K) (kk : KKm h mx m) (x : LE h 376 mx m la) : LE h' 376 mx m la := fun j hj => by
  obtain ⟨a, b⟩ := kk j hj
  have g := u.gr a (by decide) hf
  exact ⟨by rw [g, u.gl b (by decide) hk]; exact (x j hj).1, by rw [g, u.gc b (by decide) hk]; exact (x j hj).2⟩
def MK (W : Nat → Prop) (h : HP) (H tr L : Nat) (mx : Nat → Nat) (ds : List DC) (AR : AT) : Prop :=
  SM W h H tr mx ds ∧ TbM h H L mx (ds.length + AR.length) [] ∧ okA ds.length AR ∧ ArM h ds mx AR ∧ (KKm h mx (10 + ds.length + AR.length) ∧ InM h mx (10 + ds.length + AR.length)) ∧
  PEm h mx (10 + ds.length + AR.length) (paF ds ds.length) ∧ LE h 376 mx (10 + ds.length + AR.length) (fun j => (faF ds ds.length j).map mx) ∧ LB h H ds.length ds
def Xm (F K : List Nat) : Prop := Sx F K ∧ (∀ f ∈ [58, 375], f ∉ F) ∧ ∀ k ∈ [134, 156, 1322], k ∉ K
theorem ArM_ef (u : Ef F K c h h') (s : Sx F K) (x : ArM h ds mx AR) : ArM h' ds mx AR := fun i hi => by
  obtain ⟨a, b1, b2, b3, b4, b5, b6, b7⟩ := x i hi
  have g := u.gr a (by decide) (s.1 372 (by decide))
  exact ⟨u.kk a (by decide), (u.gi a (by decide) (s.1 362 (by decide))).trans b1, (u.gi a (by decide) (s.1 363 (by decide))).trans b2, (u.gi a (by decide) (s.1 367 (by decide))).trans b3, (u.gi a (by decide) (s.1 368 (by decide))).trans b4, by rw [g]; exact u.kk b5 (by decide), by rw [g, u.gl b5 (by decide) (s.2 137 (by decide))]; exact b6, by rw [g, u.gc b5 (by decide) (s.2 137 (by decide))]; exact b7⟩
theorem LB_ef {n : Nat} (u : Ef F K c h h') (kH : kc h H = 5) (h1 : 58 ∉ F) (h2 : 1322 ∉ K) (x : LB h H n ds) : LB h' H n ds := by
  obtain ⟨G, g1, g2⟩ := x
  exact ⟨G, by rw [u.gr kH (by decide) h1]; exact Rw_ef u g1 (by decide) h2, g2⟩
theorem KKm_ef {m : Nat} (u : Ef F K c h h') (s : Sx F K) (x : KKm h mx m) : KKm h' mx m := fun j hj => by
  obtain ⟨a, b⟩ := x j hj
  exact ⟨u.kk a (by decide), by rw [u.gr a (by decide) (s.1 376 (by decide))]; exact u.kk b (by decide)⟩
theorem MK_ef (u : Ef F K c h h') (s : Xm F K) (x : MK W h H tr L mx ds AR) : MK W h' H tr L mx ds AR := by
  obtain ⟨x1, x2, x3, x4, ⟨x5, x6⟩, x7, x8, x9⟩ := x
  refine ⟨SM_ef u s.1 x1, TbM_ef u s.1 (s.2.2 _ (by decide)) x2, x3, ArM_ef u s.1 x4, ⟨KKm_ef u s.1 x5, fun i j hi hj => ?_⟩, fun j hj => (u.gr (x5 j hj).1 (by decide) (s.2.1 375 (by decide))).trans (x7 j hj), LE_ef4 u (s.1.1 376 (by decide)) (s.2.2 134 (by decide)) x5 x8, LB_ef u x1.2.1.1 (s.2.1 _ (by decide)) (s.2.2 _ (by decide)) x9⟩
  rw [u.gr (x5 i hi).1 (by decide) (s.1.1 376 (by decide)), u.gr (x5 j hj).1 (by decide) (s.1.1 376 (by decide))]
  exact x6 i j hi hj
theorem SM_cg {mx' : Nat → Nat} (hx : ∀ k, k < 10 + ds.length → mx k = mx' k) (x : SM W h H tr mx ds) : SM W h H tr mx' ds := by
  obtain ⟨w, a, o, k1, k2⟩ := x
  refine ⟨w, a, o, fun k hk => by rw [← hx k hk]; exact k1 k hk, fun i j hi hj => ?_⟩
  rw [← hx i hi, ← hx j hj]
  exact k2 i j hi hj
theorem MK.tb (x : MK W h H tr L mx ds AR) : TbM h H L mx ds.length ((List.range AR.length).map fun i => mx (10 + ds.length + i)) := by
  obtain ⟨x1, x2, x3, x4, _⟩ := x
  obtain ⟨a1, a2, a3, a4, a5, a6, a7⟩ := x2
  refine ⟨a1, a2, a3, a4, ?_, by rw [List.length_map, List.length_range]; have := x3.1; omega, fun a ha => ?_⟩
  · rw [a5, List.append_nil, ← Nat.add_assoc, range_ad]
  · obtain ⟨i, hi, rfl⟩ := List.mem_map.mp ha
    have hi' := List.mem_range.mp hi
    have el := (x3.2 i hi').1
    have n4 := x3.1
    have e31 : (AR.getD i (0, 0)).1 < 2 ^ 31 := by omega
    exact ⟨(x4 i hi').1, _, e31, (x4 i hi').2.2.2.1⟩
theorem MK.named {β : Type} {f : Int32 → HP → Rs β} {s : Nat} {nm : List Nat} (x : MK W h H tr L mx ds AR) (hs : StrX h s nm) : bd (f_X4_kindNamed L s h) f = f (kni (kno ds nm)) h := kindNamed_e x.1 x.tb hs
theorem MK.nz (x : MK W h H tr L mx ds AR) (hq : q < 10 + ds.length + AR.length) : mx q ≠ 0 := fun z => by
  have := x.1.1.ge (x.2.2.2.2.1.1 q hq).1 (by decide)
  omega
theorem MK.k (x : MK W h H tr L mx ds AR) : lsK h L := ⟨by rw [x.2.1.2.2.1]; decide, by rw [x.2.1.2.2.1]; decide, x.2.1.2.2.2.1⟩
theorem MK.len (x : MK W h H tr L mx ds AR) : (ls h L).length = 10 + ds.length + AR.length := by rw [x.2.1.2.2.2.2.1, List.append_nil, List.length_map, List.length_range]; omega
theorem MK.at' (x : MK W h H tr L mx ds AR) (hq : q < 10 + ds.length + AR.length) : (ls h L).getD q 0 = mx q := by rw [x.2.1.2.2.2.2.1, gr_map (by omega)]
theorem MK.get {β : Type} {f : Nat → Rs β} (x : MK W h H tr L mx ds AR) (hq : q < 10 + ds.length + AR.length) : lsGet L (nI q) h f = f (mx q) := by
  have := x.2.2.1.1
  rw [lg_e x.k (by rw [x.len]; omega) (by rw [x.len]; omega), x.at' hq]
theorem MK.n362 (x : MK W h H tr L mx ds AR) (hq : q < 10 + ds.length + AR.length) : fi h 362 (mx q) = nI q := by
  by_cases z : q < 10 + ds.length
  · exact (x.1.kk z).2.1
  · obtain ⟨i, rfl⟩ : ∃ i, q = 10 + ds.length + i := ⟨q - (10 + ds.length), by omega⟩
    exact (x.2.2.2.1 i (by omega)).2.1
/-- an array's elements' kind; -1 -/
theorem MK.n367 (x : MK W h H tr L mx ds AR) (hq : q < 10 + ds.length + AR.length) : fi h 367 (mx q) = if q < 10 + ds.length then -1 else nI (AR.getD (q - (10 + ds.length)) (0, 0)).1 := by
  by_cases z : q < 10 + ds.length
  · rw [if_pos z]; exact (x.1.kk z).2.2.2.2.2.2.1
  · rw [if_neg z]
    obtain ⟨i, rfl⟩ : ∃ i, q = 10 + ds.length + i := ⟨q - (10 + ds.length), by omega⟩
    rw [show 10 + ds.length + i - (10 + ds.length) = i by omega]
    exact (x.2.2.2.1 i (by omega)).2.2.2.1
theorem MK.n368 (x : MK W h H tr L mx ds AR) (hq : q < 10 + ds.length + AR.length) : fi h 368 (mx q) = nI (dep ds.length AR q) := by
  unfold dep
  by_cases z : q < 10 + ds.length
  · rw [if_pos z]; exact (x.1.kk z).2.2.2.2.2.2.2.1
  · rw [if_neg z]
    obtain ⟨i, rfl⟩ : ∃ i, q = 10 + ds.length + i := ⟨q - (10 + ds.length), by omega⟩
    rw [show 10 + ds.length + i - (10 + ds.length) = i by omega]
    exact (x.2.2.2.1 i (by omega)).2.2.2.2.1
/-- the array of a kind, looked up -/
theorem MarrayOf {β : Type} {f : Int32 → HP → Rs β} (x : MK W h H tr L mx ds AR) (hq : q < 10 + ds.length + AR.length) : bd (f_X4_arrayOf L (nI q) h) f = f (kni (lkN ds.length AR q)) h := by
  have N4 := x.2.2.1.1
  have main : f_X4_arrayOf_l2 L (nI q) NN (nI 0) h = rok (match lkN ds.length AR q with | none => Sum.inr () | some k => Sum.inl (nI k)) h := by
    refine loop_NN (n := 10 + ds.length + AR.length) (F := f_X4_arrayOf_l2 L (nI q)) (by omega) (fun i h' => h' = h ∧ ∀ j, j < AR.length → 10 + ds.length + j < i → (AR.getD j (0, 0)).1 ≠ q) (fun r => r = rok (match lkN ds.length AR q with | none => Sum.inr () | some k => Sum.inl (nI k)) h) ?_ ?_ (Nat.zero_le _) ⟨rfl, fun j _ hj => by omega⟩
    · rintro N i h' hi ⟨rfl, hj⟩ next
      rw [f_X4_arrayOf_l2_s]
      unfold b_X4_arrayOf_l2
      have k4 := (x.2.2.2.2.1.1 i hi).1
      rw [lsSize_e x.k, x.len, if_neg (sz_no hi (by omega)), x.get hi, cast_e k4 (by simp), ldI_e k4, x.n367 hi]
      by_cases z : i < 10 + ds.length
      · rw [if_pos z, if_neg (fun (y : (-1 : Int32) = nI q) => nI_pos (n := q) (by omega) (by rw [← y]; decide)), lt3_n]
        exact next h' ⟨rfl, fun j h1 h2 => by omega⟩
      · rw [if_neg z]
        obtain ⟨t, rfl⟩ : ∃ t, i = 10 + ds.length + t := ⟨i - (10 + ds.length), by omega⟩
        rw [show 10 + ds.length + t - (10 + ds.length) = t by omega]
        have el := (x.2.2.1.2 t (by omega)).1
        by_cases g : (AR.getD t (0, 0)).1 = q
        · rw [if_pos (by rw [g])]
          have : aix AR q = some t := aix_eq (by omega) g (fun j h1 => hj j (by omega) (by omega))
          unfold lkN
          rw [this]; rfl
        · rw [if_neg (fun y => g ((nI_eq (by omega) (by omega)).mp y)), lt3_n]
          exact next h' ⟨rfl, fun j h1 h2 => by
            by_cases w : j = t
            · rw [w]; exact g
            · exact hj j h1 (by omega)⟩
    · rintro N h' ⟨rfl, hj⟩
      rw [f_X4_arrayOf_l2_s]
      unfold b_X4_arrayOf_l2
      rw [lsSize_e x.k, x.len, if_pos (sz_le (Nat.le_refl _) (by omega))]
      have : aix AR q = none := aix_nn (fun j h1 => hj j h1 (by omega))
      unfold lkN
      rw [this]; rfl
  unfold f_X4_arrayOf
  rw [show (0 : Int32) = nI 0 from rfl, main, bd_ok]
  cases lkN ds.length AR q with
  | none => rw [Sum.elim_inr, bd_ok]; rfl
  | some k => rw [Sum.elim_inl, bd_ok]; rfl
