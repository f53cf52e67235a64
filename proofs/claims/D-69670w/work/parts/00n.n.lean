/-! PHASE B settle 33: the component: a method -/
set_option maxRecDepth 100000
variable {F K : List Nat} {c : Nat} {h h' h0 : HP} {e : EE} {kx ax : Nat → Nat} {ds : List DC} {C DL kl q s j k p a b i r : Nat} {AR : AT} {D : List (List Nat)} {nm : List Nat} {d : DC} {m : Mb} {T : Ty} {ps : List Vr} {t : Mt} {g : Nat → Nat}
/-- a method's kinds: told, or not yet -/
def MtD (h : HP) (kx : Nat → Nat) (ds : List DC) (AR : AT) (a : Nat) (T : Ty) (ps : List Vr) : Prop := fr h 229 a = kxo kx (res ds AR T) ∧ ls h (fr h 230 a) = ps.map (fun v => kxo kx (res ds AR v.1)) ∧ cp h (fr h 230 a) ≠ RAW
def MtU (h : HP) (a : Nat) : Prop := ls h (fr h 230 a) = [] ∧ cp h (fr h 230 a) ≠ RAW
/-- where a member, a member's method stands -/
def bA (h : HP) (ax : Nat → Nat) (k t : Nat) : Nat := (ls h (fr h 168 (ax k))).getD t 0
def mA (h : HP) (ax : Nat → Nat) (k t : Nat) : Nat := fr h 177 (bA h ax k t)
def isM (ds : List DC) (k t : Nat) : Bool := ((mem (dc ds k)).getD t mb0).2.isSome
def mAs (h : HP) (ax : Nat → Nat) (ds : List DC) (k i : Nat) : List Nat := (List.range i).filterMap fun t => if isM ds k t then some (mA h ax k t) else none
theorem mAs_s : mAs h ax ds k (i + 1) = mAs h ax ds k i ++ (if isM ds k i then [mA h ax k i] else []) := by
  unfold mAs
  rw [List.range_succ, List.filterMap_append]
  congr 1
  cases g : isM ds k i with
  | true => rw [List.filterMap_cons]; simp [g]
  | false => rw [List.filterMap_cons]; simp [g]
/-- methods lie apart -/
def DjM (h : HP) (ax : Nat → Nat) (ds : List DC) : Prop := ∀ k t k' t', k < ds.length → k' < ds.length → t < (mem (dc ds k)).length → t' < (mem (dc ds k')).length → isM ds k t = true → isM ds k' t' = true → fr h 230 (mA h ax k t) = fr h 230 (mA h ax k' t') → k = k' ∧ t = t'
/-- the first g k members of each kind k are told -/
def MmX (h : HP) (kx ax : Nat → Nat) (ds : List DC) (AR : AT) (g : Nat → Nat) : Prop := ∀ k, k < ds.length → (ls h (fr h 45 (kx (10 + k))) = mAs h ax ds k (g k) ∧ cp h (fr h 45 (kx (10 + k))) ≠ RAW) ∧
  ∀ t, t < (mem (dc ds k)).length → ∀ tt, ((mem (dc ds k)).getD t mb0).2 = some tt → if t < g k then MtD h kx ds AR (mA h ax k t) ((mem (dc ds k)).getD t mb0).1.1 tt.2.2.1 else MtU h (mA h ax k t)
theorem SX.mb (S : SX e h C DL kx ax ds) (hk : k < ds.length) (ht : i < (mem (dc ds k)).length) : MbS e h (bA h ax k i) (kx (10 + k)) ((mem (dc ds k)).getD i mb0) := (S.dd hk).mb ht
theorem SX.mt (S : SX e h C DL kx ax ds) (hk : k < ds.length) (ht : i < (mem (dc ds k)).length) (hm : ((mem (dc ds k)).getD i mb0).2 = some t) : mA h ax k i ≠ 0 ∧ MtS h (mA h ax k i) (kx (10 + k)) ((mem (dc ds k)).getD i mb0).1.2 t := by
  obtain ⟨_, _, _, _, _, _, _, _, w, _⟩ := S.mb hk ht
  unfold MoS at w
  rw [hm] at w
  exact w
theorem bA_ef (S : SX e h C DL kx ax ds) (u : Ef F K c h h') (s : Sx F K) (hk : k < ds.length) : bA h' ax k i = bA h ax k i := by
  have d := S.dd hk
  unfold bA
  rw [u.gr d.1 (by decide) (s.1 168 (by decide)), u.gl d.2.2.2.2.2.2.1.1 (by decide) (s.2 110 (by decide))]
theorem mA_ef (S : SX e h C DL kx ax ds) (u : Ef F K c h h') (s : Sx F K) (hk : k < ds.length) (ht : i < (mem (dc ds k)).length) : mA h' ax k i = mA h ax k i := by
  unfold mA
  rw [bA_ef S u s hk]
  exact u.gr (S.mb hk ht).1 (by decide) (s.1 177 (by decide))
theorem fm_congr {α β : Type} {f g : α → Option β} : ∀ {l : List α}, (∀ x ∈ l, f x = g x) → l.filterMap f = l.filterMap g := by
  intro l
  induction l with
  | nil => intro _; rfl
  | cons a l ih =>
    intro h
    rw [List.filterMap_cons, List.filterMap_cons, h a List.mem_cons_self, ih fun x hx => h x (List.mem_cons_of_mem _ hx)]
theorem mAs_ef (S : SX e h C DL kx ax ds) (u : Ef F K c h h') (s : Sx F K) (hk : k < ds.length) (hi : i ≤ (mem (dc ds k)).length) : mAs h' ax ds k i = mAs h ax ds k i := by
  unfold mAs
  refine fm_congr fun t ht => ?_
  have := List.mem_range.mp ht
  rw [mA_ef S u s hk (by omega)]
theorem isM_s (hm : ((mem (dc ds k)).getD i mb0).2 = some t) : isM ds k i = true := by unfold isM; rw [hm]; rfl
theorem isM_i (h : isM ds k i = true) : ∃ t, ((mem (dc ds k)).getD i mb0).2 = some t := Option.isSome_iff_exists.mp h
theorem DjM_ef (S : SX e h C DL kx ax ds) (u : Ef F K c h h') (s : Sx F K) (x : DjM h ax ds) : DjM h' ax ds := fun k t k' t' hk hk' ht ht' m m' y => by
  obtain ⟨tt, w⟩ := isM_i m
  obtain ⟨tt', w'⟩ := isM_i m'
  rw [mA_ef S u s hk ht, mA_ef S u s hk' ht', u.gr (S.mt hk ht w).2.1 (by decide) (s.1 230 (by decide)), u.gr (S.mt hk' ht' w').2.1 (by decide) (s.1 230 (by decide))] at y
  exact x k t k' t' hk hk' ht ht' m m' y
theorem MmX_ef (S : SX e h C DL kx ax ds) (u : Ef F K c h h') (s : Sx F K) (h1 : 229 ∉ F) (h2 : 101 ∉ K) (h3 : 116 ∉ K) (hg : ∀ k, k < ds.length → g k ≤ (mem (dc ds k)).length) (x : MmX h kx ax ds AR g) : MmX h' kx ax ds AR g := fun k hk => by
  obtain ⟨⟨x1, x2⟩, x3⟩ := x k hk
  have k0 := S.kk (i := 10 + k) (by omega)
  have k45 : kc h (fr h 45 (kx (10 + k))) = 101 := by
    obtain ⟨_, _, _, _, _, _, _, _, _, _, _, y, _⟩ := k0
    exact y
  have g45 := u.gr k0.1 (by decide) (s.1 45 (by decide))
  refine ⟨⟨by rw [g45, u.gl k45 (by decide) h2, mAs_ef S u s hk (hg k hk)]; exact x1, by rw [g45, u.gc k45 (by decide) h2]; exact x2⟩, fun t ht tt hm => ?_⟩
  obtain ⟨_, mt⟩ := S.mt hk ht hm
  have k116 : kc h (fr h 230 (mA h ax k t)) = 116 := mt.2.2.2.2.2.1
  have g230 := u.gr mt.1 (by decide) (s.1 230 (by decide))
  have X := x3 t ht tt hm
  by_cases z : t < g k
  · rw [if_pos z] at X ⊢
    rw [mA_ef S u s hk ht]
    exact ⟨(u.gr mt.1 (by decide) h1).trans X.1, by rw [g230, u.gl k116 (by decide) h3]; exact X.2.1, by rw [g230, u.gc k116 (by decide) h3]; exact X.2.2⟩
  · rw [if_neg z] at X ⊢
    rw [mA_ef S u s hk ht]
    exact ⟨by rw [g230, u.gl k116 (by decide) h3]; exact X.1, by rw [g230, u.gc k116 (by decide) h3]; exact X.2⟩
/-- the names of the methods told so far -/
theorem mAs_A (S : SX e h C DL kx ax ds) (hk : k < ds.length) : ∀ i, i ≤ (mem (dc ds k)).length → A2 (fun p x => kc h p = 30 ∧ StrX h (fr h 224 p) x) (mAs h ax ds k i) ((metL ((mem (dc ds k)).take i)).map fun x => x.1.2.1) := by
  intro i
  induction i with
  | zero => intro _; unfold mAs metL; rw [List.take_zero]; exact True.intro
  | succ i ih =>
    intro hi
    rw [mAs_s, metL_s (by omega), List.map_append]
    refine A2.app (ih (by omega)) ?_
    cases g : ((mem (dc ds k)).getD i mb0).2 with
    | none =>
      have : isM ds k i = false := by unfold isM; rw [g]; rfl
      rw [this]; exact True.intro
    | some t =>
      rw [isM_s g]
      have mt := (S.mt hk (by omega) g).2
      exact ⟨⟨mt.1, mt.2.1⟩, True.intro⟩
/-- a method's heading, told plainly -/
def mtb (ds : List DC) (AR : AT) (k i : Nat) (v : Vr) (t : Mt) : Option Nat :=
  thn (frs (pbd ds AR t.2.2.1) t.2.2.1.length) (if v.2.1 ∈ (metL ((mem (dc ds k)).take i)).map (fun x => x.1.2.1) then some v.2.2 else if shp (dc ds k).1 (dc ds k).2.2.1 t.1 t.2.2.2.isSome = true then none else some t.2.1)
theorem hasBody_e {o : Option (Nat × Nat)} (x : BkX h a o) (hb : ∀ b, o = some b → b.1 ≤ 300) : f_X30_hasBody a h = rok (if o.isSome = true then 1 else 0) h := by
  unfold f_X30_hasBody
  rw [ldI_e x.1, x.2.1]
  cases o with
  | none => rw [if_pos (show (-1 : Int32) < 0 by decide)]; rfl
  | some b =>
    have := hb b rfl
    rw [if_neg (nI_pos (n := b.1) (by omega))]; rfl
theorem srt4 {f : Nat} : srt f = 4 ↔ f = 2 := by
  unfold srt
  constructor
  · intro h
    split at h
    · omega
    · split at h
      · assumption
      · split at h <;> omega
  · intro h; rw [h]; rfl
/-- the shape, as the component looks at it -/
theorem shape_e {w f ab : Nat} {bo : Bool} {q0 a2 a4 : Nat} (k13 : kc h p = 13) (f163 : fr h 163 p = q) (k4 : kc h q = 4) (f32 : fr h 32 q = 900 + srt f) (f38 : fi h 38 q = nI (if f = 2 then 1 else ab)) (hf : 1 ≤ f ∧ f ≤ 4) (hab : ab ≤ 1) (k15 : kc h a2 = 15) (f180 : fi h 180 a2 = if w = 1 then 1 else 0) (f181 : fi h 181 a2 = if w = 2 then 1 else 0) (hw : w ≤ 2) (k30 : kc h a4 = 30) (hb : f_X30_hasBody a4 h = rok (if bo = true then 1 else 0) h) :
    (ldR 13 163 p h fun x25 => ldR 4 32 x25 h fun x26 => eqS x26 904 (f_X11_method_b251 q0 p a2 a4 (1 : Int32) h) (f_X11_method_b251 q0 p a2 a4 (0 : Int32) h)) = f_X11_method_b334 q0 p a4 (if shp f ab w bo = true then 1 else 0) h := by
  have s7 : srt f < 8 := by
    unfold srt
    split
    · omega
    · split
      · omega
      · split <;> omega
  rw [ldR_e k13, f163, ldR_e k4, f32, show (904 : Nat) = 900 + 4 from rfl, eqS_e s7 (by omega)]
  have e1 : ∀ n : Nat, n ≤ 1 → (nI n = (0 : Int32) ↔ n = 0) := fun n hn => nk n (c := 0) rfl (by omega) (by omega)
  have W : w = 0 ∨ w = 1 ∨ w = 2 := by omega
  by_cases z : f = 2
  · rw [if_pos (srt4.mpr z)]
    unfold f_X11_method_b251 f_X11_method_b281 shp
    rw [if_neg z10, ldI_e k15, f180, ldI_e k15, f181, if_pos k30, hb, bd_ok, if_pos z]
    rcases W with y | y | y <;> subst y <;> cases bo <;> simp
  · rw [if_neg (fun y => z (srt4.mp y))]
    rw [if_neg z] at f38
    unfold f_X11_method_b251 f_X11_method_b309 f_X11_method_b333 f_X11_method_b329 shp
    rw [if_pos y00, ldI_e k15, f181, ldI_e k15, f180, if_pos k30, hb, bd_ok, if_neg z, ldR_e k13, f163, ldI_e k4, f38]
    by_cases v : ab = 0
    · rcases W with y | y | y <;> subst y <;> cases bo <;> simp [v, e1, ldI_e k15, f180]
    · have v1 : ab = 1 := by omega
      rcases W with y | y | y <;> subst y <;> cases bo <;> simp [v1, show nI 1 = (1 : Int32) from rfl, ldI_e k15, f180]
