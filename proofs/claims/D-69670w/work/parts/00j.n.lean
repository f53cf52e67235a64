/-! PHASE B declarations 13: a method's node in the component -/
set_option maxRecDepth 100000
variable {e : EE} {Zx Zm : List Nat} {hx hm h h1 h2 h' hx0 hm0 hxA hmA : HP} {i j a b k X Y bx bm l1 l2 l3 : Nat} {IT : List It} {TY : List Ty} {QU : List (List Nat)} {F G : Nat → Prop} {KL : List Nat} {d : DC} {TY' : List Ty} {QU' : List (List Nat)} {num : Nat × Nat}
/-- a body, as the two numbers that the component hands on -/
def BdA (e : EE) (F : Nat → Prop) (h : HP) (v : Int32) (n : Nat) (b : Option Bd) : Prop := match b with
  | none => v = -1 ∧ n = 0
  | some b => v = nI b.1 ∧ n ≠ 0 ∧ Nx e F h n b.2.1 b.2.2 ∧ b.1 ≤ 300
theorem A2.mem2 {α β : Type} {P : α → β → Prop} : ∀ {l : List α} {m : List β}, A2 P l m → ∀ b ∈ m, ∃ a ∈ l, P a b
  | [], [], _, b, hb => by cases hb
  | [], _ :: _, h, _, _ => h.elim
  | _ :: _, [], h, _, _ => h.elim
  | x :: l, y :: m, h, b, hb => by
    rcases List.mem_cons.mp hb with z | z
    · exact ⟨x, List.mem_cons_self .., by rw [z]; exact h.1⟩
    · obtain ⟨a, h1, h2⟩ := A2.mem2 h.2 b z
      exact ⟨a, List.mem_cons_of_mem _ h1, h2⟩
theorem mth_new (p : PX e h i TY QU) (cl : kc h e.cl = 129) (ka : kc h a = 13) {wd pl np t7 s9 n16 : Nat} {a4 a5 v15 : Int32} {T : Ty} {nm : List Nat} {vs : List Vr} {body : Option Bd} (h8 : vs.length ≤ 8) (ht : TyE e h t7 T) (hs : StrX h s9 nm) (h4 : a4 = if wd = 1 then 1 else 0) (h5 : a5 = if wd = 2 then 1 else 0) (hb : BdA e F h v15 n16 body) (Mx : MhV e G h l1 l2 l3 vs) :
    ∃ x h', f_X11_member_b423 a (nI pl) a4 a5 t7 (nI np) s9 l1 l2 l3 v15 n16 h = rok x h' ∧ St [] [] (12 + 30 * vs.length) h h' ∧ PX e h' i TY QU ∧ kc h' x = 15 ∧ kc h x = 0 ∧ fr h' 177 x ≠ 0 ∧ ∀ b, b ≤ nx h → (∀ q, F q → b ≤ q ∧ q < nx h) → MbX e (Fb b (nx h')) h' x (fr h 163 a) ((T, (nm, np)), some (wd, pl, vs, body)) := by
  have w := p.1
  have hn0 : nx h ≠ 0 := by have := w.1; omega
  -- the method
  obtain ⟨hA, eA, sA, nA, c0, c1, c2, f230, f231, f224, f225, f226, f227, f228, f229, f232, f233, a1, b1, a2, b2⟩ := mk_mth w (s := s9) (k := fr h 163 a) (v1 := nI pl) (v2 := nI np) (v3 := v15)
  have z0 : kc h (nx h) = 0 := w.new
  have z2 : kc h (nx h + 2) = 0 := (w.2.1 _ (by omega)).1
  have kn30 : kc (nO h 30 10) (nx h) = 30 := kc_nO_n
  have sB : St [] [] (5 + 0) h (sR hA 232 (nx h) n16) := sA.cat ((St.refl sA.1 [] [nx h]).sR c0 (by decide) (.inr (.inr (by simp)))) (fun _ z => z) (fun x hx => .inr (.inl (by rw [List.mem_singleton.mp hx]; exact z0)))
  have g : ∀ f, f ≠ 232 → fr (sR hA 232 (nx h) n16) f (nx h) = fr hA f (nx h) := fun f hf => by rw [fr_sR, if_neg (fun y => hf y.1)]
  have g232 : fr (sR hA 232 (nx h) n16) 232 (nx h) = n16 := by rw [fr_sR, if_pos ⟨rfl, rfl⟩]
  have i30 : kc (sR hA 232 (nx h) n16) (nx h) = 30 := c0
  have i116 : kc (sR hA 232 (nx h) n16) (nx h + 1) = 116 := c1
  have i115 : kc (sR hA 232 (nx h) n16) (nx h + 2) = 115 := c2
  have nB : nx (sR hA 232 (nx h) n16) = nx h + 3 := nA
  have q228 : fi (sR hA 232 (nx h) n16) 228 (nx h) = v15 := f228
  have q226 : fi (sR hA 232 (nx h) n16) 226 (nx h) = nI pl := f226
  have q227 : fi (sR hA 232 (nx h) n16) 227 (nx h) = nI np := f227
  have q233 : fi (sR hA 232 (nx h) n16) 233 (nx h) = 0 := f233
  have l116 : ls (sR hA 232 (nx h) n16) (nx h + 1) = [] := b1
  have l115 : ls (sR hA 232 (nx h) n16) (nx h + 2) = [] := b2
  have cp116 : cp (sR hA 232 (nx h) n16) (nx h + 1) ≠ RAW := a1
  have cp115 : cp (sR hA 232 (nx h) n16) (nx h + 2) ≠ RAW := a2
  unfold f_X11_member_b423
  rw [nwO_e, ldR_e (show kc (nO h 30 10) a = 13 from kc_nO_o w ka (by decide)), show fr (nO h 30 10) 163 a = fr h 163 a from rfl, if_pos kn30, eA, stR_e c0, nwO_e]
  generalize hBB : sR hA 232 (nx h) n16 = hB at *
  have wB := sB.1
  -- the member
  have kn15 : kc (nO hB 15 8) (nx hB) = 15 := kc_nO_n
  obtain ⟨hC, eC, sC, nC, d0, d1, d2, e178, e179, e174, e175, e176, e177, e180, e181, u1, v1, u2, v2⟩ := mk_dft wB (t := t7) (s := s9) (v := nI np) (m := nx h)
  rw [if_pos kn15, eC]
  have z15 : kc hB (nx hB) = 0 := wB.new
  have s180 : a4 = 0 ∨ a4 = 1 := by rw [h4]; split; exact .inr rfl; exact .inl rfl
  have s181 : a5 = 0 ∨ a5 = 1 := by rw [h5]; split; exact .inr rfl; exact .inl rfl
  have d0' : kc (sI hC 180 (nx hB) a4) (nx hB) = 15 := d0
  rw [stZ_b s180 d0, stZ_b s181 d0']
  have sE : St [] [] (5 + 0) hB (sI (sI hC 180 (nx hB) a4) 181 (nx hB) a5) := sC.cat (((St.refl sC.1 [] [nx hB]).sI d0 (by decide) (.inr (.inr (by simp)))).sI d0' (by decide) (.inr (.inr (by simp)))) (fun _ z => z) (fun x hx => .inr (.inl (by rw [List.mem_singleton.mp hx]; exact z15)))
  have m180 : fi (sI (sI hC 180 (nx hB) a4) 181 (nx hB) a5) 180 (nx hB) = a4 := by rw [fi_sI, if_neg (fun y => absurd y.1 (by decide)), fi_sI, if_pos ⟨rfl, rfl⟩]
  have m181 : fi (sI (sI hC 180 (nx hB) a4) 181 (nx hB) a5) 181 (nx hB) = a5 := by rw [fi_sI, if_pos ⟨rfl, rfl⟩]
  have m176 : fi (sI (sI hC 180 (nx hB) a4) 181 (nx hB) a5) 176 (nx hB) = nI np := by rw [fi_sI, if_neg (fun y => absurd y.1 (by decide)), fi_sI, if_neg (fun y => absurd y.1 (by decide))]; exact e176
  have r178 : fr (sI (sI hC 180 (nx hB) a4) 181 (nx hB) a5) 178 (nx hB) = nx hB + 1 := e178
  have r179 : fr (sI (sI hC 180 (nx hB) a4) 181 (nx hB) a5) 179 (nx hB) = nx hB + 2 := e179
  have r174 : fr (sI (sI hC 180 (nx hB) a4) 181 (nx hB) a5) 174 (nx hB) = t7 := e174
  have r175 : fr (sI (sI hC 180 (nx hB) a4) 181 (nx hB) a5) 175 (nx hB) = s9 := e175
  have r177 : fr (sI (sI hC 180 (nx hB) a4) 181 (nx hB) a5) 177 (nx hB) = nx h := e177
  have j15 : kc (sI (sI hC 180 (nx hB) a4) 181 (nx hB) a5) (nx hB) = 15 := d0
  have j114 : kc (sI (sI hC 180 (nx hB) a4) 181 (nx hB) a5) (nx hB + 1) = 114 := d1
  have j113 : kc (sI (sI hC 180 (nx hB) a4) 181 (nx hB) a5) (nx hB + 2) = 113 := d2
  have jc1 : cp (sI (sI hC 180 (nx hB) a4) 181 (nx hB) a5) (nx hB + 1) ≠ RAW := u1
  have jc2 : cp (sI (sI hC 180 (nx hB) a4) 181 (nx hB) a5) (nx hB + 2) ≠ RAW := u2
  have jl1 : ls (sI (sI hC 180 (nx hB) a4) 181 (nx hB) a5) (nx hB + 1) = [] := v1
  have jl2 : ls (sI (sI hC 180 (nx hB) a4) 181 (nx hB) a5) (nx hB + 2) = [] := v2
  have nE : nx (sI (sI hC 180 (nx hB) a4) 181 (nx hB) a5) = nx h + 6 := by show nx hC = _; rw [nC, nB]
  generalize hEE : sI (sI hC 180 (nx hB) a4) 181 (nx hB) a5 = hE at *
  have Q30 := sE.2.eq i30 (by decide) (by simp) (by simp)
  have Q115 := sE.2.eq i115 (by decide) (by simp) (by simp)
  have Q116 := sE.2.eq i116 (by decide) (by simp) (by simp)
  have k30 := sE.2.kk i30 (by decide)
  have k115 := sE.2.kk i115 (by decide)
  have k116 := sE.2.kk i116 (by decide)
  have sAE : St [] [] (5 + 0 + (5 + 0)) h hE := sB.trans sE
  have pE := p.new sAE
  have ZE : FxX e G [119, 118, 117] h hE := FxX.nw p sAE
  have MxE := MhX_fx ZE (fun _ z => z) Mx
  have clE := sAE.2.kk cl (by decide)
  have r231 : fr hE 231 (nx h) = nx h + 2 := (Q30.2.2.1 231).trans ((g 231 (by decide)).trans f231)
  have r230 : fr hE 230 (nx h) = nx h + 1 := (Q30.2.2.1 230).trans ((g 230 (by decide)).trans f230)
  have fF : ∀ {b l : Nat}, b ≤ nx h → nx h ≤ l → l < nx h + 6 → Fb b (nx hE) l := fun hb h1 h2 => ⟨by omega, by omega⟩
  have Pl : PlX e (Fb (nx h) (nx hE)) hE (nx h) (nx hB) (vs.take 0) := by
    rw [List.take_zero]
    refine ⟨k30, j15, ?_, ?_, ?_⟩
    · rw [r178]; exact list_at (fF (Nat.le_refl _) (by omega) (by omega)) j114 jc1 jl1
    · rw [r179]; exact list_at (fF (Nat.le_refl _) (by omega) (by omega)) j113 jc2 jl2
    · rw [r231]; exact list_at (fF (Nat.le_refl _) (by omega) (by omega)) k115 (by rw [Q115.2.2.2.2.2.2.2.2]; exact cp115) (by rw [Q115.2.2.2.2.2.2.1]; exact l115)
  obtain ⟨hF, eF, sF, pF, PlF⟩ := copy_l (F := Fb (nx h) (nx hE)) vs h8 (vs.length + 1) hE 0 NN (by have := NN_ge (k := 400) (by omega); omega) (by omega) (by omega) pE clE MxE Pl
  rw [show (0 : Int32) = nI 0 from rfl, eF, bd_ok]
  rw [r178, r179, r231] at sF
  have sAF : St [] [] (5 + 0 + (5 + 0) + 30 * (vs.length - 0)) h hF := sAE.cat sF (fun _ z => z) (fun x hx => .inr (.inl (by
    simp only [List.mem_cons, List.not_mem_nil, or_false] at hx
    rcases hx with z | z | z <;> rw [z]
    · exact (w.2.1 _ (by omega)).1
    · exact (w.2.1 _ (by omega)).1
    · exact z2)))
  have R30 := sF.2.eq k30 (by decide) (by simp) (by simp; omega)
  have R15 := sF.2.eq j15 (by decide) (by simp) (by simp; omega)
  have R116 := sF.2.eq k116 (by decide) (by simp) (by simp; omega)
  have kF116 := sF.2.kk k116 (by decide)
  have nF := sF.2.1
  have ZF : FxX e G [] h hF := FxX.nw p sAF
  refine ⟨nx hB, hF, rfl, sAF.le (by omega), pF, PlF.2.1, (w.2.1 _ (by omega)).1, ?_, fun b hb0 hFb => ?_⟩
  · rw [R15.2.2.1 177, r177]; exact hn0
  · have up : ∀ l, Fb (nx h) (nx hE) l → Fb b (nx hF) l := fun l z => ⟨by have := z.1; omega, by have := z.2; omega⟩
    obtain ⟨_, k15F, L1, L2, L3⟩ := PlF
    refine ⟨k15F, ?_, ?_, (R15.1 176).trans m176, L1.wk (up _) (fun _ _ z => z), L2.wk (up _) (fun _ _ z => z), ((R15.1 180).trans m180).trans h4, ((R15.1 181).trans m181).trans h5, ?_, ⟨fun y => (by cases y), fun v hv => ?_, h8⟩⟩
    · rw [R15.2.2.1 174, r174]; exact TyE_fx ZF ht
    · rw [R15.2.2.1 175, r175]; exact StrX_fx ZF hs
    · rw [R15.2.2.1 177, r177]
      have e30 : ∀ f, f ≠ 232 → fr hF f (nx h) = fr hA f (nx h) := fun f hf => (R30.2.2.1 f).trans ((Q30.2.2.1 f).trans (g f hf))
      have e30i : ∀ f, fi hF f (nx h) = fi hB f (nx h) := fun f => (R30.1 f).trans (Q30.1 f)
      have e232 : fr hF 232 (nx h) = n16 := (R30.2.2.1 232).trans ((Q30.2.2.1 232).trans g232)
      refine ⟨hn0, sF.2.kk k30 (by decide), ?_, (e30 225 (by decide)).trans f225, (e30i 226).trans q226, (e30i 227).trans q227, (e30 229 (by decide)).trans f229, ?_, ?_, (e30i 233).trans q233, ?_, ?_⟩
      · rw [e30 224 (by decide), f224]; exact StrX_fx ZF hs
      · rw [(R30.2.2.1 230).trans r230]
        exact list_at ⟨by omega, by omega⟩ kF116 (by rw [R116.2.2.2.2.2.2.2.2, Q116.2.2.2.2.2.2.2.2]; exact cp116) (by rw [R116.2.2.2.2.2.2.1, Q116.2.2.2.2.2.2.1]; exact l116)
      · exact L3.wk (up _) (fun _ _ z => z)
      · rw [e30i 228, q228]
        cases body with
        | none => exact hb.1
        | some b => exact hb.1
      · cases body with
        | none => exact e232.trans hb.2
        | some bb =>
          show fr hF 232 (nx h) ≠ 0 ∧ Nx e (Fb b (nx hF)) hF (fr hF 232 (nx h)) bb.2.1 bb.2.2 ∧ bb.1 ≤ 300
          rw [e232]
          obtain ⟨_, _, _, _, ZN⟩ := ZF
          exact ⟨hb.2.1, ZN _ _ _ _ (Nx_F (fun q z => ⟨(hFb q z).1, by have := (hFb q z).2; omega⟩) hb.2.2.1), hb.2.2.2⟩
    · obtain ⟨_, _, z⟩ := Mx.2.1.2.2.2.mem2 v.2.1 (List.mem_map.mpr ⟨v, hv, rfl⟩)
      exact z.2
