/-! LAYER 3: methods, printed by dec.py -/
set_option maxRecDepth 100000
noncomputable def f_X0_isShut (a0 : Nat) (h : HP) : Rs Int32 :=
  ldR 1 7 a0 h fun x1 =>
  if x1 = 0 then
  (rok (1 : Int32) h)
  else
  (ldI 1 14 a0 h fun x2 =>
  if x2 = 0 then
  (rok (0 : Int32) h)
  else
  (rok (1 : Int32) h))
noncomputable def f_X35_hasView (a0 : Nat) (h : HP) : Rs Int32 :=
  ldR 34 259 a0 h fun x1 =>
  if x1 = 0 then
  (ldI 34 260 a0 h fun x2 =>
  if x2 < 0 then
  (rok (0 : Int32) h)
  else
  (rok (1 : Int32) h))
  else
  (rok (1 : Int32) h)
noncomputable def f_X0_hasView (a0 : Nat) (h : HP) : Rs Int32 :=
  if kc h a0 = 1 then
  bd (f_X0_isShut a0 h) (fun x1 h2 =>
  if x1 = 0 then
  (ldR 1 7 a0 h2 fun x3 =>
  if kc h2 x3 = 34 then
  bd (f_X35_hasView x3 h2) (fun x4 h5 =>
  if x4 = 0 then
  (rok (0 : Int32) h5)
  else
  (rok (1 : Int32) h5))
  else none)
  else
  (rok (0 : Int32) h2))
  else none
noncomputable def f_X37_isText (a0 : Nat) (h : HP) : Rs Int32 :=
  ldR 36 274 a0 h fun x1 =>
  ldI 4 31 x1 h fun x2 =>
  if x2 = (9 : Int32) then
  (rok (1 : Int32) h)
  else
  (rok (0 : Int32) h)
noncomputable def f_X35_isSeen (a0 : Nat) (a1 : Nat) (a2 : Nat) (a3 : Int32) (h : HP) : Rs Int32 :=
  if a1 = 0 then
  (rok (0 : Int32) h)
  else
  (ldI 36 279 a1 h fun x1 =>
  if x1 = 0 then
  (if kc h a1 = 36 then
  bd (f_X37_isText a1 h) (fun x2 h3 =>
  if x2 = 0 then
  (ldI 36 278 a1 h3 fun x4 =>
  if x4 = 0 then
  (ldI 36 280 a1 h3 fun x5 =>
  if x5 ≤ 0 then
  (ldI 36 281 a1 h3 fun x6 =>
  if a3 < x6 then
  (rok (0 : Int32) h3)
  else
  (rok (1 : Int32) h3))
  else
  (if a2 = 0 then
  (rok (0 : Int32) h3)
  else
  (ldI 36 280 a1 h3 fun x7 =>
  ldI 35 264 a2 h3 fun x8 =>
  if x7 = x8 then
  (rok (1 : Int32) h3)
  else
  (rok (0 : Int32) h3))))
  else
  (rok (1 : Int32) h3))
  else
  (rok (1 : Int32) h3))
  else none)
  else
  (rok (0 : Int32) h))
noncomputable def f_X35_seenVersion (a0 : Nat) (h : HP) : Rs Int32 :=
  ldR 34 259 a0 h fun x1 =>
  if x1 = 0 then
  (ldI 34 260 a0 h fun x2 =>
  rok x2 h)
  else
  (ldR 34 259 a0 h fun x3 =>
  ldI 35 265 x3 h fun x4 =>
  rok x4 h)
noncomputable def f_X35_isAlive (a0 : Nat) (a1 : Int32) (h : HP) : Rs Int32 :=
  if a1 < (1 : Int32) then
  (rok (0 : Int32) h)
  else
  (ldI 34 250 a0 h fun x1 =>
  if x1 ≤ a1 then
  (rok (0 : Int32) h)
  else
  (ldR 34 249 a0 h fun x2 =>
  aldR 8 x2 a1 h fun x3 =>
  ldR 34 259 a0 h fun x4 =>
  if kc h a0 = 34 then
  bd (f_X35_seenVersion a0 h) (fun x5 h6 =>
  if kc h6 a0 = 34 then
  bd (f_X35_isSeen a0 x3 x4 x5 h6) (fun x7 h8 =>
  if x7 = 0 then
  (rok (0 : Int32) h8)
  else
  (rok (1 : Int32) h8))
  else none)
  else none))
noncomputable def f_X0_alive (a0 : Nat) (a1 : Int32) (h : HP) : Rs Int32 :=
  if kc h a0 = 1 then
  bd (f_X0_hasView a0 h) (fun x1 h2 =>
  if x1 = 0 then
  (rok (0 : Int32) h2)
  else
  (if a1 ≤ 0 then
  (rok (0 : Int32) h2)
  else
  (if (4000 : Int32) < a1 then
  (rok (0 : Int32) h2)
  else
  (ldR 1 7 a0 h2 fun x3 =>
  if kc h2 x3 = 34 then
  bd (f_X35_isAlive x3 a1 h2) (fun x4 h5 =>
  if x4 = 0 then
  (rok (0 : Int32) h5)
  else
  (rok (1 : Int32) h5))
  else none))))
  else none
noncomputable def f_X43_answer (a0 : Nat) (a1 : Int32) (a2 : Int32) (h : HP) : Rs Int64 :=
  if a1 < 0 then
  (rok (0 : Int64) h)
  else
  (ldI 42 345 a0 h fun x1 =>
  if x1 ≤ a1 then
  (rok (0 : Int64) h)
  else
  (if a2 < 0 then
  (rok (0 : Int64) h)
  else
  (ldI 42 344 a0 h fun x2 =>
  if x2 ≤ a2 then
  (rok (0 : Int64) h)
  else
  (ldR 42 342 a0 h fun x3 =>
  aldJ 3 x3 (((4 : Int32) * a1) + a2) h fun x4 =>
  rok x4 h))))
noncomputable def f_X0_answer (a0 : Nat) (a1 : Int32) (a2 : Int32) (h : HP) : Rs Int64 :=
  if kc h a0 = 1 then
  bd (f_X0_isShut a0 h) (fun x1 h2 =>
  if x1 = 0 then
  (ldR 1 12 a0 h2 fun x3 =>
  if kc h2 x3 = 42 then
  bd (f_X43_answer x3 a1 a2 h2) (fun x4 h5 =>
  rok x4 h5)
  else none)
  else
  (rok (0 : Int64) h2))
  else none
noncomputable def f_X43_kind (a0 : Nat) (a1 : Int32) (h : HP) : Rs Int32 :=
  if a1 < 0 then
  (rok (-1 : Int32) h)
  else
  (ldI 42 344 a0 h fun x1 =>
  if x1 ≤ a1 then
  (rok (-1 : Int32) h)
  else
  (ldR 42 343 a0 h fun x2 =>
  aldI 0 x2 a1 h fun x3 =>
  rok x3 h))
noncomputable def f_X0_answerKind (a0 : Nat) (a1 : Int32) (h : HP) : Rs Int32 :=
  if kc h a0 = 1 then
  bd (f_X0_isShut a0 h) (fun x1 h2 =>
  if x1 = 0 then
  (ldR 1 12 a0 h2 fun x3 =>
  if kc h2 x3 = 42 then
  bd (f_X43_kind x3 a1 h2) (fun x4 h5 =>
  rok x4 h5)
  else none)
  else
  (rok (-1 : Int32) h2))
  else none
noncomputable def f_X0_answered (a0 : Nat) (h : HP) : Rs Int64 :=
  ldJ 1 22 a0 h fun x1 =>
  rok x1 h
noncomputable def f_X0_hasAct (a0 : Nat) (h : HP) : Rs Int32 :=
  if kc h a0 = 1 then
  bd (f_X0_isShut a0 h) (fun x1 h2 =>
  if x1 = 0 then
  (ldR 1 7 a0 h2 fun x3 =>
  ldR 34 259 x3 h2 fun x4 =>
  if x4 = 0 then
  (rok (0 : Int32) h2)
  else
  (rok (1 : Int32) h2))
  else
  (rok (0 : Int32) h2))
  else none
noncomputable def f_X2_get (a0 : Nat) (a1 : Int32) (h : HP) : Rs Nat :=
  ldR 3 30 a0 h fun x1 =>
  lsGet x1 a1 h fun x2 =>
  castR [4] x2 h (
  rok x2 h)
noncomputable def f_X35_hasRoom (a0 : Nat) (a1 : Int32) (a2 : Int32) (h : HP) : Rs Int32 :=
  ldI 34 250 a0 h fun x1 =>
  if (4001 : Int32) < (x1 + a1) then
  (rok (0 : Int32) h)
  else
  (ldI 34 251 a0 h fun x2 =>
  if (20000 : Int32) < (x2 + a2) then
  (rok (0 : Int32) h)
  else
  (rok (1 : Int32) h))
noncomputable def f_X1_at (a0 : Nat) (a1 : Int32) (a2 : Int32) (h : HP) : Rs Nat :=
  stI 2 28 a0 a1 h fun h1 =>
  stI 2 29 a0 a2 h1 fun h2 =>
  ldR 2 27 a0 h2 fun x3 =>
  rok x3 h2
noncomputable def f_X1_with (a0 : Nat) (a1 : Int32) (h : HP) : Rs Nat :=
  if kc h a0 = 2 then
  bd (f_X1_at a0 a1 (-1 : Int32) h) (fun x1 h2 =>
  rok x1 h2)
  else none
noncomputable def f_X37_init (a0 : Nat) (a1 : Int32) (a2 : Nat) (a3 : Int32) (a4 : Nat) (a5 : Int32) (h : HP) : Rs Unit :=
  if a0 = 0 then none else (
  stI 36 273 a0 a1 h fun h1 =>
  stR 36 274 a0 a2 h1 fun h2 =>
  stI 36 275 a0 a3 h2 fun h3 =>
  stR 36 276 a0 a4 h3 fun h4 =>
  stI 36 277 a0 a5 h4 fun h5 =>
  rok () h5)
noncomputable def f_X35_add (a0 : Nat) (a1 : Nat) (a2 : Int32) (a3 : Nat) (a4 : Int32) (a5 : Int32) (h : HP) : Rs Nat :=
  ldI 34 250 a0 h fun x1 =>
  if (4000 : Int32) < x1 then
  (ldR 34 248 a0 h fun x2 =>
  if kc h x2 = 2 then
  bd (f_X1_with x2 (12 : Int32) h) (fun x3 h4 =>
  if kc h4 x3 = 69 then rex h4 else none)
  else none)
  else
  (ldI 34 251 a0 h fun x5 =>
  if (x5 + a5) ≤ (20000 : Int32) then
  (nwO 36 11 h fun p6 h7 =>
  ldI 34 250 a0 h7 fun x8 =>
  if kc h7 p6 = 36 then
  bd (f_X37_init p6 x8 a1 a2 a3 a4 h7) (fun _ h9 =>
  ldR 34 249 a0 h9 fun x10 =>
  ldI 34 250 a0 h9 fun x11 =>
  astO 8 36 x10 x11 p6 h9 fun h12 =>
  ldI 34 250 a0 h12 fun x13 =>
  stI 34 250 a0 (x13 + (1 : Int32)) h12 fun h14 =>
  ldI 34 251 a0 h14 fun x15 =>
  stI 34 251 a0 (x15 + a5) h14 fun h16 =>
  rok p6 h16)
  else none)
  else
  (ldR 34 248 a0 h fun x17 =>
  if kc h x17 = 2 then
  bd (f_X1_with x17 (12 : Int32) h) (fun x18 h19 =>
  if kc h19 x18 = 69 then rex h19 else none)
  else none))
noncomputable def f_X62_init (a0 : Nat) (a1 : Int32) (a2 : Nat) (a3 : Nat) (h : HP) : Rs Unit :=
  if a0 = 0 then none else (
  stI 60 443 a0 a1 h fun h1 =>
  stR 60 444 a0 a2 h1 fun h2 =>
  stR 60 445 a0 a3 h2 fun h3 =>
  rok () h3)
noncomputable def f_X35_make (a0 : Nat) (a1 : Nat) (a2 : Int32) (h : HP) : Rs Nat :=
  if kc h a0 = 34 then
  bd (f_X35_add a0 a1 a2 0 (0 : Int32) a2 h) (fun x1 h2 =>
  ldR 34 259 a0 h2 fun x3 =>
  ldI 35 264 x3 h2 fun x4 =>
  stI 36 280 x1 x4 h2 fun h5 =>
  ldR 34 259 a0 h5 fun x6 =>
  ldR 35 266 x6 h5 fun x7 =>
  ldI 36 273 x1 h5 fun x8 =>
  nwO 60 3 h5 fun p9 h10 =>
  nwA 203 a2 h10 fun p11 h12 =>
  if kc h12 p9 = 60 then
  bd (f_X62_init p9 (0 : Int32) p11 0 h12) (fun _ h13 =>
  astO 7 60 x7 x8 p9 h13 fun h14 =>
  rok x1 h14)
  else none)
  else none
noncomputable def f_X35_mayCopy (a0 : Nat) (a1 : Int32) (h : HP) : Rs Int32 :=
  ldI 34 252 a0 h fun x1 =>
  if (60000 : Int32) < (x1 + a1) then
  (rok (0 : Int32) h)
  else
  (rok (1 : Int32) h)
noncomputable def f_X35_isOwn (a0 : Nat) (a1 : Int32) (h : HP) : Rs Int32 :=
  ldR 34 259 a0 h fun x1 =>
  ldR 35 266 x1 h fun x2 =>
  aldR 7 x2 a1 h fun x3 =>
  if x3 = 0 then
  (rok (0 : Int32) h)
  else
  (rok (1 : Int32) h)
noncomputable def f_X35_sizeOf (a0 : Nat) (a1 : Int32) (h : HP) : Rs Int32 :=
  ldR 34 249 a0 h fun x1 =>
  aldR 8 x1 a1 h fun x2 =>
  ldI 36 275 x2 h fun x3 =>
  rok x3 h
noncomputable def f_X39_row (a0 : Nat) (a1 : Int32) (a2 : Int32) (h : HP) : Rs Int64 :=
  if a1 < 0 then
  (rok (0 : Int64) h)
  else
  (ldI 38 303 a0 h fun x1 =>
  if x1 ≤ a1 then
  (rok (0 : Int64) h)
  else
  (if a2 < 0 then
  (rok (0 : Int64) h)
  else
  (if (5 : Int32) ≤ a2 then
  (rok (0 : Int64) h)
  else
  (ldR 38 301 a0 h fun x2 =>
  aldJ 3 x2 (((5 : Int32) * a1) + a2) h fun x3 =>
  rok x3 h))))
noncomputable def f_X39_copies_l56b97 (v0 : Nat) (v1 : Int32) (v2 : Int32) (v3 : Int32) (ih : Int32 → Int32 → HP → Rs Int32) (a5 : Int32) (s0 : Int32) (h : HP) : Rs Int32 :=
  lt3 (a5 + 1) fun x1 =>
  ih s0 x1 h
noncomputable def f_X39_copies_l56b92 (v0 : Nat) (v1 : Int32) (v2 : Int32) (v3 : Int32) (ih : Int32 → Int32 → HP → Rs Int32) (a5 : Int32) (h : HP) : Rs Int32 :=
  f_X39_copies_l56b97 v0 v1 v2 v3 ih a5 (1 : Int32) h
noncomputable def b_X39_copies_l56 (v0 : Nat) (v1 : Int32) (v2 : Int32) (v3 : Int32) (ih : Int32 → Int32 → HP → Rs Int32) (a4 : Int32) (a5 : Int32) (h : HP) : Rs Int32 :=
  if v2 ≤ a5 then
  (rok a4 h)
  else
  (if a4 = 0 then
  (rok a4 h)
  else
  (if kc h v0 = 38 then
  bd (f_X39_row v0 a5 (0 : Int32) h) (fun x1 h2 =>
  if (lg_cmp x1 (1 : Int64)) = 0 then
  (if kc h2 v0 = 38 then
  bd (f_X39_row v0 a5 (1 : Int32) h2) (fun x3 h4 =>
  if (lg_cmp x3 (Int32.toInt64 v3)) = 0 then
  (f_X39_copies_l56b97 v0 v1 v2 v3 ih a5 (0 : Int32) h4)
  else
  (f_X39_copies_l56b92 v0 v1 v2 v3 ih a5 h4))
  else none)
  else
  (f_X39_copies_l56b92 v0 v1 v2 v3 ih a5 h2))
  else none))
noncomputable def f_X39_copies_l56 (v0 : Nat) (v1 : Int32) (v2 : Int32) (v3 : Int32) (n : Nat) : Int32 → Int32 → HP → Rs Int32 := @Nat.rec (fun _ => Int32 → Int32 → HP → Rs Int32) (fun _ _ _ => none) (fun _ ih => b_X39_copies_l56 v0 v1 v2 v3 ih) n
noncomputable def f_X39_copies_l4b121 (v0 : Nat) (ih : Int32 → Int32 → HP → Rs Int32) (a1 : Int32) (a2 : Int32) (h : HP) : Rs Int32 :=
  lt3 (a2 + 1) fun x1 =>
  ih a1 x1 h
noncomputable def f_X39_copies_l4b105 (v0 : Nat) (ih : Int32 → Int32 → HP → Rs Int32) (a1 : Int32) (a2 : Int32) (a3 : Int32) (a4 : Int32) (h : HP) : Rs Int32 :=
  if a4 = 0 then
  (f_X39_copies_l4b121 v0 ih a1 a2 h)
  else
  (ldR 38 293 v0 h fun x1 =>
  if kc h x1 = 34 then
  bd (f_X35_sizeOf x1 a3 h) (fun x2 h3 =>
  lt3 (a1 + x2) fun x4 =>
  f_X39_copies_l4b121 v0 ih x4 a2 h3)
  else none)
noncomputable def f_X39_copies_l4b51 (v0 : Nat) (ih : Int32 → Int32 → HP → Rs Int32) (a1 : Int32) (a2 : Int32) (a3 : Int32) (s0 : Int32) (h : HP) : Rs Int32 :=
  bd (f_X39_copies_l56 v0 a1 a2 a3 NN s0 (0 : Int32) h) (fun x1 h2 => f_X39_copies_l4b105 v0 ih a1 a2 a3 x1 h2)
noncomputable def f_X39_copies_l4b50 (v0 : Nat) (ih : Int32 → Int32 → HP → Rs Int32) (a1 : Int32) (a2 : Int32) (a3 : Int32) (h : HP) : Rs Int32 :=
  f_X39_copies_l4b51 v0 ih a1 a2 a3 (0 : Int32) h
noncomputable def b_X39_copies_l4 (v0 : Nat) (ih : Int32 → Int32 → HP → Rs Int32) (a1 : Int32) (a2 : Int32) (h : HP) : Rs Int32 :=
  ldI 38 303 v0 h fun x1 =>
  if x1 ≤ a2 then
  (rok a1 h)
  else
  (if kc h v0 = 38 then
  bd (f_X39_row v0 a2 (1 : Int32) h) (fun x2 h3 =>
  lt3 (Int64.toInt32 x2) fun x4 =>
  if kc h3 v0 = 38 then
  bd (f_X39_row v0 a2 (0 : Int32) h3) (fun x5 h6 =>
  if (lg_cmp x5 (1 : Int64)) = 0 then
  (if x4 ≤ 0 then
  (f_X39_copies_l4b50 v0 ih a1 a2 x4 h6)
  else
  (ldR 38 293 v0 h6 fun x7 =>
  if kc h6 x7 = 34 then
  bd (f_X35_isOwn x7 x4 h6) (fun x8 h9 =>
  if x8 = 0 then
  (f_X39_copies_l4b51 v0 ih a1 a2 x4 (1 : Int32) h9)
  else
  (f_X39_copies_l4b50 v0 ih a1 a2 x4 h9))
  else none))
  else
  (f_X39_copies_l4b50 v0 ih a1 a2 x4 h6))
  else none)
  else none)
noncomputable def f_X39_copies_l4 (v0 : Nat) (n : Nat) : Int32 → Int32 → HP → Rs Int32 := @Nat.rec (fun _ => Int32 → Int32 → HP → Rs Int32) (fun _ _ _ => none) (fun _ ih => b_X39_copies_l4 v0 ih) n
noncomputable def f_X39_copies (a0 : Nat) (h : HP) : Rs Int32 :=
  bd (f_X39_copies_l4 a0 NN (0 : Int32) (0 : Int32) h) (fun x1 h2 => rok x1 h2)
noncomputable def f_X35_noteRead (a0 : Nat) (a1 : Int32) (h : HP) : Rs Unit :=
  ldR 34 259 a0 h fun x1 =>
  if x1 = 0 then
  (rok () h)
  else
  (ldR 34 259 a0 h fun x2 =>
  ldR 35 267 x2 h fun x3 =>
  astI 2 x3 a1 (vp_nar .boolean (1 : Int32)) h fun h4 =>
  rok () h4)
noncomputable def b_X35_valuesIn_l35 (v3 : Int32) (ih : Nat → HP → Rs Nat) (a4 : Nat) (h : HP) : Rs Nat :=
  ldI 60 443 a4 h fun x1 =>
  if x1 ≤ v3 then
  (rok a4 h)
  else
  (ldR 60 445 a4 h fun x2 =>
  ih x2 h)
noncomputable def f_X35_valuesIn_l35 (v3 : Int32) (n : Nat) : Nat → HP → Rs Nat := @Nat.rec (fun _ => Nat → HP → Rs Nat) (fun _ _ => none) (fun _ ih => b_X35_valuesIn_l35 v3 ih) n
noncomputable def f_X35_valuesIn_b29 (a1 : Nat) (a3 : Int32) (h : HP) : Rs Nat :=
  ldR 36 283 a1 h fun x1 =>
  bd (f_X35_valuesIn_l35 a3 NN x1 h) (fun x2 h3 => ldR 60 444 x2 h3 fun x4 =>
  rok x4 h3)
noncomputable def f_X35_valuesIn (a0 : Nat) (a1 : Nat) (a2 : Nat) (a3 : Int32) (h : HP) : Rs Nat :=
  if a2 = 0 then
  (f_X35_valuesIn_b29  a1 a3 h)
  else
  (ldR 35 266 a2 h fun x1 =>
  ldI 36 273 a1 h fun x2 =>
  aldR 7 x1 x2 h fun x3 =>
  if x3 = 0 then
  (f_X35_valuesIn_b29  a1 a3 h)
  else
  (ldR 35 266 a2 h fun x4 =>
  ldI 36 273 a1 h fun x5 =>
  aldR 7 x4 x5 h fun x6 =>
  ldR 60 444 x6 h fun x7 =>
  rok x7 h))
noncomputable def f_X35_values (a0 : Nat) (a1 : Int32) (h : HP) : Rs Nat :=
  ldR 34 249 a0 h fun x1 =>
  aldR 8 x1 a1 h fun x2 =>
  ldR 34 259 a0 h fun x3 =>
  if kc h a0 = 34 then
  bd (f_X35_seenVersion a0 h) (fun x4 h5 =>
  if kc h5 a0 = 34 then
  bd (f_X35_valuesIn a0 x2 x3 x4 h5) (fun x6 h7 =>
  rok x6 h7)
  else none)
  else none
noncomputable def f_X35_read (a0 : Nat) (a1 : Int32) (a2 : Int32) (h : HP) : Rs Int64 :=
  if kc h a0 = 34 then
  bd (f_X35_noteRead a0 a1 h) (fun _ h1 =>
  if kc h1 a0 = 34 then
  bd (f_X35_values a0 a1 h1) (fun x2 h3 =>
  aldJ 3 x2 a2 h3 fun x4 =>
  rok x4 h3)
  else none)
  else none
noncomputable def f_X39_holds (a0 : Nat) (a1 : Int32) (a2 : Int32) (a3 : Int64) (h : HP) : Rs Int32 :=
  ldR 38 293 a0 h fun x1 =>
  if kc h x1 = 34 then
  bd (f_X35_isAlive x1 a1 h) (fun x2 h3 =>
  if x2 = 0 then
  (rok (0 : Int32) h3)
  else
  (ldR 38 293 a0 h3 fun x4 =>
  if kc h3 x4 = 34 then
  bd (f_X35_sizeOf x4 a1 h3) (fun x5 h6 =>
  if a2 < x5 then
  (ldR 38 293 a0 h6 fun x7 =>
  if kc h6 x7 = 34 then
  bd (f_X35_read x7 a1 a2 h6) (fun x8 h9 =>
  if (lg_cmp x8 a3) = 0 then
  (rok (1 : Int32) h9)
  else
  (rok (0 : Int32) h9))
  else none)
  else
  (rok (0 : Int32) h6))
  else none))
  else none
noncomputable def f_X37_kindOf (a0 : Nat) (a1 : Int32) (h : HP) : Rs Nat :=
  ldR 36 274 a0 h fun x1 =>
  ldR 4 32 x1 h fun x2 =>
  eqS x2 907
  (ldR 36 274 a0 h fun x7 =>
  ldR 4 34 x7 h fun x8 =>
  rok x8 h)
  (ldR 36 274 a0 h fun x3 =>
  ldR 4 44 x3 h fun x4 =>
  lsGet x4 a1 h fun x5 =>
  castR [31] x5 h (
  ldR 31 235 x5 h fun x6 =>
  rok x6 h))
noncomputable def f_X3_isPlain (a0 : Nat) (h : HP) : Rs Int32 :=
  ldR 4 32 a0 h fun x1 =>
  eqS x1 900
  (rok (1 : Int32) h)
  (rok (0 : Int32) h)
noncomputable def f_X39_isThere_l7b34 (v0 : Nat) (v1 : Int32) (v2 : Int32) (v3 : Int64) (ih : Int32 → HP → Rs Int32) (a5 : Int32) (h : HP) : Rs Int32 :=
  lt3 (a5 + 1) fun x1 =>
  ih x1 h
noncomputable def b_X39_isThere_l7 (v0 : Nat) (v1 : Int32) (v2 : Int32) (v3 : Int64) (ih : Int32 → HP → Rs Int32) (a5 : Int32) (h : HP) : Rs Int32 :=
  if kc h v0 = 38 then
  bd (f_X39_row v0 a5 (0 : Int32) h) (fun x1 h2 =>
  if (lg_cmp x1 (2 : Int64)) = 0 then
  (if kc h2 v0 = 38 then
  bd (f_X39_row v0 a5 (1 : Int32) h2) (fun x3 h4 =>
  if (lg_cmp x3 (Int32.toInt64 v1)) = 0 then
  (rok a5 h4)
  else
  (f_X39_isThere_l7b34 v0 v1 v2 v3 ih a5 h4))
  else none)
  else
  (f_X39_isThere_l7b34 v0 v1 v2 v3 ih a5 h2))
  else none
noncomputable def f_X39_isThere_l7 (v0 : Nat) (v1 : Int32) (v2 : Int32) (v3 : Int64) (n : Nat) : Int32 → HP → Rs Int32 := @Nat.rec (fun _ => Int32 → HP → Rs Int32) (fun _ _ => none) (fun _ ih => b_X39_isThere_l7 v0 v1 v2 v3 ih) n
noncomputable def f_X39_isThere_b94 (a0 : Nat) (a3 : Int64) (s0 : Nat) (h : HP) : Rs Int32 :=
  if kc h s0 = 4 then
  bd (f_X3_isPlain s0 h) (fun x1 h2 =>
  if x1 = 0 then
  (if (lg_cmp a3 (0 : Int64)) ≤ 0 then
  (rok (1 : Int32) h2)
  else
  (ldR 38 293 a0 h2 fun x3 =>
  if kc h2 x3 = 34 then
  bd (f_X35_isAlive x3 (Int64.toInt32 a3) h2) (fun x4 h5 =>
  if x4 = 0 then
  (rok (0 : Int32) h5)
  else
  (rok (1 : Int32) h5))
  else none))
  else
  (rok (1 : Int32) h2))
  else none
noncomputable def f_X39_isThere (a0 : Nat) (a1 : Int32) (a2 : Int32) (a3 : Int64) (h : HP) : Rs Int32 :=
  if 0 ≤ a1 then
  (ldR 38 293 a0 h fun x1 =>
  ldR 34 249 x1 h fun x2 =>
  aldR 8 x2 a1 h fun x3 =>
  if kc h x3 = 36 then
  bd (f_X37_kindOf x3 a2 h) (fun x4 h5 =>
  if kc h5 x4 = 4 then
  bd (f_X3_isPlain x4 h5) (fun x6 h7 =>
  if x6 = 0 then
  (if (lg_cmp a3 (0 : Int64)) ≤ 0 then
  (rok (1 : Int32) h7)
  else
  (ldR 38 293 a0 h7 fun x8 =>
  if kc h7 x8 = 34 then
  bd (f_X35_isAlive x8 (Int64.toInt32 a3) h7) (fun x9 h10 =>
  if x9 = 0 then
  (rok (0 : Int32) h10)
  else
  (rok (1 : Int32) h10))
  else none))
  else
  (rok (1 : Int32) h7))
  else none)
  else none)
  else
  (bd (f_X39_isThere_l7 a0 a1 a2 a3 NN (0 : Int32) h) (fun x11 h12 => ldR 38 293 a0 h12 fun x13 =>
  ldR 34 247 x13 h12 fun x14 =>
  if kc h12 a0 = 38 then
  bd (f_X39_row a0 x11 (2 : Int32) h12) (fun x15 h16 =>
  if kc h16 x14 = 3 then
  bd (f_X2_get x14 (Int64.toInt32 x15) h16) (fun x17 h18 =>
  ldR 4 32 x17 h18 fun x19 =>
  eqS x19 907
  (ldR 4 34 x17 h18 fun x23 =>
  f_X39_isThere_b94  a0 a3 x23 h18)
  (ldR 4 44 x17 h18 fun x20 =>
  lsGet x20 a2 h18 fun x21 =>
  castR [31] x21 h18 (
  ldR 31 235 x21 h18 fun x22 =>
  f_X39_isThere_b94  a0 a3 x22 h18)))
  else none)
  else none))
noncomputable def f_X35_change_b125 (a0 : Nat) (a1 : Int32) (a2 : Nat) (h : HP) : Rs Nat :=
  ldI 36 280 a2 h fun x1 =>
  ldR 34 259 a0 h fun x2 =>
  ldI 35 264 x2 h fun x3 =>
  if x1 = x3 then
  (ldR 34 259 a0 h fun x4 =>
  ldR 35 266 x4 h fun x5 =>
  aldR 7 x5 a1 h fun x6 =>
  ldR 60 444 x6 h fun x7 =>
  rok x7 h)
  else
  (ldR 34 259 a0 h fun x8 =>
  ldR 35 268 x8 h fun x9 =>
  astI 2 x9 a1 (vp_nar .boolean (1 : Int32)) h fun h10 =>
  ldR 34 259 a0 h10 fun x11 =>
  ldR 35 266 x11 h10 fun x12 =>
  aldR 7 x12 a1 h10 fun x13 =>
  ldR 60 444 x13 h10 fun x14 =>
  rok x14 h10)
noncomputable def b_X35_change_l81 (v0 : Nat) (v1 : Int32) (v2 : Nat) (v3 : Nat) (v4 : Nat) (ih : Int32 → HP → Rs Unit) (a5 : Int32) (h : HP) : Rs Unit :=
  ldI 36 275 v2 h fun x1 =>
  if x1 ≤ a5 then
  (rok () h)
  else
  (aldJ 3 v3 a5 h fun x2 =>
  astJ 3 v4 a5 x2 h fun h3 =>
  lt3 (a5 + 1) fun x4 =>
  ih x4 h3)
noncomputable def f_X35_change_l81 (v0 : Nat) (v1 : Int32) (v2 : Nat) (v3 : Nat) (v4 : Nat) (n : Nat) : Int32 → HP → Rs Unit := @Nat.rec (fun _ => Int32 → HP → Rs Unit) (fun _ _ => none) (fun _ ih => b_X35_change_l81 v0 v1 v2 v3 v4 ih) n
noncomputable def f_X35_change (a0 : Nat) (a1 : Int32) (h : HP) : Rs Nat :=
  ldR 34 249 a0 h fun x1 =>
  aldR 8 x1 a1 h fun x2 =>
  ldR 34 259 a0 h fun x3 =>
  ldR 35 266 x3 h fun x4 =>
  aldR 7 x4 a1 h fun x5 =>
  if x5 = 0 then
  (ldI 34 252 a0 h fun x6 =>
  ldI 36 275 x2 h fun x7 =>
  if (x6 + x7) ≤ (60000 : Int32) then
  (ldI 34 252 a0 h fun x8 =>
  ldI 36 275 x2 h fun x9 =>
  stI 34 252 a0 (x8 + x9) h fun h10 =>
  ldR 34 259 a0 h10 fun x11 =>
  ldI 35 265 x11 h10 fun x12 =>
  if kc h10 a0 = 34 then
  bd (f_X35_valuesIn a0 x2 0 x12 h10) (fun x13 h14 =>
  ldI 36 275 x2 h14 fun x15 =>
  nwA 223 x15 h14 fun p16 h17 =>
  bd (f_X35_change_l81 a0 a1 x2 x13 p16 NN (0 : Int32) h17) (fun x18 h19 => ldR 34 259 a0 h19 fun x20 =>
  ldR 35 266 x20 h19 fun x21 =>
  nwO 60 3 h19 fun p22 h23 =>
  if kc h23 p22 = 60 then
  bd (f_X62_init p22 (0 : Int32) p16 0 h23) (fun _ h24 =>
  astO 7 60 x21 a1 p22 h24 fun h25 =>
  f_X35_change_b125  a0 a1 x2 h25)
  else none))
  else none)
  else
  (ldR 34 248 a0 h fun x26 =>
  if kc h x26 = 2 then
  bd (f_X1_with x26 (12 : Int32) h) (fun x27 h28 =>
  if kc h28 x27 = 69 then rex h28 else none)
  else none))
  else
  (f_X35_change_b125  a0 a1 x2 h)
noncomputable def f_X39_thing (a0 : Nat) (a1 : Int32) (h : HP) : Rs Int32 :=
  if 0 ≤ a1 then
  (rok a1 h)
  else
  (ldR 38 305 a0 h fun x1 =>
  aldI 0 x1 ((-a1) - (1 : Int32)) h fun x2 =>
  rok x2 h)
noncomputable def f_X39_set (a0 : Nat) (a1 : Int32) (h : HP) : Rs Unit :=
  if kc h a0 = 38 then
  bd (f_X39_row a0 a1 (1 : Int32) h) (fun x1 h2 =>
  if kc h2 a0 = 38 then
  bd (f_X39_thing a0 (Int64.toInt32 x1) h2) (fun x3 h4 =>
  if kc h4 a0 = 38 then
  bd (f_X39_row a0 a1 (2 : Int32) h4) (fun x5 h6 =>
  lt3 (Int64.toInt32 x5) fun x7 =>
  ldR 38 293 a0 h6 fun x8 =>
  ldR 34 249 x8 h6 fun x9 =>
  aldR 8 x9 x3 h6 fun x10 =>
  if kc h6 x10 = 36 then
  bd (f_X37_kindOf x10 x7 h6) (fun x11 h12 =>
  if kc h12 x11 = 4 then
  bd (f_X3_isPlain x11 h12) (fun x13 h14 =>
  ldR 38 293 a0 h14 fun x15 =>
  if kc h14 x15 = 34 then
  bd (f_X35_change x15 x3 h14) (fun x16 h17 =>
  if x13 = 0 then
  (if kc h17 a0 = 38 then
  bd (f_X39_row a0 a1 (4 : Int32) h17) (fun x18 h19 =>
  if kc h19 a0 = 38 then
  bd (f_X39_thing a0 (Int64.toInt32 x18) h19) (fun x20 h21 =>
  astJ 3 x16 x7 (Int32.toInt64 x20) h21 fun h22 =>
  rok () h22)
  else none)
  else none)
  else
  (if kc h17 a0 = 38 then
  bd (f_X39_row a0 a1 (4 : Int32) h17) (fun x23 h24 =>
  astJ 3 x16 x7 x23 h24 fun h25 =>
  rok () h25)
  else none))
  else none)
  else none)
  else none)
  else none)
  else none)
  else none
noncomputable def f_X39_apply_l6b139 (v0 : Nat) (ih : Int32 → Int32 → Int32 → HP → Rs (Unit ⊕ (Int32 × Int32))) (a1 : Int32) (a2 : Int32) (a3 : Int32) (h : HP) : Rs (Unit ⊕ (Int32 × Int32)) :=
  lt3 (a3 + 1) fun x1 =>
  ih a1 a2 x1 h
noncomputable def f_X39_apply_l6b119 (v0 : Nat) (ih : Int32 → Int32 → Int32 → HP → Rs (Unit ⊕ (Int32 × Int32))) (a1 : Int32) (a2 : Int32) (a3 : Int32) (a4 : Int32) (a5 : Int32) (h : HP) : Rs (Unit ⊕ (Int32 × Int32)) :=
  if kc h v0 = 38 then
  bd (f_X39_row v0 a3 (4 : Int32) h) (fun x1 h2 =>
  if kc h2 v0 = 38 then
  bd (f_X39_isThere v0 a4 a5 x1 h2) (fun x3 h4 =>
  if x3 = 0 then
  (rok (Sum.inl ()) h4)
  else
  (f_X39_apply_l6b139 v0 ih a1 a2 a3 h4))
  else none)
  else none
noncomputable def f_X39_apply_l6b92 (v0 : Nat) (ih : Int32 → Int32 → Int32 → HP → Rs (Unit ⊕ (Int32 × Int32))) (a1 : Int32) (a3 : Int32) (s0 : Int32) (s1 : Int32) (h : HP) : Rs (Unit ⊕ (Int32 × Int32)) :=
  lt3 (s0 + s1) fun x1 =>
  f_X39_apply_l6b139 v0 ih a1 x1 a3 h
noncomputable def b_X39_apply_l6 (v0 : Nat) (ih : Int32 → Int32 → Int32 → HP → Rs (Unit ⊕ (Int32 × Int32))) (a1 : Int32) (a2 : Int32) (a3 : Int32) (h : HP) : Rs (Unit ⊕ (Int32 × Int32)) :=
  ldI 38 303 v0 h fun x1 =>
  if x1 ≤ a3 then
  (rok (Sum.inr (a1, a2)) h)
  else
  (if kc h v0 = 38 then
  bd (f_X39_row v0 a3 (1 : Int32) h) (fun x2 h3 =>
  lt3 (Int64.toInt32 x2) fun x4 =>
  if kc h3 v0 = 38 then
  bd (f_X39_row v0 a3 (2 : Int32) h3) (fun x5 h6 =>
  lt3 (Int64.toInt32 x5) fun x7 =>
  if kc h6 v0 = 38 then
  bd (f_X39_row v0 a3 (0 : Int32) h6) (fun x8 h9 =>
  if (lg_cmp x8 (2 : Int64)) = 0 then
  (ldR 38 293 v0 h9 fun x14 =>
  ldR 34 247 x14 h9 fun x15 =>
  if kc h9 x15 = 3 then
  bd (f_X2_get x15 x7 h9) (fun x16 h17 =>
  lt3 (a1 + 1) fun x18 =>
  ldR 4 32 x16 h17 fun x19 =>
  eqS x19 907
  (if kc h17 v0 = 38 then
  bd (f_X39_row v0 a3 (3 : Int32) h17) (fun x22 h23 =>
  f_X39_apply_l6b92 v0 ih x18 a3 a2 (Int64.toInt32 x22) h23)
  else none)
  (ldR 4 44 x16 h17 fun x20 =>
  lsSize x20 h17 fun x21 =>
  f_X39_apply_l6b92 v0 ih x18 a3 a2 x21 h17))
  else none)
  else
  (if x4 ≤ 0 then
  (f_X39_apply_l6b119 v0 ih a1 a2 a3 x4 x7 h9)
  else
  (if kc h9 v0 = 38 then
  bd (f_X39_row v0 a3 (3 : Int32) h9) (fun x10 h11 =>
  if kc h11 v0 = 38 then
  bd (f_X39_holds v0 x4 x7 x10 h11) (fun x12 h13 =>
  if x12 = 0 then
  (rok (Sum.inl ()) h13)
  else
  (f_X39_apply_l6b119 v0 ih a1 a2 a3 x4 x7 h13))
  else none)
  else none)))
  else none)
  else none)
  else none)
noncomputable def f_X39_apply_l6 (v0 : Nat) (n : Nat) : Int32 → Int32 → Int32 → HP → Rs (Unit ⊕ (Int32 × Int32)) := @Nat.rec (fun _ => Int32 → Int32 → Int32 → HP → Rs (Unit ⊕ (Int32 × Int32))) (fun _ _ _ _ => none) (fun _ ih => b_X39_apply_l6 v0 ih) n
noncomputable def f_X39_apply_l181b293 (v0 : Nat) (ih : Int32 → HP → Rs Unit) (a3 : Int32) (h : HP) : Rs Unit :=
  lt3 (a3 + 1) fun x1 =>
  ih x1 h
noncomputable def f_X39_apply_l181b256 (v0 : Nat) (ih : Int32 → HP → Rs Unit) (a3 : Int32) (s0 : Nat) (s1 : Nat) (s2 : Int32) (h : HP) : Rs Unit :=
  if kc h s0 = 34 then
  bd (f_X35_make s0 s1 s2 h) (fun x1 h2 =>
  ldR 38 305 v0 h2 fun x3 =>
  ldI 38 306 v0 h2 fun x4 =>
  ldI 36 273 x1 h2 fun x5 =>
  astI 0 x3 x4 x5 h2 fun h6 =>
  ldI 38 306 v0 h6 fun x7 =>
  stI 38 306 v0 (x7 + (1 : Int32)) h6 fun h8 =>
  f_X39_apply_l181b293 v0 ih a3 h8)
  else none
noncomputable def b_X39_apply_l181 (v0 : Nat) (ih : Int32 → HP → Rs Unit) (a3 : Int32) (h : HP) : Rs Unit :=
  ldI 38 303 v0 h fun x1 =>
  if x1 ≤ a3 then
  (rok () h)
  else
  (if kc h v0 = 38 then
  bd (f_X39_row v0 a3 (0 : Int32) h) (fun x2 h3 =>
  if (lg_cmp x2 (2 : Int64)) = 0 then
  (ldR 38 293 v0 h3 fun x5 =>
  ldR 34 247 x5 h3 fun x6 =>
  if kc h3 v0 = 38 then
  bd (f_X39_row v0 a3 (2 : Int32) h3) (fun x7 h8 =>
  if kc h8 x6 = 3 then
  bd (f_X2_get x6 (Int64.toInt32 x7) h8) (fun x9 h10 =>
  ldR 38 293 v0 h10 fun x11 =>
  ldR 4 32 x9 h10 fun x12 =>
  eqS x12 907
  (if kc h10 v0 = 38 then
  bd (f_X39_row v0 a3 (3 : Int32) h10) (fun x15 h16 =>
  f_X39_apply_l181b256 v0 ih a3 x11 x9 (Int64.toInt32 x15) h16)
  else none)
  (ldR 4 44 x9 h10 fun x13 =>
  lsSize x13 h10 fun x14 =>
  f_X39_apply_l181b256 v0 ih a3 x11 x9 x14 h10))
  else none)
  else none)
  else
  (if kc h3 v0 = 38 then
  bd (f_X39_set v0 a3 h3) (fun _ h4 =>
  f_X39_apply_l181b293 v0 ih a3 h4)
  else none))
  else none)
noncomputable def f_X39_apply_l181 (v0 : Nat) (n : Nat) : Int32 → HP → Rs Unit := @Nat.rec (fun _ => Int32 → HP → Rs Unit) (fun _ _ => none) (fun _ ih => b_X39_apply_l181 v0 ih) n
noncomputable def f_X39_apply (a0 : Nat) (h : HP) : Rs Int32 :=
  bd (f_X39_apply_l6 a0 NN (0 : Int32) (0 : Int32) (0 : Int32) h) (Sum.elim (fun x1 => fun h2 => rok (15 : Int32) h2) (fun x3 => fun h4 => ldR 38 293 a0 h4 fun x5 =>
  if kc h4 x5 = 34 then
  bd (f_X35_hasRoom x5 x3.1 x3.2 h4) (fun x6 h7 =>
  if x6 = 0 then
  (rok (12 : Int32) h7)
  else
  (ldR 38 293 a0 h7 fun x8 =>
  if kc h7 a0 = 38 then
  bd (f_X39_copies a0 h7) (fun x9 h10 =>
  if kc h10 x8 = 34 then
  bd (f_X35_mayCopy x8 x9 h10) (fun x11 h12 =>
  if x11 = 0 then
  (rok (12 : Int32) h12)
  else
  (stI 38 306 a0 (0 : Int32) h12 fun h13 =>
  bd (f_X39_apply_l181 a0 NN (0 : Int32) h13) (fun x14 h15 => rok (0 : Int32) h15)))
  else none)
  else none))
  else none))
noncomputable def f_X0_apply (a0 : Nat) (h : HP) : Rs Int32 :=
  if kc h a0 = 1 then
  bd (f_X0_hasAct a0 h) (fun x1 h2 =>
  if x1 = 0 then
  (rok (-13 : Int32) h2)
  else
  (ldR 1 9 a0 h2 fun x3 =>
  if kc h2 x3 = 38 then
  bd (f_X39_apply x3 h2) (fun x4 h5 =>
  rok (-x4) h5)
  else none))
  else none
noncomputable def f_X34_isBits (a0 : Int32) (a1 : Int64) (h : HP) : Rs Int32 :=
  if a0 = 0 then
  (if (lg_cmp a1 (0 : Int64)) = 0 then
  (rok (1 : Int32) h)
  else
  (if (lg_cmp a1 (1 : Int64)) = 0 then
  (rok (1 : Int32) h)
  else
  (rok (0 : Int32) h)))
  else
  if a0 = 1 then
  (if (lg_cmp a1 (Int32.toInt64 (Int8.toInt32 (Int32.toInt8 (Int64.toInt32 a1))))) = 0 then
  (rok (1 : Int32) h)
  else
  (rok (0 : Int32) h))
  else
  if a0 = 2 then
  (if (lg_cmp a1 (Int32.toInt64 (Int16.toInt32 (Int32.toInt16 (Int64.toInt32 a1))))) = 0 then
  (rok (1 : Int32) h)
  else
  (rok (0 : Int32) h))
  else
  if a0 = 3 then
  (if (lg_cmp a1 (a1 &&& (65535 : Int64))) = 0 then
  (rok (1 : Int32) h)
  else
  (rok (0 : Int32) h))
  else
  if a0 = 4 then
  (if (lg_cmp a1 (Int32.toInt64 (Int64.toInt32 a1))) = 0 then
  (rok (1 : Int32) h)
  else
  (rok (0 : Int32) h))
  else
  if a0 = 5 then
  (rok (1 : Int32) h)
  else
  if a0 = 6 then
  (if (lg_cmp a1 (a1 &&& (4294967295 : Int64))) = 0 then
  (if 0 < (lg_cmp (a1 &&& (2147483647 : Int64)) (2139095040 : Int64)) then
  (rok (0 : Int32) h)
  else
  (rok (1 : Int32) h))
  else
  (rok (0 : Int32) h))
  else
  if a0 = 7 then
  (if 0 < (lg_cmp (a1 &&& (9223372036854775807 : Int64)) (9218868437227405312 : Int64)) then
  (rok (0 : Int32) h)
  else
  (rok (1 : Int32) h))
  else
  (rok (1 : Int32) h)
noncomputable def f_X0_argument_b45 (a0 : Nat) (a1 : Int32) (a2 : Int64) (h : HP) : Rs Int32 :=
  ldI 1 20 a0 h fun x1 =>
  if x1 = (40 : Int32) then
  (rok (-12 : Int32) h)
  else
  (ldR 1 18 a0 h fun x2 =>
  ldI 1 20 a0 h fun x3 =>
  astI 0 x2 x3 a1 h fun h4 =>
  ldR 1 19 a0 h4 fun x5 =>
  ldI 1 20 a0 h4 fun x6 =>
  astJ 3 x5 x6 a2 h4 fun h7 =>
  ldI 1 20 a0 h7 fun x8 =>
  stI 1 20 a0 (x8 + (1 : Int32)) h7 fun h9 =>
  ldI 1 20 a0 h9 fun x10 =>
  rok x10 h9)
noncomputable def f_X0_argument (a0 : Nat) (a1 : Int32) (a2 : Int64) (h : HP) : Rs Int32 :=
  if a1 < 0 then
  (rok (-1 : Int32) h)
  else
  (if a1 ≤ (8 : Int32) then
  (if a1 = (8 : Int32) then
  (if (lg_cmp a2 (0 : Int64)) < 0 then
  (rok (-1 : Int32) h)
  else
  (if (lg_cmp a2 (2147483647 : Int64)) ≤ 0 then
  (f_X0_argument_b45  a0 a1 a2 h)
  else
  (rok (-1 : Int32) h)))
  else
  (bd (f_X34_isBits a1 a2 h) (fun x1 h2 =>
  if x1 = 0 then
  (rok (-1 : Int32) h2)
  else
  (f_X0_argument_b45  a0 a1 a2 h2))))
  else
  (rok (-1 : Int32) h))
noncomputable def f_X3_init_b109 (a0 : Nat) (a1 : Int32) (a3 : Nat) (a4 : Nat) (s0 : Nat) (s1 : Int32) (h : HP) : Rs Unit :=
  stI 4 35 s0 s1 h fun h1 =>
  if a4 = 0 then
  (if (8 : Int32) ≤ a1 then
  (nwC 72 4 h1 fun p2 h3 =>
  sbInit p2 h3 fun h4 =>
  sbApS p2 29 h4 fun h5 =>
  sbApS p2 a3 h5 fun h6 =>
  sbApS p2 18 h6 fun h7 =>
  sbStr p2 h7 fun x8 h9 =>
  stR 4 36 a0 x8 h9 fun h10 =>
  rok () h10)
  else
  (txSub 32 a1 (a1 + (1 : Int32)) h1 fun x11 h12 =>
  stR 4 36 a0 x11 h12 fun h13 =>
  rok () h13))
  else
  (nwC 72 4 h1 fun p14 h15 =>
  sbInit p14 h15 fun h16 =>
  sbApS p14 33 h16 fun h17 =>
  ldR 4 36 a4 h17 fun x18 =>
  sbApS p14 x18 h17 fun h19 =>
  sbStr p14 h19 fun x20 h21 =>
  stR 4 36 a0 x20 h21 fun h22 =>
  rok () h22)
noncomputable def f_X3_init (a0 : Nat) (a1 : Int32) (a2 : Nat) (a3 : Nat) (a4 : Nat) (h : HP) : Rs Unit :=
  if a0 = 0 then none else (
  nwC 104 3 h fun p1 h2 =>
  lsInitN p1 (2 : Int32) h2 fun h3 =>
  stR 4 41 a0 p1 h3 fun h4 =>
  nwA 242 (0 : Int32) h4 fun p5 h6 =>
  stR 4 42 a0 p5 h6 fun h7 =>
  nwC 103 3 h7 fun p8 h9 =>
  lsInitN p8 (4 : Int32) h9 fun h10 =>
  stR 4 43 a0 p8 h10 fun h11 =>
  nwC 102 3 h11 fun p12 h13 =>
  lsInitN p12 (4 : Int32) h13 fun h14 =>
  stR 4 44 a0 p12 h14 fun h15 =>
  nwC 101 3 h15 fun p16 h17 =>
  lsInitN p16 (4 : Int32) h17 fun h18 =>
  stR 4 45 a0 p16 h18 fun h19 =>
  nwC 100 3 h19 fun p20 h21 =>
  lsInitN p20 (4 : Int32) h21 fun h22 =>
  stR 4 46 a0 p20 h22 fun h23 =>
  stI 4 31 a0 a1 h23 fun h24 =>
  stR 4 32 a0 a2 h24 fun h25 =>
  stR 4 33 a0 a3 h25 fun h26 =>
  stR 4 34 a0 a4 h26 fun h27 =>
  if a4 = 0 then
  (f_X3_init_b109  a0 a1 a3 a4 a0 (0 : Int32) h27)
  else
  (ldI 4 35 a4 h27 fun x28 =>
  f_X3_init_b109  a0 a1 a3 a4 a0 (x28 + (1 : Int32)) h27))
noncomputable def f_X2_arrayOf (a0 : Nat) (a1 : Nat) (h : HP) : Rs Nat :=
  ldR 4 37 a1 h fun x1 =>
  if x1 = 0 then
  (ldI 4 35 a1 h fun x2 =>
  if x2 = (8 : Int32) then
  (rok 0 h)
  else
  (ldR 3 30 a0 h fun x3 =>
  lsSize x3 h fun x4 =>
  if x4 = (400 : Int32) then
  (rok 0 h)
  else
  (nwO 4 18 h fun p5 h6 =>
  ldR 3 30 a0 h6 fun x7 =>
  lsSize x7 h6 fun x8 =>
  if kc h6 p5 = 4 then
  bd (f_X3_init p5 x8 907 1 a1 h6) (fun _ h9 =>
  stR 4 37 a1 p5 h9 fun h10 =>
  ldR 3 30 a0 h10 fun x11 =>
  ldR 4 37 a1 h10 fun x12 =>
  lsAdd x11 x12 h10 fun h13 =>
  ldR 4 37 a1 h13 fun x14 =>
  rok x14 h13)
  else none)))
  else
  (ldR 4 37 a1 h fun x15 =>
  rok x15 h)
noncomputable def f_X2_has (a0 : Nat) (a1 : Int32) (h : HP) : Rs Int32 :=
  if a1 < 0 then
  (rok (0 : Int32) h)
  else
  (ldR 3 30 a0 h fun x1 =>
  lsSize x1 h fun x2 =>
  if x2 ≤ a1 then
  (rok (0 : Int32) h)
  else
  (rok (1 : Int32) h))
noncomputable def f_X0_array (a0 : Nat) (a1 : Int32) (a2 : Int32) (h : HP) : Rs Int32 :=
  if kc h a0 = 1 then
  bd (f_X0_hasAct a0 h) (fun x1 h2 =>
  if x1 = 0 then
  (rok (-13 : Int32) h2)
  else
  (ldR 1 4 a0 h2 fun x3 =>
  if kc h2 x3 = 3 then
  bd (f_X2_has x3 a1 h2) (fun x4 h5 =>
  if x4 = 0 then
  (rok (-14 : Int32) h5)
  else
  (if 0 ≤ a2 then
  (if (400 : Int32) < a2 then
  (rok (-12 : Int32) h5)
  else
  (ldR 1 7 a0 h5 fun x6 =>
  if kc h5 x6 = 34 then
  bd (f_X35_hasRoom x6 (1 : Int32) a2 h5) (fun x7 h8 =>
  if x7 = 0 then
  (rok (-12 : Int32) h8)
  else
  (ldR 1 4 a0 h8 fun x9 =>
  ldR 1 4 a0 h8 fun x10 =>
  if kc h8 x10 = 3 then
  bd (f_X2_get x10 a1 h8) (fun x11 h12 =>
  if kc h12 x9 = 3 then
  bd (f_X2_arrayOf x9 x11 h12) (fun x13 h14 =>
  if x13 = 0 then
  (rok (-12 : Int32) h14)
  else
  (ldR 1 7 a0 h14 fun x15 =>
  if kc h14 x15 = 34 then
  bd (f_X35_make x15 x13 a2 h14) (fun x16 h17 =>
  ldI 36 273 x16 h17 fun x18 =>
  rok x18 h17)
  else none))
  else none)
  else none))
  else none))
  else
  (rok (-4 : Int32) h5)))
  else none))
  else none
noncomputable def f_X35_findText_l2b48 (v0 : Nat) (v1 : Nat) (ih : Int32 → HP → Rs (Nat ⊕ Unit)) (a2 : Int32) (h : HP) : Rs (Nat ⊕ Unit) :=
  lt3 (a2 + 1) fun x1 =>
  ih x1 h
noncomputable def b_X35_findText_l2 (v0 : Nat) (v1 : Nat) (ih : Int32 → HP → Rs (Nat ⊕ Unit)) (a2 : Int32) (h : HP) : Rs (Nat ⊕ Unit) :=
  ldI 34 250 v0 h fun x1 =>
  if x1 ≤ a2 then
  (rok (Sum.inr ()) h)
  else
  (ldR 34 249 v0 h fun x2 =>
  aldR 8 x2 a2 h fun x3 =>
  if x3 = 0 then
  (f_X35_findText_l2b48 v0 v1 ih a2 h)
  else
  (if kc h x3 = 36 then
  bd (f_X37_isText x3 h) (fun x4 h5 =>
  if x4 = 0 then
  (f_X35_findText_l2b48 v0 v1 ih a2 h5)
  else
  (ldI 36 279 x3 h5 fun x6 =>
  if x6 = 0 then
  (ldR 36 276 x3 h5 fun x7 =>
  txEq x7 v1 h5 fun x8 =>
  if x8 = 0 then
  (f_X35_findText_l2b48 v0 v1 ih a2 h5)
  else
  (rok (Sum.inl x3) h5))
  else
  (f_X35_findText_l2b48 v0 v1 ih a2 h5)))
  else none))
noncomputable def f_X35_findText_l2 (v0 : Nat) (v1 : Nat) (n : Nat) : Int32 → HP → Rs (Nat ⊕ Unit) := @Nat.rec (fun _ => Int32 → HP → Rs (Nat ⊕ Unit)) (fun _ _ => none) (fun _ ih => b_X35_findText_l2 v0 v1 ih) n
noncomputable def f_X35_findText (a0 : Nat) (a1 : Nat) (h : HP) : Rs Nat :=
  bd (f_X35_findText_l2 a0 a1 NN (1 : Int32) h) (Sum.elim (fun x1 => fun h2 => rok x1 h2) (fun x3 => fun h4 => rok 0 h4))
noncomputable def f_X35_hasText (a0 : Nat) (a1 : Nat) (h : HP) : Rs Int32 :=
  if kc h a0 = 34 then
  bd (f_X35_findText a0 a1 h) (fun x1 h2 =>
  if x1 = 0 then
  (rok (0 : Int32) h2)
  else
  (rok (1 : Int32) h2))
  else none
noncomputable def f_X35_text (a0 : Nat) (a1 : Nat) (h : HP) : Rs Nat :=
  if kc h a0 = 34 then
  bd (f_X35_findText a0 a1 h) (fun x1 h2 =>
  if x1 = 0 then
  (ldR 34 247 a0 h2 fun x3 =>
  if kc h2 x3 = 3 then
  bd (f_X2_get x3 (9 : Int32) h2) (fun x4 h5 =>
  txLen a1 h5 fun x6 =>
  if kc h5 a0 = 34 then
  bd (f_X35_add a0 x4 x6 a1 (0 : Int32) (0 : Int32) h5) (fun x7 h8 =>
  stI 36 281 x7 (-1 : Int32) h8 fun h9 =>
  rok x7 h9)
  else none)
  else none)
  else
  (rok x1 h2))
  else none
noncomputable def f_X0_makeTexts_l43b88 (v0 : Nat) (v1 : Nat) (v2 : Int32) (v3 : Int32) (ih : Int32 → Int32 → HP → Rs Int32) (a5 : Int32) (s0 : Int32) (h : HP) : Rs Int32 :=
  lt3 (a5 + 1) fun x1 =>
  ih s0 x1 h
noncomputable def f_X0_makeTexts_l43b87 (v0 : Nat) (v1 : Nat) (v2 : Int32) (v3 : Int32) (ih : Int32 → Int32 → HP → Rs Int32) (a5 : Int32) (h : HP) : Rs Int32 :=
  f_X0_makeTexts_l43b88 v0 v1 v2 v3 ih a5 (0 : Int32) h
noncomputable def b_X0_makeTexts_l43 (v0 : Nat) (v1 : Nat) (v2 : Int32) (v3 : Int32) (ih : Int32 → Int32 → HP → Rs Int32) (a4 : Int32) (a5 : Int32) (h : HP) : Rs Int32 :=
  if v3 ≤ a5 then
  (rok a4 h)
  else
  (if a4 = 0 then
  (f_X0_makeTexts_l43b87 v0 v1 v2 v3 ih a5 h)
  else
  (lsGet v1 a5 h fun x1 =>
  castR [18] x1 h (
  ldR 18 189 x1 h fun x2 =>
  lsGet v1 v3 h fun x3 =>
  castR [18] x3 h (
  ldR 18 189 x3 h fun x4 =>
  txEq x2 x4 h fun x5 =>
  if x5 = 0 then
  (f_X0_makeTexts_l43b88 v0 v1 v2 v3 ih a5 (1 : Int32) h)
  else
  (f_X0_makeTexts_l43b87 v0 v1 v2 v3 ih a5 h)))))
noncomputable def f_X0_makeTexts_l43 (v0 : Nat) (v1 : Nat) (v2 : Int32) (v3 : Int32) (n : Nat) : Int32 → Int32 → HP → Rs Int32 := @Nat.rec (fun _ => Int32 → Int32 → HP → Rs Int32) (fun _ _ _ => none) (fun _ ih => b_X0_makeTexts_l43 v0 v1 v2 v3 ih) n
noncomputable def f_X0_makeTexts_l4b104 (v0 : Nat) (v1 : Nat) (ih : Int32 → Int32 → HP → Rs Int32) (a2 : Int32) (a3 : Int32) (h : HP) : Rs Int32 :=
  lt3 (a3 + 1) fun x1 =>
  ih a2 x1 h
noncomputable def f_X0_makeTexts_l4b38 (v0 : Nat) (v1 : Nat) (ih : Int32 → Int32 → HP → Rs Int32) (a2 : Int32) (a3 : Int32) (s0 : Int32) (h : HP) : Rs Int32 :=
  bd (f_X0_makeTexts_l43 v0 v1 a2 a3 NN s0 (0 : Int32) h) (fun x1 h2 => if x1 = 0 then
  (f_X0_makeTexts_l4b104 v0 v1 ih a2 a3 h2)
  else
  (lt3 (a2 + 1) fun x3 =>
  f_X0_makeTexts_l4b104 v0 v1 ih x3 a3 h2))
noncomputable def b_X0_makeTexts_l4 (v0 : Nat) (v1 : Nat) (ih : Int32 → Int32 → HP → Rs Int32) (a2 : Int32) (a3 : Int32) (h : HP) : Rs Int32 :=
  lsSize v1 h fun x1 =>
  if x1 ≤ a3 then
  (rok a2 h)
  else
  (ldR 1 7 v0 h fun x2 =>
  lsGet v1 a3 h fun x3 =>
  castR [18] x3 h (
  ldR 18 189 x3 h fun x4 =>
  if kc h x2 = 34 then
  bd (f_X35_hasText x2 x4 h) (fun x5 h6 =>
  if x5 = 0 then
  (f_X0_makeTexts_l4b38 v0 v1 ih a2 a3 (1 : Int32) h6)
  else
  (f_X0_makeTexts_l4b38 v0 v1 ih a2 a3 (0 : Int32) h6))
  else none))
noncomputable def f_X0_makeTexts_l4 (v0 : Nat) (v1 : Nat) (n : Nat) : Int32 → Int32 → HP → Rs Int32 := @Nat.rec (fun _ => Int32 → Int32 → HP → Rs Int32) (fun _ _ _ => none) (fun _ ih => b_X0_makeTexts_l4 v0 v1 ih) n
noncomputable def b_X0_makeTexts_l126 (v0 : Nat) (v1 : Nat) (ih : Int32 → HP → Rs Unit) (a3 : Int32) (h : HP) : Rs Unit :=
  lsSize v1 h fun x1 =>
  if x1 ≤ a3 then
  (rok () h)
  else
  (lsGet v1 a3 h fun x2 =>
  castR [18] x2 h (
  ldR 1 7 v0 h fun x3 =>
  lsGet v1 a3 h fun x4 =>
  castR [18] x4 h (
  ldR 18 189 x4 h fun x5 =>
  if kc h x3 = 34 then
  bd (f_X35_text x3 x5 h) (fun x6 h7 =>
  ldI 36 273 x6 h7 fun x8 =>
  stI 18 190 x2 x8 h7 fun h9 =>
  lt3 (a3 + 1) fun x10 =>
  ih x10 h9)
  else none)))
noncomputable def f_X0_makeTexts_l126 (v0 : Nat) (v1 : Nat) (n : Nat) : Int32 → HP → Rs Unit := @Nat.rec (fun _ => Int32 → HP → Rs Unit) (fun _ _ => none) (fun _ ih => b_X0_makeTexts_l126 v0 v1 ih) n
noncomputable def f_X0_makeTexts (a0 : Nat) (a1 : Nat) (h : HP) : Rs Int32 :=
  bd (f_X0_makeTexts_l4 a0 a1 NN (0 : Int32) (0 : Int32) h) (fun x1 h2 => ldR 1 7 a0 h2 fun x3 =>
  if kc h2 x3 = 34 then
  bd (f_X35_hasRoom x3 x1 (0 : Int32) h2) (fun x4 h5 =>
  if x4 = 0 then
  (rok (0 : Int32) h5)
  else
  (bd (f_X0_makeTexts_l126 a0 a1 NN (0 : Int32) h5) (fun x6 h7 => rok (1 : Int32) h7)))
  else none)
noncomputable def f_X10_init (a0 : Nat) (a1 : Nat) (a2 : Nat) (a3 : Nat) (h : HP) : Rs Unit :=
  if a0 = 0 then none else (
  nwC 106 3 h fun p1 h2 =>
  lsInitN p1 (8 : Int32) h2 fun h3 =>
  stMR ksParser 158 a0 p1 h3 fun h4 =>
  nwC 105 3 h4 fun p5 h6 =>
  lsInitN p5 (4 : Int32) h6 fun h7 =>
  stMR ksParser 159 a0 p5 h7 fun h8 =>
  stMR ksParser 156 a0 a1 h8 fun h9 =>
  stMR ksParser 157 a0 a2 h9 fun h10 =>
  stMR ksParser 160 a0 a3 h10 fun h11 =>
  rok () h11)
noncomputable def f_X2_named_l2b66 (v0 : Nat) (v1 : Nat) (ih : Int32 → HP → Rs (Int32 ⊕ Unit)) (a2 : Int32) (h : HP) : Rs (Int32 ⊕ Unit) :=
  lt3 (a2 + 1) fun x1 =>
  ih x1 h
noncomputable def b_X2_named_l2 (v0 : Nat) (v1 : Nat) (ih : Int32 → HP → Rs (Int32 ⊕ Unit)) (a2 : Int32) (h : HP) : Rs (Int32 ⊕ Unit) :=
  ldR 3 30 v0 h fun x1 =>
  lsSize x1 h fun x2 =>
  if x2 ≤ a2 then
  (rok (Sum.inr ()) h)
  else
  (ldR 3 30 v0 h fun x3 =>
  lsGet x3 a2 h fun x4 =>
  castR [4] x4 h (
  ldR 4 32 x4 h fun x5 =>
  eqS x5 907
  (f_X2_named_l2b66 v0 v1 ih a2 h)
  (ldR 3 30 v0 h fun x6 =>
  lsGet x6 a2 h fun x7 =>
  castR [4] x7 h (
  ldR 4 33 x7 h fun x8 =>
  txEq x8 v1 h fun x9 =>
  if x9 = 0 then
  (f_X2_named_l2b66 v0 v1 ih a2 h)
  else
  (rok (Sum.inl a2) h)))))
noncomputable def f_X2_named_l2 (v0 : Nat) (v1 : Nat) (n : Nat) : Int32 → HP → Rs (Int32 ⊕ Unit) := @Nat.rec (fun _ => Int32 → HP → Rs (Int32 ⊕ Unit)) (fun _ _ => none) (fun _ ih => b_X2_named_l2 v0 v1 ih) n
noncomputable def f_X2_named (a0 : Nat) (a1 : Nat) (h : HP) : Rs Nat :=
  bd (f_X2_named_l2 a0 a1 NN (0 : Int32) h) (Sum.elim (fun x1 => fun h2 => ldR 3 30 a0 h2 fun x3 =>
  lsGet x3 x1 h2 fun x4 =>
  castR [4] x4 h2 (
  rok x4 h2)) (fun x5 => fun h6 => rok 0 h6))
noncomputable def f_X10_resolve_l40b73 (v0 : Nat) (v1 : Nat) (v2 : Int32) (v3 : Int32) (v4 : Nat) (ih : Nat → Int32 → HP → Rs Nat) (a6 : Int32) (s0 : Nat) (h : HP) : Rs Nat :=
  lt3 (a6 + 1) fun x1 =>
  ih s0 x1 h
noncomputable def b_X10_resolve_l40 (v0 : Nat) (v1 : Nat) (v2 : Int32) (v3 : Int32) (v4 : Nat) (ih : Nat → Int32 → HP → Rs Nat) (a5 : Nat) (a6 : Int32) (h : HP) : Rs Nat :=
  ldI 14 172 v4 h fun x1 =>
  if x1 ≤ a6 then
  (rok a5 h)
  else
  (if a5 = 0 then
  (rok a5 h)
  else
  (if v2 = 0 then
  (ldR 4 37 a5 h fun x2 =>
  f_X10_resolve_l40b73 v0 v1 v2 v3 v4 ih a6 x2 h)
  else
  (if kc h v1 = 3 then
  bd (f_X2_arrayOf v1 a5 h) (fun x3 h4 =>
  f_X10_resolve_l40b73 v0 v1 v2 v3 v4 ih a6 x3 h4)
  else none)))
noncomputable def f_X10_resolve_l40 (v0 : Nat) (v1 : Nat) (v2 : Int32) (v3 : Int32) (v4 : Nat) (n : Nat) : Nat → Int32 → HP → Rs Nat := @Nat.rec (fun _ => Nat → Int32 → HP → Rs Nat) (fun _ _ _ => none) (fun _ ih => b_X10_resolve_l40 v0 v1 v2 v3 v4 ih) n
noncomputable def f_X10_resolve_l2b81 (v0 : Nat) (v1 : Nat) (v2 : Int32) (ih : Int32 → HP → Rs Unit) (a3 : Int32) (a4 : Nat) (a5 : Nat) (h : HP) : Rs Unit :=
  stR 14 173 a4 a5 h fun h1 =>
  lt3 (a3 + 1) fun x2 =>
  ih x2 h1
noncomputable def b_X10_resolve_l2 (v0 : Nat) (v1 : Nat) (v2 : Int32) (ih : Int32 → HP → Rs Unit) (a3 : Int32) (h : HP) : Rs Unit :=
  ldMR ksParser 158 v0 h fun x1 =>
  lsSize x1 h fun x2 =>
  if x2 ≤ a3 then
  (rok () h)
  else
  (ldMR ksParser 158 v0 h fun x3 =>
  lsGet x3 a3 h fun x4 =>
  castR [14] x4 h (
  ldR 14 170 x4 h fun x5 =>
  if kc h v1 = 3 then
  bd (f_X2_named v1 x5 h) (fun x6 h7 =>
  bd (f_X10_resolve_l40 v0 v1 v2 a3 x4 NN x6 (0 : Int32) h7) (fun x8 h9 => f_X10_resolve_l2b81 v0 v1 v2 ih a3 x4 x8 h9))
  else none))
noncomputable def f_X10_resolve_l2 (v0 : Nat) (v1 : Nat) (v2 : Int32) (n : Nat) : Int32 → HP → Rs Unit := @Nat.rec (fun _ => Int32 → HP → Rs Unit) (fun _ _ => none) (fun _ ih => b_X10_resolve_l2 v0 v1 v2 ih) n
noncomputable def f_X10_resolve (a0 : Nat) (a1 : Nat) (a2 : Int32) (h : HP) : Rs Unit :=
  bd (f_X10_resolve_l2 a0 a1 a2 NN (0 : Int32) h) (fun x1 h2 => rok () h2)
noncomputable def f_X32_init (a0 : Nat) (a1 : Nat) (a2 : Nat) (a3 : Nat) (h : HP) : Rs Unit :=
  if a0 = 0 then none else (
  stR 32 237 a0 a1 h fun h1 =>
  stR 32 238 a0 a2 h1 fun h2 =>
  stR 32 239 a0 a3 h2 fun h3 =>
  rok () h3)
noncomputable def f_X38_begin (a0 : Nat) (a1 : Int32) (a2 : Int32) (h : HP) : Rs Unit :=
  stI 37 291 a0 a1 h fun h1 =>
  stI 37 290 a0 (0 : Int32) h1 fun h2 =>
  stI 37 289 a0 (0 : Int32) h2 fun h3 =>
  stI 37 287 a0 (0 : Int32) h3 fun h4 =>
  stI 37 288 a0 a2 h4 fun h5 =>
  stI 37 292 a0 (0 : Int32) h5 fun h6 =>
  rok () h6
noncomputable def f_X34_bits (a0 : Int32) (a1 : UInt64) (h : HP) : Rs Int64 :=
  if a0 = (6 : Int32) then
  (nF (FP.d2f a1) (
  nF (FP.d2f a1) (
  rok ((Int32.toInt64 (iOfF (FP.d2f a1))) &&& (4294967295 : Int64)) h)))
  else
  (nD a1 (
  rok (jOfD a1) h))
noncomputable def f_X34_cut (a0 : Int32) (a1 : Int64) (h : HP) : Rs Int64 :=
  if a0 = 1 then
  (rok (Int32.toInt64 (Int8.toInt32 (Int32.toInt8 (Int64.toInt32 a1)))) h)
  else
  if a0 = 2 then
  (rok (Int32.toInt64 (Int16.toInt32 (Int32.toInt16 (Int64.toInt32 a1)))) h)
  else
  if a0 = 3 then
  (rok (a1 &&& (65535 : Int64)) h)
  else
  if a0 = 4 then
  (rok (Int32.toInt64 (Int64.toInt32 a1)) h)
  else
  (rok a1 h)
noncomputable def f_X34_real (a0 : Int32) (a1 : Int64) (h : HP) : Rs UInt64 :=
  if a0 = (6 : Int32) then
  (nF (fOfI (Int64.toInt32 a1)) (
  nD (FP.f2d (fOfI (Int64.toInt32 a1))) (
  rok (FP.f2d (fOfI (Int64.toInt32 a1))) h)))
  else
  (if a0 = (7 : Int32) then
  (nD (dOfJ a1) (
  rok (dOfJ a1) h))
  else
  (rok (FP.l2d a1) h))
noncomputable def f_X34_convert_b42 (a0 : Int32) (a1 : Int32) (a2 : Int64) (h : HP) : Rs Int64 :=
  bd (f_X34_real a0 a2 h) (fun x1 h2 =>
  bd (f_X34_bits a1 x1 h2) (fun x3 h4 =>
  rok x3 h4))
noncomputable def f_X34_convert_b30 (a0 : Int32) (a1 : Int32) (a2 : Int64) (h : HP) : Rs Int64 :=
  if a1 = (6 : Int32) then
  (f_X34_convert_b42  a0 a1 a2 h)
  else
  (if a1 = (7 : Int32) then
  (f_X34_convert_b42  a0 a1 a2 h)
  else
  (if (6 : Int32) ≤ a0 then
  (bd (f_X34_real a0 a2 h) (fun x1 h2 =>
  if a1 = (5 : Int32) then
  (rok (FP.d2l x1) h2)
  else
  (bd (f_X34_cut a1 (Int32.toInt64 (FP.d2i x1)) h2) (fun x3 h4 =>
  rok x3 h4))))
  else
  (bd (f_X34_cut a1 a2 h) (fun x5 h6 =>
  rok x5 h6))))
noncomputable def f_X34_convert (a0 : Int32) (a1 : Int32) (a2 : Int64) (h : HP) : Rs Int64 :=
  if a0 = a1 then
  (rok a2 h)
  else
  (if a1 = (6 : Int32) then
  (if (6 : Int32) ≤ a0 then
  (f_X34_convert_b30  a0 a1 a2 h)
  else
  (nF (FP.l2f a2) (
  rok ((Int32.toInt64 (iOfF (FP.l2f a2))) &&& (4294967295 : Int64)) h)))
  else
  (f_X34_convert_b30  a0 a1 a2 h))
noncomputable def f_X15_as (a0 : Nat) (a1 : Nat) (a2 : Int64) (h : HP) : Rs Int64 :=
  ldMR ksNode 183 a0 h fun x1 =>
  if x1 = 0 then
  (rok a2 h)
  else
  (ldMR ksNode 183 a0 h fun x2 =>
  if kc h x2 = 4 then
  bd (f_X3_isPlain x2 h) (fun x3 h4 =>
  if x3 = 0 then
  (rok a2 h4)
  else
  (ldMR ksNode 183 a0 h4 fun x5 =>
  ldI 4 31 x5 h4 fun x6 =>
  ldI 4 31 a1 h4 fun x7 =>
  bd (f_X34_convert x6 x7 a2 h4) (fun x8 h9 =>
  rok x8 h9)))
  else none)
noncomputable def f_X17_work (a0 : Nat) (a1 : Nat) (h : HP) : Rs Int64 :=
  ldJ 17 188 a0 h fun x1 =>
  rok x1 h
noncomputable def f_X18_work (a0 : Nat) (a1 : Nat) (h : HP) : Rs Int64 :=
  ldI 18 190 a0 h fun x1 =>
  rok (Int32.toInt64 x1) h
noncomputable def f_X19_work (a0 : Nat) (a1 : Nat) (h : HP) : Rs Int64 :=
  ldI 37 292 a1 h fun x1 =>
  rok (Int32.toInt64 x1) h
noncomputable def f_X35_letterOf (a0 : Nat) (a1 : Int32) (a2 : Int32) (h : HP) : Rs Int32 :=
  ldR 34 249 a0 h fun x1 =>
  aldR 8 x1 a1 h fun x2 =>
  ldR 36 276 x2 h fun x3 =>
  txAt x3 a2 h fun x4 =>
  rok x4 h
noncomputable def f_X38_mustBe (a0 : Nat) (a1 : Int32) (h : HP) : Rs Unit :=
  if a1 = 0 then
  (ldR 37 285 a0 h fun x1 =>
  if kc h x1 = 2 then
  bd (f_X1_with x1 (3 : Int32) h) (fun x2 h3 =>
  if kc h3 x2 = 69 then rex h3 else none)
  else none)
  else
  (rok () h)
noncomputable def f_X38_step (a0 : Nat) (h : HP) : Rs Unit :=
  ldI 37 290 a0 h fun x1 =>
  ldI 37 291 a0 h fun x2 =>
  if x1 = x2 then
  (ldR 37 285 a0 h fun x5 =>
  if kc h x5 = 2 then
  bd (f_X1_with x5 (10 : Int32) h) (fun x6 h7 =>
  if kc h7 x6 = 69 then rex h7 else none)
  else none)
  else
  (ldI 37 290 a0 h fun x3 =>
  stI 37 290 a0 (x3 + (1 : Int32)) h fun h4 =>
  rok () h4)
noncomputable def f_X20_textOf (a0 : Nat) (a1 : Nat) (a2 : Int32) (a3 : Int64) (h : HP) : Rs Int64 :=
  if kc h a1 = 37 then
  bd (f_X38_step a1 h) (fun _ h1 =>
  if kc h1 a1 = 37 then
  bd (f_X38_mustBe a1 a2 h1) (fun _ h2 =>
  ldR 37 284 a1 h2 fun x3 =>
  if kc h2 x3 = 34 then
  bd (f_X35_sizeOf x3 a2 h2) (fun x4 h5 =>
  ldI 20 195 a0 h5 fun x6 =>
  if x6 = (1 : Int32) then
  (rok (Int32.toInt64 x4) h5)
  else
  (if (lg_cmp a3 (0 : Int64)) < 0 then
  (ldR 37 285 a1 h5 fun x7 =>
  if kc h5 x7 = 2 then
  bd (f_X1_with x7 (2 : Int32) h5) (fun x8 h9 =>
  if kc h9 x8 = 69 then rex h9 else none)
  else none)
  else
  (if (lg_cmp a3 (Int32.toInt64 x4)) < 0 then
  (ldR 37 284 a1 h5 fun x10 =>
  if kc h5 x10 = 34 then
  bd (f_X35_letterOf x10 a2 (Int64.toInt32 a3) h5) (fun x11 h12 =>
  rok (Int32.toInt64 x11) h12)
  else none)
  else
  (ldR 37 285 a1 h5 fun x13 =>
  if kc h5 x13 = 2 then
  bd (f_X1_with x13 (2 : Int32) h5) (fun x14 h15 =>
  if kc h15 x14 = 69 then rex h15 else none)
  else none))))
  else none)
  else none)
  else none
noncomputable def f_X38_value (a0 : Nat) (a1 : Int32) (h : HP) : Rs Int64 :=
  ldR 37 286 a0 h fun x1 =>
  ldI 37 287 a0 h fun x2 =>
  aldJ 3 x1 (x2 + a1) h fun x3 =>
  rok x3 h
noncomputable def f_X21_work (a0 : Nat) (a1 : Nat) (h : HP) : Rs Int64 :=
  ldR 21 198 a0 h fun x1 =>
  if x1 = 0 then
  (ldI 21 197 a0 h fun x9 =>
  if kc h a1 = 37 then
  bd (f_X38_value a1 x9 h) (fun x10 h11 =>
  rok x10 h11)
  else none)
  else
  (if kc h a1 = 37 then
  bd (f_X38_step a1 h) (fun _ h2 =>
  ldR 37 284 a1 h2 fun x3 =>
  ldI 37 292 a1 h2 fun x4 =>
  ldR 21 198 a0 h2 fun x5 =>
  ldI 31 236 x5 h2 fun x6 =>
  if kc h2 x3 = 34 then
  bd (f_X35_read x3 x4 x6 h2) (fun x7 h8 =>
  rok x7 h8)
  else none)
  else none)
noncomputable def f_X35_noteClass (a0 : Nat) (a1 : Nat) (h : HP) : Rs Unit :=
  ldR 34 259 a0 h fun x1 =>
  if x1 = 0 then
  (rok () h)
  else
  (ldR 34 259 a0 h fun x2 =>
  ldR 35 269 x2 h fun x3 =>
  ldI 4 31 a1 h fun x4 =>
  astI 2 x3 x4 (vp_nar .boolean (1 : Int32)) h fun h5 =>
  rok () h5)
noncomputable def f_X26_mustBe (a0 : Nat) (a1 : Nat) (a2 : Int32) (h : HP) : Rs Unit :=
  ldR 26 214 a0 h fun x1 =>
  if x1 = 0 then
  (if kc h a1 = 37 then
  bd (f_X38_mustBe a1 a2 h) (fun _ h5 =>
  rok () h5)
  else none)
  else
  (ldR 37 284 a1 h fun x2 =>
  ldR 26 214 a0 h fun x3 =>
  if kc h x2 = 34 then
  bd (f_X35_noteClass x2 x3 h) (fun _ h4 =>
  rok () h4)
  else none)
abbrev TY_S0 : Type := (Nat → Nat → HP → Rs Int32)
noncomputable def f_X3_isBelow_b14 (R : TY_S0) (a0 : Nat) (h : HP) : Rs Int32 :=
  if kc h a0 = 4 then
  bd (f_X3_isPlain a0 h) (fun x1 h2 =>
  if x1 = 0 then
  (rok (1 : Int32) h2)
  else
  (rok (0 : Int32) h2))
  else none
noncomputable def f_X3_isBelow_o (R : TY_S0) (a0 : Nat) (a1 : Nat) (h : HP) : Rs Int32 :=
  eqR h a0 a1
  (f_X3_isBelow_b14 R  a0 h)
  (ldI 4 31 a1 h fun x1 =>
  if x1 = (8 : Int32) then
  (f_X3_isBelow_b14 R  a0 h)
  else
  (ldR 4 32 a0 h fun x2 =>
  eqS x2 907
  (ldR 4 32 a1 h fun x9 =>
  eqS x9 907
  (ldR 4 34 a0 h fun x10 =>
  if kc h x10 = 4 then
  bd (f_X3_isPlain x10 h) (fun x11 h12 =>
  if x11 = 0 then
  (ldR 4 34 a1 h12 fun x13 =>
  if kc h12 x13 = 4 then
  bd (f_X3_isPlain x13 h12) (fun x14 h15 =>
  if x14 = 0 then
  (ldR 4 34 a0 h15 fun x16 =>
  ldR 4 34 a1 h15 fun x17 =>
  if kc h15 x16 = 4 then
  bd (R x16 x17 h15) (fun x18 h19 =>
  if x18 = 0 then
  (rok (0 : Int32) h19)
  else
  (rok (1 : Int32) h19))
  else none)
  else
  (rok (0 : Int32) h15))
  else none)
  else
  (rok (0 : Int32) h12))
  else none)
  (rok (0 : Int32) h))
  (ldI 4 31 a1 h fun x3 =>
  ldR 4 42 a0 h fun x4 =>
  alen x4 h fun x5 =>
  if x5 ≤ x3 then
  (rok (0 : Int32) h)
  else
  (ldR 4 42 a0 h fun x6 =>
  ldI 4 31 a1 h fun x7 =>
  aldI 2 x6 x7 h fun x8 =>
  if x8 = 0 then
  (rok (0 : Int32) h)
  else
  (rok (1 : Int32) h)))))
noncomputable def r_S0 (n : Nat) : TY_S0 := @Nat.rec (fun _ => TY_S0) (fun _ _ _ => none) (fun _ R => (f_X3_isBelow_o R)) n
noncomputable def f_X3_isBelow (n : Nat) : Nat → Nat → HP → Rs Int32 := (r_S0 n)
noncomputable def f_X35_nextAlive_l4b38 (v0 : Nat) (v1 : Nat) (ih : Int32 → HP → Rs (Int32 ⊕ Unit)) (a3 : Int32) (h : HP) : Rs (Int32 ⊕ Unit) :=
  lt3 (a3 + 1) fun x1 =>
  ih x1 h
noncomputable def b_X35_nextAlive_l4 (v0 : Nat) (v1 : Nat) (ih : Int32 → HP → Rs (Int32 ⊕ Unit)) (a3 : Int32) (h : HP) : Rs (Int32 ⊕ Unit) :=
  ldI 34 250 v0 h fun x1 =>
  if x1 ≤ a3 then
  (rok (Sum.inr ()) h)
  else
  (if kc h v0 = 34 then
  bd (f_X35_isAlive v0 a3 h) (fun x2 h3 =>
  if x2 = 0 then
  (f_X35_nextAlive_l4b38 v0 v1 ih a3 h3)
  else
  (ldR 34 249 v0 h3 fun x4 =>
  aldR 8 x4 a3 h3 fun x5 =>
  ldR 36 274 x5 h3 fun x6 =>
  if kc h3 x6 = 4 then
  bd (f_X3_isBelow 100 x6 v1 h3) (fun x7 h8 =>
  if x7 = 0 then
  (f_X35_nextAlive_l4b38 v0 v1 ih a3 h8)
  else
  (rok (Sum.inl a3) h8))
  else none))
  else none)
noncomputable def f_X35_nextAlive_l4 (v0 : Nat) (v1 : Nat) (n : Nat) : Int32 → HP → Rs (Int32 ⊕ Unit) := @Nat.rec (fun _ => Int32 → HP → Rs (Int32 ⊕ Unit)) (fun _ _ => none) (fun _ ih => b_X35_nextAlive_l4 v0 v1 ih) n
noncomputable def f_X35_nextAlive (a0 : Nat) (a1 : Nat) (a2 : Int32) (h : HP) : Rs Int32 :=
  lt3 (a2 + (1 : Int32)) fun x1 =>
  bd (f_X35_nextAlive_l4 a0 a1 NN x1 h) (Sum.elim (fun x2 => fun h3 => rok x2 h3) (fun x4 => fun h5 => rok (-1 : Int32) h5))
noncomputable def f_X26_next (a0 : Nat) (a1 : Nat) (a2 : Int32) (a3 : Int32) (h : HP) : Rs Int32 :=
  ldR 26 214 a0 h fun x1 =>
  if x1 = 0 then
  (ldR 37 284 a1 h fun x2 =>
  if kc h x2 = 34 then
  bd (f_X35_sizeOf x2 a2 h) (fun x3 h4 =>
  if x3 ≤ (a3 + (1 : Int32)) then
  (rok (-1 : Int32) h4)
  else
  (rok (a3 + (1 : Int32)) h4))
  else none)
  else
  (ldR 37 284 a1 h fun x5 =>
  ldR 26 214 a0 h fun x6 =>
  if kc h x5 = 34 then
  bd (f_X35_nextAlive x5 x6 (mxI a3 (0 : Int32)) h) (fun x7 h8 =>
  rok x7 h8)
  else none)
noncomputable def f_X26_value (a0 : Nat) (a1 : Nat) (a2 : Int32) (a3 : Int32) (h : HP) : Rs Int64 :=
  ldR 26 214 a0 h fun x1 =>
  if x1 = 0 then
  (ldR 37 284 a1 h fun x2 =>
  if kc h x2 = 34 then
  bd (f_X35_read x2 a2 a3 h) (fun x3 h4 =>
  rok x3 h4)
  else none)
  else
  (rok (Int32.toInt64 a3) h)
noncomputable def f_X28_side (a0 : Nat) (a1 : Nat) (a2 : Int64) (h : HP) : Rs Int64 :=
  ldI 28 220 a0 h fun x1 =>
  if 0 ≤ x1 then
  (ldMR ksNode 183 a1 h fun x2 =>
  ldI 4 31 x2 h fun x3 =>
  ldI 28 220 a0 h fun x4 =>
  bd (f_X34_convert x3 x4 a2 h) (fun x5 h6 =>
  rok x5 h6))
  else
  (rok a2 h)
noncomputable def f_X34_floating (a0 : Int32) (a1 : Int32) (a2 : UInt64) (a4 : UInt64) (h : HP) : Rs UInt64 :=
  if a1 = (6 : Int32) then
  (nF (FP.d2f a2) (
  lt3 (FP.d2f a2) fun x1 =>
  nF (FP.d2f a4) (
  lt3 (FP.d2f a4) fun x2 =>
  if a0 = 1 then
  (nF (FP.fadd x1 x2) (
  nD (FP.f2d (FP.fadd x1 x2)) (
  rok (FP.f2d (FP.fadd x1 x2)) h)))
  else
  if a0 = 2 then
  (nF (FP.fsub x1 x2) (
  nD (FP.f2d (FP.fsub x1 x2)) (
  rok (FP.f2d (FP.fsub x1 x2)) h)))
  else
  if a0 = 3 then
  (nF (FP.fmul x1 x2) (
  nD (FP.f2d (FP.fmul x1 x2)) (
  rok (FP.f2d (FP.fmul x1 x2)) h)))
  else
  if a0 = 4 then
  (nF (FP.fdiv x1 x2) (
  nD (FP.f2d (FP.fdiv x1 x2)) (
  rok (FP.f2d (FP.fdiv x1 x2)) h)))
  else
  (nF (FP.frem x1 x2) (
  nD (FP.f2d (FP.frem x1 x2)) (
  rok (FP.f2d (FP.frem x1 x2)) h))))))
  else
  (if a0 = 1 then
  (nD (FP.dadd a2 a4) (
  rok (FP.dadd a2 a4) h))
  else
  if a0 = 2 then
  (nD (FP.dsub a2 a4) (
  rok (FP.dsub a2 a4) h))
  else
  if a0 = 3 then
  (nD (FP.dmul a2 a4) (
  rok (FP.dmul a2 a4) h))
  else
  if a0 = 4 then
  (nD (FP.ddiv a2 a4) (
  rok (FP.ddiv a2 a4) h))
  else
  (nD (FP.drem a2 a4) (
  rok (FP.drem a2 a4) h)))
noncomputable def f_X34_isEndless (a0 : UInt64) (h : HP) : Rs Int32 :=
  if 0 < (Op.cmpValue (FP.dcmp a0 (9218868437227405311 : UInt64)) .l) then
  (rok (1 : Int32) h)
  else
  (if 0 ≤ (Op.cmpValue (FP.dcmp a0 (18442240474082181119 : UInt64)) .g) then
  (rok (0 : Int32) h)
  else
  (rok (1 : Int32) h))
noncomputable def f_X34_hasNone_b99 (a1 : UInt64) (a3 : UInt64) (h : HP) : Rs Int32 :=
  if (Op.cmpValue (FP.dcmp a1 FP.dconst0) .l) = 0 then
  (bd (f_X34_isEndless a3 h) (fun x1 h2 =>
  if x1 = 0 then
  (rok (0 : Int32) h2)
  else
  (rok (1 : Int32) h2)))
  else
  (rok (0 : Int32) h)
noncomputable def f_X34_hasNone_b19 (a0 : Int32) (a1 : UInt64) (a3 : UInt64) (s0 : Int32) (h : HP) : Rs Int32 :=
  if a0 = 1 then
  (if s0 = 0 then
  (rok (0 : Int32) h)
  else
  (if (Op.cmpValue (FP.dcmp a1 a3) .l) = 0 then
  (rok (0 : Int32) h)
  else
  (rok (1 : Int32) h)))
  else
  if a0 = 2 then
  (if s0 = 0 then
  (rok (0 : Int32) h)
  else
  (if (Op.cmpValue (FP.dcmp a1 a3) .l) = 0 then
  (rok (1 : Int32) h)
  else
  (rok (0 : Int32) h)))
  else
  if a0 = 3 then
  (bd (f_X34_isEndless a1 h) (fun x3 h4 =>
  if x3 = 0 then
  (f_X34_hasNone_b99  a1 a3 h4)
  else
  (if (Op.cmpValue (FP.dcmp a3 FP.dconst0) .l) = 0 then
  (rok (1 : Int32) h4)
  else
  (f_X34_hasNone_b99  a1 a3 h4))))
  else
  if a0 = 4 then
  (if s0 = 0 then
  (if (Op.cmpValue (FP.dcmp a1 FP.dconst0) .l) = 0 then
  (if (Op.cmpValue (FP.dcmp a3 FP.dconst0) .l) = 0 then
  (rok (1 : Int32) h)
  else
  (rok (0 : Int32) h))
  else
  (rok (0 : Int32) h))
  else
  (rok (1 : Int32) h))
  else
  (bd (f_X34_isEndless a1 h) (fun x1 h2 =>
  if x1 = 0 then
  (if (Op.cmpValue (FP.dcmp a3 FP.dconst0) .l) = 0 then
  (rok (1 : Int32) h2)
  else
  (rok (0 : Int32) h2))
  else
  (rok (1 : Int32) h2)))
noncomputable def f_X34_hasNone_b18 (a0 : Int32) (a1 : UInt64) (a3 : UInt64) (h : HP) : Rs Int32 :=
  f_X34_hasNone_b19  a0 a1 a3 (0 : Int32) h
noncomputable def f_X34_hasNone (a0 : Int32) (a1 : UInt64) (a3 : UInt64) (h : HP) : Rs Int32 :=
  bd (f_X34_isEndless a1 h) (fun x1 h2 =>
  if x1 = 0 then
  (f_X34_hasNone_b18  a0 a1 a3 h2)
  else
  (bd (f_X34_isEndless a3 h2) (fun x3 h4 =>
  if x3 = 0 then
  (f_X34_hasNone_b18  a0 a1 a3 h4)
  else
  (f_X34_hasNone_b19  a0 a1 a3 (1 : Int32) h4))))
noncomputable def f_X34_arithmetic_b74 (a0 : Int32) (a1 : Int32) (a2 : Int64) (a4 : Int64) (h : HP) : Rs Int64 :=
  if a0 = 1 then
  (bd (f_X34_cut a1 (a2 + a4) h) (fun x1 h2 =>
  rok x1 h2))
  else
  if a0 = 2 then
  (bd (f_X34_cut a1 (a2 - a4) h) (fun x3 h4 =>
  rok x3 h4))
  else
  if a0 = 3 then
  (bd (f_X34_cut a1 (a2 * a4) h) (fun x5 h6 =>
  rok x5 h6))
  else
  if a0 = 4 then
  (if (lg_cmp a4 (-1 : Int64)) = 0 then
  (bd (f_X34_cut a1 (-a2) h) (fun x7 h8 =>
  rok x7 h8))
  else
  (dvJ a4 (
  rok (a2 / a4) h)))
  else
  (if (lg_cmp a4 (-1 : Int64)) = 0 then
  (rok (0 : Int64) h)
  else
  (dvJ a4 (
  rok (a2 - a2 / a4 * a4) h)))
noncomputable def f_X34_arithmetic (a0 : Int32) (a1 : Int32) (a2 : Int64) (a4 : Int64) (a6 : Nat) (h : HP) : Rs Int64 :=
  if a1 < (6 : Int32) then
  (if a0 < (4 : Int32) then
  (f_X34_arithmetic_b74  a0 a1 a2 a4 h)
  else
  (if (lg_cmp a4 (0 : Int64)) = 0 then
  (if kc h a6 = 2 then
  bd (f_X1_with a6 (8 : Int32) h) (fun x1 h2 =>
  if kc h2 x1 = 69 then rex h2 else none)
  else none)
  else
  (f_X34_arithmetic_b74  a0 a1 a2 a4 h)))
  else
  (bd (f_X34_real a1 a2 h) (fun x3 h4 =>
  bd (f_X34_real a1 a4 h4) (fun x5 h6 =>
  bd (f_X34_hasNone a0 x3 x5 h6) (fun x7 h8 =>
  if x7 = 0 then
  (bd (f_X34_floating a0 a1 x3 x5 h8) (fun x9 h10 =>
  bd (f_X34_bits a1 x9 h10) (fun x11 h12 =>
  rok x11 h12)))
  else
  (if kc h8 a6 = 2 then
  bd (f_X1_with a6 (8 : Int32) h8) (fun x13 h14 =>
  if kc h14 x13 = 69 then rex h14 else none)
  else none)))))
noncomputable def f_X34_compare (a0 : Int32) (a1 : Int64) (a3 : Int64) (h : HP) : Rs Int32 :=
  if (6 : Int32) ≤ a0 then
  (bd (f_X34_real a0 a1 h) (fun x1 h2 =>
  bd (f_X34_real a0 a3 h2) (fun x3 h4 =>
  if 0 ≤ (Op.cmpValue (FP.dcmp x1 x3) .g) then
  (if (Op.cmpValue (FP.dcmp x1 x3) .l) ≤ 0 then
  (rok (0 : Int32) h4)
  else
  (rok (1 : Int32) h4))
  else
  (rok (-1 : Int32) h4))))
  else
  (rok (lg_cmp a1 a3) h)
noncomputable def f_X34_holds (a0 : Int32) (a1 : Int32) (h : HP) : Rs Int32 :=
  if a0 = 9 then
  (if 0 ≤ a1 then
  (rok (0 : Int32) h)
  else
  (rok (1 : Int32) h))
  else
  if a0 = 10 then
  (if a1 ≤ 0 then
  (rok (0 : Int32) h)
  else
  (rok (1 : Int32) h))
  else
  if a0 = 11 then
  (if 0 < a1 then
  (rok (0 : Int32) h)
  else
  (rok (1 : Int32) h))
  else
  if a0 = 12 then
  (if a1 < 0 then
  (rok (0 : Int32) h)
  else
  (rok (1 : Int32) h))
  else
  if a0 = 13 then
  (if a1 = 0 then
  (rok (1 : Int32) h)
  else
  (rok (0 : Int32) h))
  else
  (if a1 = 0 then
  (rok (0 : Int32) h)
  else
  (rok (1 : Int32) h))
noncomputable def f_X34_shift_b15 (a0 : Int32) (a1 : Int32) (a2 : Int64) (s0 : Int32) (s1 : Int32) (h : HP) : Rs Int64 :=
  lt3 (s0 &&& s1) fun x1 =>
  if a0 = (6 : Int32) then
  (bd (f_X34_cut a1 (a2 <<< (Int32.toInt64 x1 &&& 63)) h) (fun x2 h3 =>
  rok x2 h3))
  else
  (if a0 = (7 : Int32) then
  (rok (a2 >>> (Int32.toInt64 x1 &&& 63)) h)
  else
  (if a1 = (5 : Int32) then
  (rok (UInt64.toInt64 (Int64.toUInt64 a2 >>> (Int64.toUInt64 (Int32.toInt64 x1) &&& Int64.toUInt64 63))) h)
  else
  (rok (Int32.toInt64 (UInt32.toInt32 (Int32.toUInt32 (Int64.toInt32 a2) >>> (Int32.toUInt32 x1 &&& Int32.toUInt32 31)))) h)))
noncomputable def f_X34_shift (a0 : Int32) (a1 : Int32) (a2 : Int64) (a4 : Int64) (h : HP) : Rs Int64 :=
  if a1 = (5 : Int32) then
  (f_X34_shift_b15  a0 a1 a2 (Int64.toInt32 a4) (63 : Int32) h)
  else
  (f_X34_shift_b15  a0 a1 a2 (Int64.toInt32 a4) (31 : Int32) h)
noncomputable def f_X35_kindAt (a0 : Nat) (a1 : Int32) (h : HP) : Rs Nat :=
  ldR 34 249 a0 h fun x1 =>
  aldR 8 x1 a1 h fun x2 =>
  ldR 36 274 x2 h fun x3 =>
  rok x3 h
noncomputable def f_X38_set (a0 : Nat) (a1 : Int32) (a2 : Int64) (h : HP) : Rs Unit :=
  ldR 37 286 a0 h fun x1 =>
  ldI 37 287 a0 h fun x2 =>
  astJ 3 x1 (x2 + a1) a2 h fun h3 =>
  rok () h3
noncomputable def f_X35_placeOf (a0 : Nat) (a1 : Int32) (h : HP) : Rs Int32 :=
  ldR 34 249 a0 h fun x1 =>
  aldR 8 x1 a1 h fun x2 =>
  ldI 36 277 x2 h fun x3 =>
  rok x3 h
noncomputable def f_X38_put (a0 : Nat) (a1 : Int32) (a2 : Int64) (h : HP) : Rs Unit :=
  ldR 37 286 a0 h fun x1 =>
  astJ 3 x1 a1 a2 h fun h2 =>
  rok () h2
noncomputable def f_X38_release (a0 : Nat) (a1 : Int32) (h : HP) : Rs Unit :=
  ldI 37 288 a0 h fun x1 =>
  stI 37 288 a0 (x1 - a1) h fun h2 =>
  rok () h2
noncomputable def f_X38_reserve (a0 : Nat) (a1 : Int32) (h : HP) : Rs Int32 :=
  ldI 37 288 a0 h fun x1 =>
  stI 37 288 a0 (x1 + a1) h fun h2 =>
  ldI 37 288 a0 h2 fun x3 =>
  rok (x3 - a1) h2
noncomputable def f_X30_hasBody (a0 : Nat) (h : HP) : Rs Int32 :=
  ldI 30 228 a0 h fun x1 =>
  if x1 < 0 then
  (rok (0 : Int32) h)
  else
  (rok (1 : Int32) h)
noncomputable def b_X3_own_l2 (v0 : Nat) (v1 : Nat) (ih : Int32 → HP → Rs (Int32 ⊕ Unit)) (a2 : Int32) (h : HP) : Rs (Int32 ⊕ Unit) :=
  ldR 4 45 v0 h fun x1 =>
  lsSize x1 h fun x2 =>
  if x2 ≤ a2 then
  (rok (Sum.inr ()) h)
  else
  (ldR 4 45 v0 h fun x3 =>
  lsGet x3 a2 h fun x4 =>
  castR [30] x4 h (
  ldR 30 224 x4 h fun x5 =>
  txEq x5 v1 h fun x6 =>
  if x6 = 0 then
  (lt3 (a2 + 1) fun x7 =>
  ih x7 h)
  else
  (rok (Sum.inl a2) h)))
noncomputable def f_X3_own_l2 (v0 : Nat) (v1 : Nat) (n : Nat) : Int32 → HP → Rs (Int32 ⊕ Unit) := @Nat.rec (fun _ => Int32 → HP → Rs (Int32 ⊕ Unit)) (fun _ _ => none) (fun _ ih => b_X3_own_l2 v0 v1 ih) n
noncomputable def f_X3_own (a0 : Nat) (a1 : Nat) (h : HP) : Rs Nat :=
  bd (f_X3_own_l2 a0 a1 NN (0 : Int32) h) (Sum.elim (fun x1 => fun h2 => ldR 4 45 a0 h2 fun x3 =>
  lsGet x3 x1 h2 fun x4 =>
  castR [30] x4 h2 (
  rok x4 h2)) (fun x5 => fun h6 => rok 0 h6))
abbrev TY_S1 : Type := (Nat → Nat → HP → Rs Nat)
noncomputable def f_X3_inClasses_o (R : TY_S1) (a0 : Nat) (a1 : Nat) (h : HP) : Rs Nat :=
  if kc h a0 = 4 then
  bd (f_X3_own a0 a1 h) (fun x1 h2 =>
  if x1 = 0 then
  (ldR 4 40 a0 h2 fun x3 =>
  if x3 = 0 then
  (rok x1 h2)
  else
  (ldR 4 40 a0 h2 fun x4 =>
  if kc h2 x4 = 4 then
  bd (R x4 a1 h2) (fun x5 h6 =>
  rok x5 h6)
  else none))
  else
  (rok x1 h2))
  else none
noncomputable def r_S1 (n : Nat) : TY_S1 := @Nat.rec (fun _ => TY_S1) (fun _ _ _ => none) (fun _ R => (f_X3_inClasses_o R)) n
noncomputable def f_X3_inClasses (n : Nat) : Nat → Nat → HP → Rs Nat := (r_S1 n)
noncomputable def f_X3_isCovered_l2b64 (v0 : Nat) (v1 : Nat) (v2 : Nat) (ih : Int32 → HP → Rs (Unit ⊕ Unit)) (a3 : Int32) (h : HP) : Rs (Unit ⊕ Unit) :=
  lt3 (a3 + 1) fun x1 =>
  ih x1 h
noncomputable def b_X3_isCovered_l2 (v0 : Nat) (v1 : Nat) (v2 : Nat) (ih : Int32 → HP → Rs (Unit ⊕ Unit)) (a3 : Int32) (h : HP) : Rs (Unit ⊕ Unit) :=
  ldR 4 43 v0 h fun x1 =>
  lsSize x1 h fun x2 =>
  if x2 ≤ a3 then
  (rok (Sum.inr ()) h)
  else
  (ldR 4 43 v0 h fun x3 =>
  lsGet x3 a3 h fun x4 =>
  castR [4] x4 h (
  if kc h x4 = 4 then
  bd (f_X3_own x4 v1 h) (fun x5 h6 =>
  if x5 = 0 then
  (f_X3_isCovered_l2b64 v0 v1 v2 ih a3 h6)
  else
  (if kc h6 x5 = 30 then
  bd (f_X30_hasBody x5 h6) (fun x7 h8 =>
  if x7 = 0 then
  (f_X3_isCovered_l2b64 v0 v1 v2 ih a3 h8)
  else
  (eqR h8 x4 v2
  (f_X3_isCovered_l2b64 v0 v1 v2 ih a3 h8)
  (if kc h8 x4 = 4 then
  bd (f_X3_isBelow 100 x4 v2 h8) (fun x9 h10 =>
  if x9 = 0 then
  (f_X3_isCovered_l2b64 v0 v1 v2 ih a3 h10)
  else
  (rok (Sum.inl ()) h10))
  else none)))
  else none))
  else none))
noncomputable def f_X3_isCovered_l2 (v0 : Nat) (v1 : Nat) (v2 : Nat) (n : Nat) : Int32 → HP → Rs (Unit ⊕ Unit) := @Nat.rec (fun _ => Int32 → HP → Rs (Unit ⊕ Unit)) (fun _ _ => none) (fun _ ih => b_X3_isCovered_l2 v0 v1 v2 ih) n
noncomputable def f_X3_isCovered (a0 : Nat) (a1 : Nat) (a2 : Nat) (h : HP) : Rs Int32 :=
  bd (f_X3_isCovered_l2 a0 a1 a2 NN (0 : Int32) h) (Sum.elim (fun x1 => fun h2 => rok (1 : Int32) h2) (fun x3 => fun h4 => rok (0 : Int32) h4))
noncomputable def f_X3_taken_l28b103 (v0 : Nat) (v1 : Nat) (ih : Nat → Int32 → HP → Rs (Unit ⊕ Nat)) (a3 : Nat) (a4 : Int32) (h : HP) : Rs (Unit ⊕ Nat) :=
  lt3 (a4 + 1) fun x1 =>
  ih a3 x1 h
noncomputable def b_X3_taken_l28 (v0 : Nat) (v1 : Nat) (ih : Nat → Int32 → HP → Rs (Unit ⊕ Nat)) (a3 : Nat) (a4 : Int32) (h : HP) : Rs (Unit ⊕ Nat) :=
  ldR 4 43 v0 h fun x1 =>
  lsSize x1 h fun x2 =>
  if x2 ≤ a4 then
  (rok (Sum.inr a3) h)
  else
  (ldR 4 43 v0 h fun x3 =>
  lsGet x3 a4 h fun x4 =>
  castR [4] x4 h (
  if kc h x4 = 4 then
  bd (f_X3_own x4 v1 h) (fun x5 h6 =>
  if x5 = 0 then
  (f_X3_taken_l28b103 v0 v1 ih a3 a4 h6)
  else
  (if kc h6 x5 = 30 then
  bd (f_X30_hasBody x5 h6) (fun x7 h8 =>
  if x7 = 0 then
  (f_X3_taken_l28b103 v0 v1 ih a3 a4 h8)
  else
  (ldR 4 43 v0 h8 fun x9 =>
  lsGet x9 a4 h8 fun x10 =>
  castR [4] x10 h8 (
  if kc h8 v0 = 4 then
  bd (f_X3_isCovered v0 v1 x10 h8) (fun x11 h12 =>
  if x11 = 0 then
  (if a3 = 0 then
  (f_X3_taken_l28b103 v0 v1 ih x5 a4 h12)
  else
  (rok (Sum.inl ()) h12))
  else
  (f_X3_taken_l28b103 v0 v1 ih a3 a4 h12))
  else none)))
  else none))
  else none))
noncomputable def f_X3_taken_l28 (v0 : Nat) (v1 : Nat) (n : Nat) : Nat → Int32 → HP → Rs (Unit ⊕ Nat) := @Nat.rec (fun _ => Nat → Int32 → HP → Rs (Unit ⊕ Nat)) (fun _ _ _ => none) (fun _ ih => b_X3_taken_l28 v0 v1 ih) n
noncomputable def f_X3_taken (a0 : Nat) (a1 : Nat) (h : HP) : Rs Nat :=
  if kc h a0 = 4 then
  bd (f_X3_inClasses 100 a0 a1 h) (fun x1 h2 =>
  if x1 = 0 then
  (bd (f_X3_taken_l28 a0 a1 NN 0 (0 : Int32) h2) (Sum.elim (fun x3 => fun h4 => rok 0 h4) (fun x5 => fun h6 => rok x5 h6)))
  else
  (if kc h2 x1 = 30 then
  bd (f_X30_hasBody x1 h2) (fun x7 h8 =>
  if x7 = 0 then
  (rok 0 h8)
  else
  (rok x1 h8))
  else none))
  else none
noncomputable def f_X3_isFloating (a0 : Nat) (h : HP) : Rs Int32 :=
  ldI 4 31 a0 h fun x1 =>
  if x1 = (6 : Int32) then
  (rok (1 : Int32) h)
  else
  (ldI 4 31 a0 h fun x2 =>
  if x2 = (7 : Int32) then
  (rok (1 : Int32) h)
  else
  (rok (0 : Int32) h))
abbrev TY_S2 : Type := (Nat → Nat → HP → Rs Int64) × (Nat → Nat → HP → Rs Int64) × (Nat → Nat → HP → Rs Int64) × (Nat → Nat → HP → Rs Int64) × (Nat → Nat → HP → Rs Int64) × (Nat → Nat → HP → Rs Int64) × (Nat → Nat → HP → Rs Int64) × (Nat → Nat → HP → Rs Int64) × (Nat → Nat → HP → Rs Int64) × (Nat → Int32 → Nat → Int32 → HP → Rs Int64)
noncomputable def f_X16_work_o (R : TY_S2) (a0 : Nat) (a1 : Nat) (h : HP) : Rs Int64 :=
  ldR 16 186 a0 h fun x1 =>
  ldR 16 183 a0 h fun x2 =>
  ldR 16 186 a0 h fun x3 =>
  bd (dsp (kc h x3) [(16, R.1 x3 a1), (17, f_X17_work x3 a1), (18, f_X18_work x3 a1), (19, f_X19_work x3 a1), (20, R.2.1 x3 a1), (21, f_X21_work x3 a1), (22, R.2.2.1 x3 a1), (23, R.2.2.2.1 x3 a1), (24, R.2.2.2.2.1 x3 a1), (25, R.2.2.2.2.2.1 x3 a1), (27, R.2.2.2.2.2.2.1 x3 a1), (28, R.2.2.2.2.2.2.2.1 x3 a1), (29, R.2.2.2.2.2.2.2.2.1 x3 a1)] h) (fun x4 h5 =>
  if kc h5 x1 ∈ [16, 17, 18, 19, 20, 21, 22, 23, 24, 25, 27, 28, 29] then
  bd (f_X15_as x1 x2 x4 h5) (fun x6 h7 =>
  if kc h7 a1 = 37 then
  bd (f_X38_step a1 h7) (fun _ h8 =>
  ldI 16 185 a0 h8 fun x9 =>
  if x9 = (33 : Int32) then
  (rok ((1 : Int64) - x6) h8)
  else
  (ldI 16 185 a0 h8 fun x10 =>
  if x10 = (126 : Int32) then
  (rok (x6 ^^^ (-1 : Int64)) h8)
  else
  (ldR 16 183 a0 h8 fun x11 =>
  if kc h8 x11 = 4 then
  bd (f_X3_isFloating x11 h8) (fun x12 h13 =>
  if x12 = 0 then
  (ldR 16 183 a0 h13 fun x14 =>
  ldI 4 31 x14 h13 fun x15 =>
  if x15 = (4 : Int32) then
  (rok (Int32.toInt64 (Int64.toInt32 (-x6))) h13)
  else
  (rok (-x6) h13))
  else
  (ldR 16 183 a0 h13 fun x16 =>
  ldI 4 31 x16 h13 fun x17 =>
  ldR 16 183 a0 h13 fun x18 =>
  ldI 4 31 x18 h13 fun x19 =>
  bd (f_X34_real x19 x6 h13) (fun x20 h21 =>
  bd (f_X34_bits x17 (FP.dneg x20) h21) (fun x22 h23 =>
  rok x22 h23))))
  else none)))
  else none)
  else none)
noncomputable def b_X20_work_l85 (R : TY_S2) (v0 : Nat) (v1 : Nat) (v2 : Int32) (v3 : Int32) (v4 : Int32) (ih : Int32 → HP → Rs Unit) (a5 : Int32) (h : HP) : Rs Unit :=
  if v3 ≤ a5 then
  (rok () h)
  else
  (ldR 20 193 v0 h fun x1 =>
  lsGet x1 a5 h fun x2 =>
  castR [16, 17, 18, 19, 20, 21, 22, 23, 24, 25, 27, 28, 29] x2 h (
  bd (dsp (kc h x2) [(16, R.1 x2 v1), (17, f_X17_work x2 v1), (18, f_X18_work x2 v1), (19, f_X19_work x2 v1), (20, R.2.1 x2 v1), (21, f_X21_work x2 v1), (22, R.2.2.1 x2 v1), (23, R.2.2.2.1 x2 v1), (24, R.2.2.2.2.1 x2 v1), (25, R.2.2.2.2.2.1 x2 v1), (27, R.2.2.2.2.2.2.1 x2 v1), (28, R.2.2.2.2.2.2.2.1 x2 v1), (29, R.2.2.2.2.2.2.2.2.1 x2 v1)] h) (fun x3 h4 =>
  ldR 20 194 v0 h4 fun x5 =>
  ldR 30 230 x5 h4 fun x6 =>
  lsGet x6 a5 h4 fun x7 =>
  castR [4] x7 h4 (
  if kc h4 x2 ∈ [16, 17, 18, 19, 20, 21, 22, 23, 24, 25, 27, 28, 29] then
  bd (f_X15_as x2 x7 x3 h4) (fun x8 h9 =>
  if kc h9 v1 = 37 then
  bd (f_X38_put v1 (v4 + a5) x8 h9) (fun _ h10 =>
  lt3 (a5 + 1) fun x11 =>
  ih x11 h10)
  else none)
  else none))))
noncomputable def f_X20_work_l85 (R : TY_S2) (v0 : Nat) (v1 : Nat) (v2 : Int32) (v3 : Int32) (v4 : Int32) (n : Nat) : Int32 → HP → Rs Unit := @Nat.rec (fun _ => Int32 → HP → Rs Unit) (fun _ _ => none) (fun _ ih => b_X20_work_l85 R v0 v1 v2 v3 v4 ih) n
noncomputable def f_X20_work_b58 (R : TY_S2) (a0 : Nat) (a1 : Nat) (a2 : Int32) (s0 : Int64) (h : HP) : Rs Int64 :=
  if kc h a0 = 20 then
  bd (f_X20_textOf a0 a1 a2 s0 h) (fun x1 h2 =>
  rok x1 h2)
  else none
noncomputable def f_X20_work_b23 (R : TY_S2) (a0 : Nat) (a1 : Nat) (s0 : Int32) (h : HP) : Rs Int64 :=
  ldI 20 195 a0 h fun x1 =>
  if x1 ≤ 0 then
  (ldR 20 193 a0 h fun x2 =>
  lsSize x2 h fun x3 =>
  if kc h a1 = 37 then
  bd (f_X38_reserve a1 x3 h) (fun x4 h5 =>
  bd (f_X20_work_l85 R a0 a1 s0 x3 x4 NN (0 : Int32) h5) (fun x6 h7 => if kc h7 a1 = 37 then
  bd (f_X38_step a1 h7) (fun _ h8 =>
  if kc h8 a1 = 37 then
  bd (f_X38_mustBe a1 s0 h8) (fun _ h9 =>
  ldR 37 284 a1 h9 fun x10 =>
  if kc h9 x10 = 34 then
  bd (f_X35_kindAt x10 s0 h9) (fun x11 h12 =>
  ldR 20 192 a0 h12 fun x13 =>
  if kc h12 x11 = 4 then
  bd (f_X3_taken x11 x13 h12) (fun x14 h15 =>
  if kc h15 a1 = 37 then
  bd (R.2.2.2.2.2.2.2.2.2 a1 s0 x14 x4 h15) (fun x16 h17 =>
  if kc h17 a1 = 37 then
  bd (f_X38_release a1 x3 h17) (fun _ h18 =>
  rok x16 h18)
  else none)
  else none)
  else none)
  else none)
  else none)
  else none))
  else none)
  else
  (ldI 20 195 a0 h fun x19 =>
  if x19 = (1 : Int32) then
  (f_X20_work_b58 R  a0 a1 s0 (0 : Int64) h)
  else
  (ldR 20 193 a0 h fun x20 =>
  lsGet x20 (0 : Int32) h fun x21 =>
  castR [16, 17, 18, 19, 20, 21, 22, 23, 24, 25, 27, 28, 29] x21 h (
  bd (dsp (kc h x21) [(16, R.1 x21 a1), (17, f_X17_work x21 a1), (18, f_X18_work x21 a1), (19, f_X19_work x21 a1), (20, R.2.1 x21 a1), (21, f_X21_work x21 a1), (22, R.2.2.1 x21 a1), (23, R.2.2.2.1 x21 a1), (24, R.2.2.2.2.1 x21 a1), (25, R.2.2.2.2.2.1 x21 a1), (27, R.2.2.2.2.2.2.1 x21 a1), (28, R.2.2.2.2.2.2.2.1 x21 a1), (29, R.2.2.2.2.2.2.2.2.1 x21 a1)] h) (fun x22 h23 =>
  f_X20_work_b58 R  a0 a1 s0 x22 h23))))
noncomputable def f_X20_work_o (R : TY_S2) (a0 : Nat) (a1 : Nat) (h : HP) : Rs Int64 :=
  ldR 20 191 a0 h fun x1 =>
  if x1 = 0 then
  (ldI 37 292 a1 h fun x5 =>
  f_X20_work_b23 R  a0 a1 x5 h)
  else
  (ldR 20 191 a0 h fun x2 =>
  bd (dsp (kc h x2) [(16, R.1 x2 a1), (17, f_X17_work x2 a1), (18, f_X18_work x2 a1), (19, f_X19_work x2 a1), (20, R.2.1 x2 a1), (21, f_X21_work x2 a1), (22, R.2.2.1 x2 a1), (23, R.2.2.2.1 x2 a1), (24, R.2.2.2.2.1 x2 a1), (25, R.2.2.2.2.2.1 x2 a1), (27, R.2.2.2.2.2.2.1 x2 a1), (28, R.2.2.2.2.2.2.2.1 x2 a1), (29, R.2.2.2.2.2.2.2.2.1 x2 a1)] h) (fun x3 h4 =>
  f_X20_work_b23 R  a0 a1 (Int64.toInt32 x3) h4))
noncomputable def f_X22_work_o (R : TY_S2) (a0 : Nat) (a1 : Nat) (h : HP) : Rs Int64 :=
  ldR 22 199 a0 h fun x1 =>
  bd (dsp (kc h x1) [(16, R.1 x1 a1), (17, f_X17_work x1 a1), (18, f_X18_work x1 a1), (19, f_X19_work x1 a1), (20, R.2.1 x1 a1), (21, f_X21_work x1 a1), (22, R.2.2.1 x1 a1), (23, R.2.2.2.1 x1 a1), (24, R.2.2.2.2.1 x1 a1), (25, R.2.2.2.2.2.1 x1 a1), (27, R.2.2.2.2.2.2.1 x1 a1), (28, R.2.2.2.2.2.2.2.1 x1 a1), (29, R.2.2.2.2.2.2.2.2.1 x1 a1)] h) (fun x2 h3 =>
  lt3 (Int64.toInt32 x2) fun x4 =>
  ldR 22 200 a0 h3 fun x5 =>
  bd (dsp (kc h3 x5) [(16, R.1 x5 a1), (17, f_X17_work x5 a1), (18, f_X18_work x5 a1), (19, f_X19_work x5 a1), (20, R.2.1 x5 a1), (21, f_X21_work x5 a1), (22, R.2.2.1 x5 a1), (23, R.2.2.2.1 x5 a1), (24, R.2.2.2.2.1 x5 a1), (25, R.2.2.2.2.2.1 x5 a1), (27, R.2.2.2.2.2.2.1 x5 a1), (28, R.2.2.2.2.2.2.2.1 x5 a1), (29, R.2.2.2.2.2.2.2.2.1 x5 a1)] h3) (fun x6 h7 =>
  if kc h7 a1 = 37 then
  bd (f_X38_step a1 h7) (fun _ h8 =>
  if kc h8 a1 = 37 then
  bd (f_X38_mustBe a1 x4 h8) (fun _ h9 =>
  if (lg_cmp x6 (0 : Int64)) < 0 then
  (ldR 37 285 a1 h9 fun x10 =>
  if kc h9 x10 = 2 then
  bd (f_X1_with x10 (2 : Int32) h9) (fun x11 h12 =>
  if kc h12 x11 = 69 then rex h12 else none)
  else none)
  else
  (ldR 37 284 a1 h9 fun x13 =>
  if kc h9 x13 = 34 then
  bd (f_X35_sizeOf x13 x4 h9) (fun x14 h15 =>
  if (lg_cmp x6 (Int32.toInt64 x14)) < 0 then
  (ldR 37 284 a1 h15 fun x16 =>
  if kc h15 x16 = 34 then
  bd (f_X35_read x16 x4 (Int64.toInt32 x6) h15) (fun x17 h18 =>
  rok x17 h18)
  else none)
  else
  (ldR 37 285 a1 h15 fun x19 =>
  if kc h15 x19 = 2 then
  bd (f_X1_with x19 (2 : Int32) h15) (fun x20 h21 =>
  if kc h21 x20 = 69 then rex h21 else none)
  else none))
  else none))
  else none)
  else none))
noncomputable def f_X23_work_o (R : TY_S2) (a0 : Nat) (a1 : Nat) (h : HP) : Rs Int64 :=
  ldI 23 203 a0 h fun x1 =>
  if x1 = (3 : Int32) then
  (ldJ 23 205 a0 h fun x21 =>
  rok x21 h)
  else
  (ldR 23 201 a0 h fun x2 =>
  bd (dsp (kc h x2) [(16, R.1 x2 a1), (17, f_X17_work x2 a1), (18, f_X18_work x2 a1), (19, f_X19_work x2 a1), (20, R.2.1 x2 a1), (21, f_X21_work x2 a1), (22, R.2.2.1 x2 a1), (23, R.2.2.2.1 x2 a1), (24, R.2.2.2.2.1 x2 a1), (25, R.2.2.2.2.2.1 x2 a1), (27, R.2.2.2.2.2.2.1 x2 a1), (28, R.2.2.2.2.2.2.2.1 x2 a1), (29, R.2.2.2.2.2.2.2.2.1 x2 a1)] h) (fun x3 h4 =>
  lt3 (Int64.toInt32 x3) fun x5 =>
  if kc h4 a1 = 37 then
  bd (f_X38_step a1 h4) (fun _ h6 =>
  if kc h6 a1 = 37 then
  bd (f_X38_mustBe a1 x5 h6) (fun _ h7 =>
  ldI 23 203 a0 h7 fun x8 =>
  if x8 = 0 then
  (ldR 37 284 a1 h7 fun x16 =>
  ldR 23 204 a0 h7 fun x17 =>
  ldI 31 236 x17 h7 fun x18 =>
  if kc h7 x16 = 34 then
  bd (f_X35_read x16 x5 x18 h7) (fun x19 h20 =>
  rok x19 h20)
  else none)
  else
  (ldI 23 203 a0 h7 fun x9 =>
  if x9 = (1 : Int32) then
  (ldR 37 284 a1 h7 fun x13 =>
  if kc h7 x13 = 34 then
  bd (f_X35_sizeOf x13 x5 h7) (fun x14 h15 =>
  rok (Int32.toInt64 x14) h15)
  else none)
  else
  (ldR 37 284 a1 h7 fun x10 =>
  if kc h7 x10 = 34 then
  bd (f_X35_placeOf x10 x5 h7) (fun x11 h12 =>
  rok (Int32.toInt64 x11) h12)
  else none)))
  else none)
  else none))
noncomputable def f_X24_work_o (R : TY_S2) (a0 : Nat) (a1 : Nat) (h : HP) : Rs Int64 :=
  ldR 24 207 a0 h fun x1 =>
  bd (dsp (kc h x1) [(16, R.1 x1 a1), (17, f_X17_work x1 a1), (18, f_X18_work x1 a1), (19, f_X19_work x1 a1), (20, R.2.1 x1 a1), (21, f_X21_work x1 a1), (22, R.2.2.1 x1 a1), (23, R.2.2.2.1 x1 a1), (24, R.2.2.2.2.1 x1 a1), (25, R.2.2.2.2.2.1 x1 a1), (27, R.2.2.2.2.2.2.1 x1 a1), (28, R.2.2.2.2.2.2.2.1 x1 a1), (29, R.2.2.2.2.2.2.2.2.1 x1 a1)] h) (fun x2 h3 =>
  if kc h3 a1 = 37 then
  bd (f_X38_step a1 h3) (fun _ h4 =>
  ldR 24 183 a0 h4 fun x5 =>
  if kc h4 x5 = 4 then
  bd (f_X3_isPlain x5 h4) (fun x6 h7 =>
  if x6 = 0 then
  (if (lg_cmp x2 (0 : Int64)) = 0 then
  (rok x2 h7)
  else
  (ldR 37 284 a1 h7 fun x8 =>
  if kc h7 x8 = 34 then
  bd (f_X35_kindAt x8 (Int64.toInt32 x2) h7) (fun x9 h10 =>
  ldR 24 183 a0 h10 fun x11 =>
  if kc h10 x9 = 4 then
  bd (f_X3_isBelow 100 x9 x11 h10) (fun x12 h13 =>
  if x12 = 0 then
  (ldR 37 285 a1 h13 fun x14 =>
  if kc h13 x14 = 2 then
  bd (f_X1_with x14 (7 : Int32) h13) (fun x15 h16 =>
  if kc h16 x15 = 69 then rex h16 else none)
  else none)
  else
  (rok x2 h13))
  else none)
  else none))
  else
  (ldR 24 207 a0 h7 fun x17 =>
  ldMR ksNode 183 x17 h7 fun x18 =>
  ldI 4 31 x18 h7 fun x19 =>
  ldR 24 183 a0 h7 fun x20 =>
  ldI 4 31 x20 h7 fun x21 =>
  bd (f_X34_convert x19 x21 x2 h7) (fun x22 h23 =>
  rok x22 h23)))
  else none)
  else none)
noncomputable def f_X25_work_l69b215 (R : TY_S2) (v0 : Nat) (v1 : Nat) (v2 : Int32) (ih : Int64 → Int32 → Int32 → HP → Rs Int64) (a3 : Int64) (a5 : Int32) (a6 : Int32) (h : HP) : Rs Int64 :=
  ldR 25 210 v0 h fun x1 =>
  if kc h x1 = 26 then
  bd (f_X26_next x1 v1 v2 a6 h) (fun x2 h3 =>
  ih a3 a5 x2 h3)
  else none
noncomputable def f_X25_work_l69b155 (R : TY_S2) (v0 : Nat) (v1 : Nat) (v2 : Int32) (ih : Int64 → Int32 → Int32 → HP → Rs Int64) (a3 : Int64) (a6 : Int32) (s0 : Int32) (h : HP) : Rs Int64 :=
  f_X25_work_l69b215 R v0 v1 v2 ih a3 s0 a6 h
noncomputable def f_X25_work_l69b145 (R : TY_S2) (v0 : Nat) (v1 : Nat) (v2 : Int32) (ih : Int64 → Int32 → Int32 → HP → Rs Int64) (a3 : Int64) (a6 : Int32) (s0 : Int64) (s1 : Int32) (h : HP) : Rs Int64 :=
  if (lg_cmp s0 (Int32.toInt64 s1)) = 0 then
  (f_X25_work_l69b155 R v0 v1 v2 ih a3 a6 (1 : Int32) h)
  else
  (f_X25_work_l69b155 R v0 v1 v2 ih a3 a6 (0 : Int32) h)
noncomputable def f_X25_work_l69b127 (R : TY_S2) (v0 : Nat) (v1 : Nat) (v2 : Int32) (ih : Int64 → Int32 → Int32 → HP → Rs Int64) (a6 : Int32) (a7 : Int64) (h : HP) : Rs Int64 :=
  ldI 25 208 v0 h fun x1 =>
  if x1 = (1 : Int32) then
  (f_X25_work_l69b145 R v0 v1 v2 ih a7 a6 a7 (1 : Int32) h)
  else
  (f_X25_work_l69b145 R v0 v1 v2 ih a7 a6 a7 (0 : Int32) h)
noncomputable def b_X25_work_l69 (R : TY_S2) (v0 : Nat) (v1 : Nat) (v2 : Int32) (ih : Int64 → Int32 → Int32 → HP → Rs Int64) (a3 : Int64) (a5 : Int32) (a6 : Int32) (h : HP) : Rs Int64 :=
  if a6 < 0 then
  (rok a3 h)
  else
  (if a5 = 0 then
  (rok a3 h)
  else
  (if kc h v1 = 37 then
  bd (f_X38_step v1 h) (fun _ h1 =>
  ldI 25 212 v0 h1 fun x2 =>
  ldR 25 210 v0 h1 fun x3 =>
  if kc h1 x3 = 26 then
  bd (f_X26_value x3 v1 v2 a6 h1) (fun x4 h5 =>
  if kc h5 v1 = 37 then
  bd (f_X38_set v1 x2 x4 h5) (fun _ h6 =>
  ldR 25 211 v0 h6 fun x7 =>
  bd (dsp (kc h6 x7) [(16, R.1 x7 v1), (17, f_X17_work x7 v1), (18, f_X18_work x7 v1), (19, f_X19_work x7 v1), (20, R.2.1 x7 v1), (21, f_X21_work x7 v1), (22, R.2.2.1 x7 v1), (23, R.2.2.2.1 x7 v1), (24, R.2.2.2.2.1 x7 v1), (25, R.2.2.2.2.2.1 x7 v1), (27, R.2.2.2.2.2.2.1 x7 v1), (28, R.2.2.2.2.2.2.2.1 x7 v1), (29, R.2.2.2.2.2.2.2.2.1 x7 v1)] h6) (fun x8 h9 =>
  ldI 25 208 v0 h9 fun x10 =>
  if x10 = 0 then
  (f_X25_work_l69b127 R v0 v1 v2 ih a6 x8 h9)
  else
  (ldI 25 208 v0 h9 fun x11 =>
  if x11 = (1 : Int32) then
  (f_X25_work_l69b127 R v0 v1 v2 ih a6 x8 h9)
  else
  (ldI 25 208 v0 h9 fun x12 =>
  if x12 = (2 : Int32) then
  (lt3 (a3 + x8) fun x25 =>
  f_X25_work_l69b215 R v0 v1 v2 ih x25 a5 a6 h9)
  else
  (ldR 25 183 v0 h9 fun x13 =>
  ldI 4 31 x13 h9 fun x14 =>
  ldR 25 211 v0 h9 fun x15 =>
  ldMR ksNode 183 x15 h9 fun x16 =>
  ldI 4 31 x16 h9 fun x17 =>
  ldR 25 183 v0 h9 fun x18 =>
  ldI 4 31 x18 h9 fun x19 =>
  bd (f_X34_convert x17 x19 x8 h9) (fun x20 h21 =>
  ldR 37 285 v1 h21 fun x22 =>
  bd (f_X34_arithmetic (1 : Int32) x14 a3 x20 x22 h21) (fun x23 h24 =>
  f_X25_work_l69b215 R v0 v1 v2 ih x23 a5 a6 h24)))))))
  else none)
  else none)
  else none))
noncomputable def f_X25_work_l69 (R : TY_S2) (v0 : Nat) (v1 : Nat) (v2 : Int32) (n : Nat) : Int64 → Int32 → Int32 → HP → Rs Int64 := @Nat.rec (fun _ => Int64 → Int32 → Int32 → HP → Rs Int64) (fun _ _ _ _ => none) (fun _ ih => b_X25_work_l69 R v0 v1 v2 ih) n
noncomputable def f_X25_work_b53 (R : TY_S2) (a0 : Nat) (a1 : Nat) (a2 : Int32) (s0 : Int64) (h : HP) : Rs Int64 :=
  ldR 25 210 a0 h fun x1 =>
  if kc h x1 = 26 then
  bd (f_X26_next x1 a1 a2 (-1 : Int32) h) (fun x2 h3 =>
  bd (f_X25_work_l69 R a0 a1 a2 NN s0 (1 : Int32) x2 h3) (fun x4 h5 => rok x4 h5))
  else none
noncomputable def f_X25_work_b26 (R : TY_S2) (a0 : Nat) (a1 : Nat) (s0 : Int32) (h : HP) : Rs Int64 :=
  if kc h a1 = 37 then
  bd (f_X38_step a1 h) (fun _ h1 =>
  ldR 25 210 a0 h1 fun x2 =>
  if kc h1 x2 = 26 then
  bd (f_X26_mustBe x2 a1 s0 h1) (fun _ h3 =>
  ldI 25 208 a0 h3 fun x4 =>
  if x4 = (1 : Int32) then
  (f_X25_work_b53 R  a0 a1 s0 (1 : Int64) h3)
  else
  (f_X25_work_b53 R  a0 a1 s0 (0 : Int64) h3))
  else none)
  else none
noncomputable def f_X25_work_o (R : TY_S2) (a0 : Nat) (a1 : Nat) (h : HP) : Rs Int64 :=
  ldR 25 210 a0 h fun x1 =>
  ldR 26 214 x1 h fun x2 =>
  if x2 = 0 then
  (ldR 25 210 a0 h fun x3 =>
  ldR 26 213 x3 h fun x4 =>
  bd (dsp (kc h x4) [(16, R.1 x4 a1), (17, f_X17_work x4 a1), (18, f_X18_work x4 a1), (19, f_X19_work x4 a1), (20, R.2.1 x4 a1), (21, f_X21_work x4 a1), (22, R.2.2.1 x4 a1), (23, R.2.2.2.1 x4 a1), (24, R.2.2.2.2.1 x4 a1), (25, R.2.2.2.2.2.1 x4 a1), (27, R.2.2.2.2.2.2.1 x4 a1), (28, R.2.2.2.2.2.2.2.1 x4 a1), (29, R.2.2.2.2.2.2.2.2.1 x4 a1)] h) (fun x5 h6 =>
  f_X25_work_b26 R  a0 a1 (Int64.toInt32 x5) h6))
  else
  (f_X25_work_b26 R  a0 a1 (0 : Int32) h)
noncomputable def f_X27_work_o (R : TY_S2) (a0 : Nat) (a1 : Nat) (h : HP) : Rs Int64 :=
  ldR 27 215 a0 h fun x1 =>
  bd (dsp (kc h x1) [(16, R.1 x1 a1), (17, f_X17_work x1 a1), (18, f_X18_work x1 a1), (19, f_X19_work x1 a1), (20, R.2.1 x1 a1), (21, f_X21_work x1 a1), (22, R.2.2.1 x1 a1), (23, R.2.2.2.1 x1 a1), (24, R.2.2.2.2.1 x1 a1), (25, R.2.2.2.2.2.1 x1 a1), (27, R.2.2.2.2.2.2.1 x1 a1), (28, R.2.2.2.2.2.2.2.1 x1 a1), (29, R.2.2.2.2.2.2.2.2.1 x1 a1)] h) (fun x2 h3 =>
  lt3 (Int64.toInt32 x2) fun x4 =>
  if kc h3 a1 = 37 then
  bd (f_X38_step a1 h3) (fun _ h5 =>
  if x4 = 0 then
  (rok (0 : Int64) h5)
  else
  (ldR 37 284 a1 h5 fun x6 =>
  if kc h5 x6 = 34 then
  bd (f_X35_kindAt x6 x4 h5) (fun x7 h8 =>
  ldR 27 216 a0 h8 fun x9 =>
  ldR 14 173 x9 h8 fun x10 =>
  if kc h8 x7 = 4 then
  bd (f_X3_isBelow 100 x7 x10 h8) (fun x11 h12 =>
  if x11 = 0 then
  (rok (0 : Int64) h12)
  else
  (rok (1 : Int64) h12))
  else none)
  else none))
  else none)
noncomputable def f_X28_work_b46 (R : TY_S2) (a0 : Nat) (a1 : Nat) (a2 : Int64) (s0 : Int64) (s1 : Int32) (h : HP) : Rs Int64 :=
  if (lg_cmp s0 (Int32.toInt64 s1)) = 0 then
  (rok a2 h)
  else
  (ldR 28 219 a0 h fun x1 =>
  bd (dsp (kc h x1) [(16, R.1 x1 a1), (17, f_X17_work x1 a1), (18, f_X18_work x1 a1), (19, f_X19_work x1 a1), (20, R.2.1 x1 a1), (21, f_X21_work x1 a1), (22, R.2.2.1 x1 a1), (23, R.2.2.2.1 x1 a1), (24, R.2.2.2.2.1 x1 a1), (25, R.2.2.2.2.2.1 x1 a1), (27, R.2.2.2.2.2.2.1 x1 a1), (28, R.2.2.2.2.2.2.2.1 x1 a1), (29, R.2.2.2.2.2.2.2.2.1 x1 a1)] h) (fun x2 h3 =>
  rok x2 h3))
noncomputable def f_X28_work_b18 (R : TY_S2) (a0 : Nat) (a1 : Nat) (h : HP) : Rs Int64 :=
  ldR 28 218 a0 h fun x1 =>
  bd (dsp (kc h x1) [(16, R.1 x1 a1), (17, f_X17_work x1 a1), (18, f_X18_work x1 a1), (19, f_X19_work x1 a1), (20, R.2.1 x1 a1), (21, f_X21_work x1 a1), (22, R.2.2.1 x1 a1), (23, R.2.2.2.1 x1 a1), (24, R.2.2.2.2.1 x1 a1), (25, R.2.2.2.2.2.1 x1 a1), (27, R.2.2.2.2.2.2.1 x1 a1), (28, R.2.2.2.2.2.2.2.1 x1 a1), (29, R.2.2.2.2.2.2.2.2.1 x1 a1)] h) (fun x2 h3 =>
  if kc h3 a1 = 37 then
  bd (f_X38_step a1 h3) (fun _ h4 =>
  ldI 28 217 a0 h4 fun x5 =>
  if x5 = (18 : Int32) then
  (f_X28_work_b46 R  a0 a1 x2 x2 (0 : Int32) h4)
  else
  (f_X28_work_b46 R  a0 a1 x2 x2 (1 : Int32) h4))
  else none)
noncomputable def f_X28_work_b266 (R : TY_S2) (s0 : Int32) (s1 : Int32) (h : HP) : Rs Int64 :=
  bd (f_X34_holds s0 s1 h) (fun x1 h2 =>
  if x1 = 0 then
  (rok (0 : Int64) h2)
  else
  (rok (1 : Int64) h2))
noncomputable def f_X28_work_b128 (R : TY_S2) (a0 : Nat) (a1 : Nat) (h : HP) : Rs Int64 :=
  ldR 28 218 a0 h fun x1 =>
  ldR 28 218 a0 h fun x2 =>
  bd (dsp (kc h x2) [(16, R.1 x2 a1), (17, f_X17_work x2 a1), (18, f_X18_work x2 a1), (19, f_X19_work x2 a1), (20, R.2.1 x2 a1), (21, f_X21_work x2 a1), (22, R.2.2.1 x2 a1), (23, R.2.2.2.1 x2 a1), (24, R.2.2.2.2.1 x2 a1), (25, R.2.2.2.2.2.1 x2 a1), (27, R.2.2.2.2.2.2.1 x2 a1), (28, R.2.2.2.2.2.2.2.1 x2 a1), (29, R.2.2.2.2.2.2.2.2.1 x2 a1)] h) (fun x3 h4 =>
  if kc h4 a0 = 28 then
  bd (f_X28_side a0 x1 x3 h4) (fun x5 h6 =>
  ldR 28 219 a0 h6 fun x7 =>
  ldR 28 219 a0 h6 fun x8 =>
  bd (dsp (kc h6 x8) [(16, R.1 x8 a1), (17, f_X17_work x8 a1), (18, f_X18_work x8 a1), (19, f_X19_work x8 a1), (20, R.2.1 x8 a1), (21, f_X21_work x8 a1), (22, R.2.2.1 x8 a1), (23, R.2.2.2.1 x8 a1), (24, R.2.2.2.2.1 x8 a1), (25, R.2.2.2.2.2.1 x8 a1), (27, R.2.2.2.2.2.2.1 x8 a1), (28, R.2.2.2.2.2.2.2.1 x8 a1), (29, R.2.2.2.2.2.2.2.2.1 x8 a1)] h6) (fun x9 h10 =>
  if kc h10 a0 = 28 then
  bd (f_X28_side a0 x7 x9 h10) (fun x11 h12 =>
  if kc h12 a1 = 37 then
  bd (f_X38_step a1 h12) (fun _ h13 =>
  ldI 28 217 a0 h13 fun x14 =>
  if (5 : Int32) < x14 then
  (ldI 28 217 a0 h13 fun x15 =>
  if x15 = (15 : Int32) then
  (rok (x5 &&& x11) h13)
  else
  (ldI 28 217 a0 h13 fun x16 =>
  if x16 = (17 : Int32) then
  (rok (x5 ||| x11) h13)
  else
  (ldI 28 217 a0 h13 fun x17 =>
  if x17 = (16 : Int32) then
  (rok (x5 ^^^ x11) h13)
  else
  (ldI 28 217 a0 h13 fun x18 =>
  ldI 28 220 a0 h13 fun x19 =>
  if 0 ≤ x19 then
  (ldI 28 220 a0 h13 fun x20 =>
  bd (f_X34_compare x20 x5 x11 h13) (fun x21 h22 =>
  f_X28_work_b266 R  x18 x21 h22))
  else
  (f_X28_work_b266 R  x18 (lg_cmp x5 x11) h13)))))
  else
  (ldI 28 217 a0 h13 fun x23 =>
  ldI 28 220 a0 h13 fun x24 =>
  ldR 37 285 a1 h13 fun x25 =>
  bd (f_X34_arithmetic x23 x24 x5 x11 x25 h13) (fun x26 h27 =>
  rok x26 h27)))
  else none)
  else none))
  else none)
noncomputable def f_X28_work_o (R : TY_S2) (a0 : Nat) (a1 : Nat) (h : HP) : Rs Int64 :=
  ldI 28 217 a0 h fun x1 =>
  if x1 = (18 : Int32) then
  (f_X28_work_b18 R  a0 a1 h)
  else
  (ldI 28 217 a0 h fun x2 =>
  if x2 = (19 : Int32) then
  (f_X28_work_b18 R  a0 a1 h)
  else
  (ldI 28 217 a0 h fun x3 =>
  if x3 < (6 : Int32) then
  (f_X28_work_b128 R  a0 a1 h)
  else
  (ldI 28 217 a0 h fun x4 =>
  if (8 : Int32) < x4 then
  (f_X28_work_b128 R  a0 a1 h)
  else
  (ldR 28 218 a0 h fun x5 =>
  ldR 28 218 a0 h fun x6 =>
  bd (dsp (kc h x6) [(16, R.1 x6 a1), (17, f_X17_work x6 a1), (18, f_X18_work x6 a1), (19, f_X19_work x6 a1), (20, R.2.1 x6 a1), (21, f_X21_work x6 a1), (22, R.2.2.1 x6 a1), (23, R.2.2.2.1 x6 a1), (24, R.2.2.2.2.1 x6 a1), (25, R.2.2.2.2.2.1 x6 a1), (27, R.2.2.2.2.2.2.1 x6 a1), (28, R.2.2.2.2.2.2.2.1 x6 a1), (29, R.2.2.2.2.2.2.2.2.1 x6 a1)] h) (fun x7 h8 =>
  if kc h8 a0 = 28 then
  bd (f_X28_side a0 x5 x7 h8) (fun x9 h10 =>
  ldR 28 219 a0 h10 fun x11 =>
  bd (dsp (kc h10 x11) [(16, R.1 x11 a1), (17, f_X17_work x11 a1), (18, f_X18_work x11 a1), (19, f_X19_work x11 a1), (20, R.2.1 x11 a1), (21, f_X21_work x11 a1), (22, R.2.2.1 x11 a1), (23, R.2.2.2.1 x11 a1), (24, R.2.2.2.2.1 x11 a1), (25, R.2.2.2.2.2.1 x11 a1), (27, R.2.2.2.2.2.2.1 x11 a1), (28, R.2.2.2.2.2.2.2.1 x11 a1), (29, R.2.2.2.2.2.2.2.2.1 x11 a1)] h10) (fun x12 h13 =>
  if kc h13 a1 = 37 then
  bd (f_X38_step a1 h13) (fun _ h14 =>
  ldI 28 217 a0 h14 fun x15 =>
  ldI 28 220 a0 h14 fun x16 =>
  bd (f_X34_shift x15 x16 x9 x12 h14) (fun x17 h18 =>
  rok x17 h18))
  else none))
  else none)))))
noncomputable def f_X29_work_b38 (R : TY_S2) (a0 : Nat) (a1 : Nat) (s0 : Nat) (h : HP) : Rs Int64 :=
  bd (dsp (kc h s0) [(16, R.1 s0 a1), (17, f_X17_work s0 a1), (18, f_X18_work s0 a1), (19, f_X19_work s0 a1), (20, R.2.1 s0 a1), (21, f_X21_work s0 a1), (22, R.2.2.1 s0 a1), (23, R.2.2.2.1 s0 a1), (24, R.2.2.2.2.1 s0 a1), (25, R.2.2.2.2.2.1 s0 a1), (27, R.2.2.2.2.2.2.1 s0 a1), (28, R.2.2.2.2.2.2.2.1 s0 a1), (29, R.2.2.2.2.2.2.2.2.1 s0 a1)] h) (fun x1 h2 =>
  ldR 29 183 a0 h2 fun x3 =>
  if x3 = 0 then
  (rok x1 h2)
  else
  (ldR 29 183 a0 h2 fun x4 =>
  if kc h2 s0 ∈ [16, 17, 18, 19, 20, 21, 22, 23, 24, 25, 27, 28, 29] then
  bd (f_X15_as s0 x4 x1 h2) (fun x5 h6 =>
  rok x5 h6)
  else none))
noncomputable def f_X29_work_b18 (R : TY_S2) (a0 : Nat) (a1 : Nat) (s0 : Int32) (h : HP) : Rs Int64 :=
  if kc h a1 = 37 then
  bd (f_X38_step a1 h) (fun _ h1 =>
  if s0 = 0 then
  (ldR 29 223 a0 h1 fun x2 =>
  f_X29_work_b38 R  a0 a1 x2 h1)
  else
  (ldR 29 222 a0 h1 fun x3 =>
  f_X29_work_b38 R  a0 a1 x3 h1))
  else none
noncomputable def f_X29_work_o (R : TY_S2) (a0 : Nat) (a1 : Nat) (h : HP) : Rs Int64 :=
  ldR 29 221 a0 h fun x1 =>
  bd (dsp (kc h x1) [(16, R.1 x1 a1), (17, f_X17_work x1 a1), (18, f_X18_work x1 a1), (19, f_X19_work x1 a1), (20, R.2.1 x1 a1), (21, f_X21_work x1 a1), (22, R.2.2.1 x1 a1), (23, R.2.2.2.1 x1 a1), (24, R.2.2.2.2.1 x1 a1), (25, R.2.2.2.2.2.1 x1 a1), (27, R.2.2.2.2.2.2.1 x1 a1), (28, R.2.2.2.2.2.2.2.1 x1 a1), (29, R.2.2.2.2.2.2.2.2.1 x1 a1)] h) (fun x2 h3 =>
  if (lg_cmp x2 (1 : Int64)) = 0 then
  (f_X29_work_b18 R  a0 a1 (1 : Int32) h3)
  else
  (f_X29_work_b18 R  a0 a1 (0 : Int32) h3))
noncomputable def f_X38_call_o (R : TY_S2) (a0 : Nat) (a1 : Int32) (a2 : Nat) (a3 : Int32) (h : HP) : Rs Int64 :=
  ldI 37 289 a0 h fun x1 =>
  if x1 = (30 : Int32) then
  (ldR 37 285 a0 h fun x23 =>
  if kc h x23 = 2 then
  bd (f_X1_with x23 (9 : Int32) h) (fun x24 h25 =>
  if kc h25 x24 = 69 then rex h25 else none)
  else none)
  else
  (ldI 37 289 a0 h fun x2 =>
  stI 37 289 a0 (x2 + (1 : Int32)) h fun h3 =>
  ldI 37 287 a0 h3 fun x4 =>
  ldI 37 288 a0 h3 fun x5 =>
  ldI 37 292 a0 h3 fun x6 =>
  stI 37 287 a0 a3 h3 fun h7 =>
  ldI 30 233 a2 h7 fun x8 =>
  stI 37 288 a0 (a3 + x8) h7 fun h9 =>
  stI 37 292 a0 a1 h9 fun h10 =>
  ldR 30 232 a2 h10 fun x11 =>
  ldR 30 229 a2 h10 fun x12 =>
  ldR 30 232 a2 h10 fun x13 =>
  bd (dsp (kc h10 x13) [(16, R.1 x13 a0), (17, f_X17_work x13 a0), (18, f_X18_work x13 a0), (19, f_X19_work x13 a0), (20, R.2.1 x13 a0), (21, f_X21_work x13 a0), (22, R.2.2.1 x13 a0), (23, R.2.2.2.1 x13 a0), (24, R.2.2.2.2.1 x13 a0), (25, R.2.2.2.2.2.1 x13 a0), (27, R.2.2.2.2.2.2.1 x13 a0), (28, R.2.2.2.2.2.2.2.1 x13 a0), (29, R.2.2.2.2.2.2.2.2.1 x13 a0)] h10) (fun x14 h15 =>
  if kc h15 x11 ∈ [16, 17, 18, 19, 20, 21, 22, 23, 24, 25, 27, 28, 29] then
  bd (f_X15_as x11 x12 x14 h15) (fun x16 h17 =>
  stI 37 287 a0 x4 h17 fun h18 =>
  stI 37 288 a0 x5 h18 fun h19 =>
  stI 37 292 a0 x6 h19 fun h20 =>
  ldI 37 289 a0 h20 fun x21 =>
  stI 37 289 a0 (x21 - (1 : Int32)) h20 fun h22 =>
  rok x16 h22)
  else none))
noncomputable def r_S2 (n : Nat) : TY_S2 := @Nat.rec (fun _ => TY_S2) (fun _ _ _ => none, fun _ _ _ => none, fun _ _ _ => none, fun _ _ _ => none, fun _ _ _ => none, fun _ _ _ => none, fun _ _ _ => none, fun _ _ _ => none, fun _ _ _ => none, fun _ _ _ _ _ => none) (fun _ R => (f_X16_work_o R, f_X20_work_o R, f_X22_work_o R, f_X23_work_o R, f_X24_work_o R, f_X25_work_o R, f_X27_work_o R, f_X28_work_o R, f_X29_work_o R, f_X38_call_o R)) n
noncomputable def f_X16_work (n : Nat) : Nat → Nat → HP → Rs Int64 := (r_S2 n).1
noncomputable def f_X20_work (n : Nat) : Nat → Nat → HP → Rs Int64 := (r_S2 n).2.1
noncomputable def f_X22_work (n : Nat) : Nat → Nat → HP → Rs Int64 := (r_S2 n).2.2.1
noncomputable def f_X23_work (n : Nat) : Nat → Nat → HP → Rs Int64 := (r_S2 n).2.2.2.1
noncomputable def f_X24_work (n : Nat) : Nat → Nat → HP → Rs Int64 := (r_S2 n).2.2.2.2.1
noncomputable def f_X25_work (n : Nat) : Nat → Nat → HP → Rs Int64 := (r_S2 n).2.2.2.2.2.1
noncomputable def f_X27_work (n : Nat) : Nat → Nat → HP → Rs Int64 := (r_S2 n).2.2.2.2.2.2.1
noncomputable def f_X28_work (n : Nat) : Nat → Nat → HP → Rs Int64 := (r_S2 n).2.2.2.2.2.2.2.1
noncomputable def f_X29_work (n : Nat) : Nat → Nat → HP → Rs Int64 := (r_S2 n).2.2.2.2.2.2.2.2.1
noncomputable def f_X38_call (n : Nat) : Nat → Int32 → Nat → Int32 → HP → Rs Int64 := (r_S2 n).2.2.2.2.2.2.2.2.2
noncomputable def f_X26_begin (a0 : Nat) (a1 : Nat) (h : HP) : Rs Int32 :=
  ldR 26 214 a0 h fun x1 =>
  if x1 = 0 then
  (ldR 26 213 a0 h fun x2 =>
  bd (dsp (kc h x2) [(16, f_X16_work 960 x2 a1), (17, f_X17_work x2 a1), (18, f_X18_work x2 a1), (19, f_X19_work x2 a1), (20, f_X20_work 960 x2 a1), (21, f_X21_work x2 a1), (22, f_X22_work 960 x2 a1), (23, f_X23_work 960 x2 a1), (24, f_X24_work 960 x2 a1), (25, f_X25_work 960 x2 a1), (27, f_X27_work 960 x2 a1), (28, f_X28_work 960 x2 a1), (29, f_X29_work 960 x2 a1)] h) (fun x3 h4 =>
  rok (Int64.toInt32 x3) h4))
  else
  (rok (0 : Int32) h)
noncomputable def b_X43_row_l40 (v0 : Nat) (v3 : Int32) (ih : Int32 → HP → Rs Unit) (a4 : Int32) (h : HP) : Rs Unit :=
  ldR 42 332 v0 h fun x1 =>
  lsSize x1 h fun x2 =>
  if x2 ≤ a4 then
  (rok () h)
  else
  (ldR 42 332 v0 h fun x3 =>
  lsGet x3 a4 h fun x4 =>
  castR [16, 17, 18, 19, 20, 21, 22, 23, 24, 25, 27, 28, 29] x4 h (
  ldR 42 327 v0 h fun x5 =>
  bd (dsp (kc h x4) [(16, f_X16_work 960 x4 x5), (17, f_X17_work x4 x5), (18, f_X18_work x4 x5), (19, f_X19_work x4 x5), (20, f_X20_work 960 x4 x5), (21, f_X21_work x4 x5), (22, f_X22_work 960 x4 x5), (23, f_X23_work 960 x4 x5), (24, f_X24_work 960 x4 x5), (25, f_X25_work 960 x4 x5), (27, f_X27_work 960 x4 x5), (28, f_X28_work 960 x4 x5), (29, f_X29_work 960 x4 x5)] h) (fun x6 h7 =>
  ldR 42 338 v0 h7 fun x8 =>
  astJ 3 x8 ((v3 + (1 : Int32)) + a4) x6 h7 fun h9 =>
  lt3 (a4 + 1) fun x10 =>
  ih x10 h9)))
noncomputable def f_X43_row_l40 (v0 : Nat) (v3 : Int32) (n : Nat) : Int32 → HP → Rs Unit := @Nat.rec (fun _ => Int32 → HP → Rs Unit) (fun _ _ => none) (fun _ ih => b_X43_row_l40 v0 v3 ih) n
noncomputable def f_X43_row_b22 (a0 : Nat) (s0 : Int64) (h : HP) : Rs Unit :=
  ldI 42 341 a0 h fun x1 =>
  lt3 ((5 : Int32) * x1) fun x2 =>
  ldR 42 338 a0 h fun x3 =>
  astJ 3 x3 x2 s0 h fun h4 =>
  bd (f_X43_row_l40 a0 x2 NN (0 : Int32) h4) (fun x5 h6 => ldI 42 341 a0 h6 fun x7 =>
  if x7 = (1000 : Int32) then
  (ldR 42 326 a0 h6 fun x10 =>
  if kc h6 x10 = 2 then
  bd (f_X1_with x10 (12 : Int32) h6) (fun x11 h12 =>
  if kc h12 x11 = 69 then rex h12 else none)
  else none)
  else
  (ldI 42 341 a0 h6 fun x8 =>
  stI 42 341 a0 (x8 + (1 : Int32)) h6 fun h9 =>
  rok () h9))
noncomputable def f_X43_row (a0 : Nat) (h : HP) : Rs Unit :=
  ldR 42 335 a0 h fun x1 =>
  if x1 = 0 then
  (f_X43_row_b22  a0 (0 : Int64) h)
  else
  (ldR 42 335 a0 h fun x2 =>
  ldR 42 327 a0 h fun x3 =>
  bd (dsp (kc h x2) [(16, f_X16_work 960 x2 x3), (17, f_X17_work x2 x3), (18, f_X18_work x2 x3), (19, f_X19_work x2 x3), (20, f_X20_work 960 x2 x3), (21, f_X21_work x2 x3), (22, f_X22_work 960 x2 x3), (23, f_X23_work 960 x2 x3), (24, f_X24_work 960 x2 x3), (25, f_X25_work 960 x2 x3), (27, f_X27_work 960 x2 x3), (28, f_X28_work 960 x2 x3), (29, f_X29_work 960 x2 x3)] h) (fun x4 h5 =>
  f_X43_row_b22  a0 x4 h5))
abbrev TY_S3 : Type := (Nat → Int32 → HP → Rs Unit)
noncomputable def b_X43_go_l81 (R : TY_S3) (v0 : Nat) (v1 : Int32) (v2 : Nat) (v3 : Int32) (ih : Int32 → HP → Rs Unit) (a4 : Int32) (h : HP) : Rs Unit :=
  if a4 < 0 then
  (rok () h)
  else
  (ldR 42 327 v0 h fun x1 =>
  if kc h x1 = 37 then
  bd (f_X38_step x1 h) (fun _ h2 =>
  ldR 42 327 v0 h2 fun x3 =>
  ldR 42 327 v0 h2 fun x4 =>
  if kc h2 v2 = 26 then
  bd (f_X26_value v2 x4 v3 a4 h2) (fun x5 h6 =>
  if kc h6 x3 = 37 then
  bd (f_X38_set x3 v1 x5 h6) (fun _ h7 =>
  if kc h7 v0 = 42 then
  bd (R v0 (v1 + (1 : Int32)) h7) (fun _ h8 =>
  ldR 42 327 v0 h8 fun x9 =>
  if kc h8 v2 = 26 then
  bd (f_X26_next v2 x9 v3 a4 h8) (fun x10 h11 =>
  ih x10 h11)
  else none)
  else none)
  else none)
  else none)
  else none)
noncomputable def f_X43_go_l81 (R : TY_S3) (v0 : Nat) (v1 : Int32) (v2 : Nat) (v3 : Int32) (n : Nat) : Int32 → HP → Rs Unit := @Nat.rec (fun _ => Int32 → HP → Rs Unit) (fun _ _ => none) (fun _ ih => b_X43_go_l81 R v0 v1 v2 v3 ih) n
noncomputable def f_X43_go_o (R : TY_S3) (a0 : Nat) (a1 : Int32) (h : HP) : Rs Unit :=
  ldR 42 330 a0 h fun x1 =>
  lsSize x1 h fun x2 =>
  if a1 = x2 then
  (ldR 42 334 a0 h fun x15 =>
  if x15 = 0 then
  (if kc h a0 = 42 then
  bd (f_X43_row a0 h) (fun _ h16 =>
  rok () h16)
  else none)
  else
  (ldR 42 334 a0 h fun x17 =>
  ldR 42 327 a0 h fun x18 =>
  bd (dsp (kc h x17) [(16, f_X16_work 960 x17 x18), (17, f_X17_work x17 x18), (18, f_X18_work x17 x18), (19, f_X19_work x17 x18), (20, f_X20_work 960 x17 x18), (21, f_X21_work x17 x18), (22, f_X22_work 960 x17 x18), (23, f_X23_work 960 x17 x18), (24, f_X24_work 960 x17 x18), (25, f_X25_work 960 x17 x18), (27, f_X27_work 960 x17 x18), (28, f_X28_work 960 x17 x18), (29, f_X29_work 960 x17 x18)] h) (fun x19 h20 =>
  if (lg_cmp x19 (1 : Int64)) = 0 then
  (if kc h20 a0 = 42 then
  bd (f_X43_row a0 h20) (fun _ h21 =>
  rok () h21)
  else none)
  else
  (rok () h20))))
  else
  (ldR 42 330 a0 h fun x3 =>
  lsGet x3 a1 h fun x4 =>
  castR [26] x4 h (
  ldR 42 327 a0 h fun x5 =>
  if kc h x4 = 26 then
  bd (f_X26_begin x4 x5 h) (fun x6 h7 =>
  ldR 42 327 a0 h7 fun x8 =>
  if kc h7 x4 = 26 then
  bd (f_X26_mustBe x4 x8 x6 h7) (fun _ h9 =>
  ldR 42 327 a0 h9 fun x10 =>
  if kc h9 x4 = 26 then
  bd (f_X26_next x4 x10 x6 (-1 : Int32) h9) (fun x11 h12 =>
  bd (f_X43_go_l81 R a0 a1 x4 x6 NN x11 h12) (fun x13 h14 => rok () h14))
  else none)
  else none)
  else none))
noncomputable def r_S3 (n : Nat) : TY_S3 := @Nat.rec (fun _ => TY_S3) (fun _ _ _ => none) (fun _ R => (f_X43_go_o R)) n
noncomputable def f_X43_go (n : Nat) : Nat → Int32 → HP → Rs Unit := (r_S3 n)
noncomputable def f_X34_order (a0 : Int32) (a1 : Int64) (a3 : Int64) (h : HP) : Rs Int32 :=
  bd (f_X34_compare a0 a1 a3 h) (fun x1 h2 =>
  if x1 = 0 then
  (if a0 < (6 : Int32) then
  (rok x1 h2)
  else
  (if (lg_cmp a1 a3) = 0 then
  (rok x1 h2)
  else
  (if (lg_cmp a1 (0 : Int64)) < 0 then
  (rok (-1 : Int32) h2)
  else
  (if a0 = (6 : Int32) then
  (if (lg_cmp a1 (2147483648 : Int64)) = 0 then
  (rok (-1 : Int32) h2)
  else
  (rok (1 : Int32) h2))
  else
  (rok (1 : Int32) h2)))))
  else
  (rok x1 h2))
noncomputable def b_X35_compareTexts_l38 (v3 : Nat) (v4 : Nat) (v5 : Int32) (ih : Int32 → HP → Rs (Int32 ⊕ Unit)) (a6 : Int32) (h : HP) : Rs (Int32 ⊕ Unit) :=
  if v5 ≤ a6 then
  (rok (Sum.inr ()) h)
  else
  (txAt v3 a6 h fun x1 =>
  txAt v4 a6 h fun x2 =>
  if x1 = x2 then
  (lt3 (a6 + 1) fun x3 =>
  ih x3 h)
  else
  (rok (Sum.inl a6) h))
noncomputable def f_X35_compareTexts_l38 (v3 : Nat) (v4 : Nat) (v5 : Int32) (n : Nat) : Int32 → HP → Rs (Int32 ⊕ Unit) := @Nat.rec (fun _ => Int32 → HP → Rs (Int32 ⊕ Unit)) (fun _ _ => none) (fun _ ih => b_X35_compareTexts_l38 v3 v4 v5 ih) n
noncomputable def f_X35_compareTexts (a0 : Nat) (a1 : Int32) (a2 : Int32) (h : HP) : Rs Int32 :=
  ldR 34 249 a0 h fun x1 =>
  aldR 8 x1 a1 h fun x2 =>
  ldR 36 276 x2 h fun x3 =>
  ldR 34 249 a0 h fun x4 =>
  aldR 8 x4 a2 h fun x5 =>
  ldR 36 276 x5 h fun x6 =>
  txLen x3 h fun x7 =>
  txLen x6 h fun x8 =>
  lt3 (mnI x7 x8) fun x9 =>
  bd (f_X35_compareTexts_l38 x3 x6 x9 NN (0 : Int32) h) (Sum.elim (fun x10 => fun h11 => txAt x3 x10 h11 fun x12 =>
  txAt x6 x10 h11 fun x13 =>
  if x13 ≤ x12 then
  (rok (1 : Int32) h11)
  else
  (rok (-1 : Int32) h11)) (fun x14 => fun h15 => txLen x3 h15 fun x16 =>
  txLen x6 h15 fun x17 =>
  if x16 = x17 then
  (rok (0 : Int32) h15)
  else
  (txLen x3 h15 fun x18 =>
  txLen x6 h15 fun x19 =>
  if x19 ≤ x18 then
  (rok (1 : Int32) h15)
  else
  (rok (-1 : Int32) h15))))
noncomputable def f_X43_compare_b62 (a3 : Int64) (a5 : Int64) (h : HP) : Rs Int32 :=
  if (lg_cmp a3 a5) = 0 then
  (rok (0 : Int32) h)
  else
  (if (lg_cmp a3 (0 : Int64)) = 0 then
  (rok (-1 : Int32) h)
  else
  (rok (1 : Int32) h))
noncomputable def f_X43_compare (a0 : Nat) (a1 : Int32) (a2 : Int32) (h : HP) : Rs Int32 :=
  ldR 42 338 a0 h fun x1 =>
  aldJ 3 x1 ((5 : Int32) * a1) h fun x2 =>
  ldR 42 338 a0 h fun x3 =>
  aldJ 3 x3 ((5 : Int32) * a2) h fun x4 =>
  ldR 42 335 a0 h fun x5 =>
  ldMR ksNode 183 x5 h fun x6 =>
  if kc h x6 = 4 then
  bd (f_X3_isPlain x6 h) (fun x7 h8 =>
  if x7 = 0 then
  (if (lg_cmp x2 (0 : Int64)) = 0 then
  (f_X43_compare_b62  x2 x4 h8)
  else
  (if (lg_cmp x4 (0 : Int64)) = 0 then
  (f_X43_compare_b62  x2 x4 h8)
  else
  (ldR 42 327 a0 h8 fun x9 =>
  ldR 37 284 x9 h8 fun x10 =>
  if kc h8 x10 = 34 then
  bd (f_X35_compareTexts x10 (Int64.toInt32 x2) (Int64.toInt32 x4) h8) (fun x11 h12 =>
  rok x11 h12)
  else none)))
  else
  (ldR 42 335 a0 h8 fun x13 =>
  ldMR ksNode 183 x13 h8 fun x14 =>
  ldI 4 31 x14 h8 fun x15 =>
  bd (f_X34_order x15 x2 x4 h8) (fun x16 h17 =>
  rok x16 h17)))
  else none
noncomputable def f_X43_isBefore (a0 : Nat) (a1 : Int32) (a2 : Int32) (h : HP) : Rs Int32 :=
  if kc h a0 = 42 then
  bd (f_X43_compare a0 a1 a2 h) (fun x1 h2 =>
  ldI 42 336 a0 h2 fun x3 =>
  if x3 = 0 then
  (if 0 ≤ x1 then
  (rok (0 : Int32) h2)
  else
  (rok (1 : Int32) h2))
  else
  (if x1 ≤ 0 then
  (rok (0 : Int32) h2)
  else
  (rok (1 : Int32) h2)))
  else none
noncomputable def f_X43_join_l9b98 (v0 : Nat) (v2 : Int32) (v3 : Int32) (ih : Int32 → Int32 → Int32 → HP → Rs Unit) (a4 : Int32) (a5 : Int32) (a6 : Int32) (h : HP) : Rs Unit :=
  lt3 (a6 + 1) fun x1 =>
  ih a4 a5 x1 h
noncomputable def f_X43_join_l9b83 (v0 : Nat) (v2 : Int32) (v3 : Int32) (ih : Int32 → Int32 → Int32 → HP → Rs Unit) (a4 : Int32) (a5 : Int32) (a6 : Int32) (a7 : Int32) (s0 : Nat) (s1 : Int32) (s2 : Int32) (h : HP) : Rs Unit :=
  astI 0 s0 s1 s2 h fun h1 =>
  if a7 = 0 then
  (lt3 (a4 + 1) fun x2 =>
  f_X43_join_l9b98 v0 v2 v3 ih x2 a5 a6 h1)
  else
  (lt3 (a5 + 1) fun x3 =>
  f_X43_join_l9b98 v0 v2 v3 ih a4 x3 a6 h1)
noncomputable def f_X43_join_l9b53 (v0 : Nat) (v2 : Int32) (v3 : Int32) (ih : Int32 → Int32 → Int32 → HP → Rs Unit) (a4 : Int32) (a5 : Int32) (a6 : Int32) (s0 : Int32) (h : HP) : Rs Unit :=
  ldR 42 340 v0 h fun x1 =>
  if s0 = 0 then
  (ldR 42 339 v0 h fun x2 =>
  aldI 0 x2 a4 h fun x3 =>
  f_X43_join_l9b83 v0 v2 v3 ih a4 a5 a6 s0 x1 a6 x3 h)
  else
  (ldR 42 339 v0 h fun x4 =>
  aldI 0 x4 a5 h fun x5 =>
  f_X43_join_l9b83 v0 v2 v3 ih a4 a5 a6 s0 x1 a6 x5 h)
noncomputable def f_X43_join_l9b48 (v0 : Nat) (v2 : Int32) (v3 : Int32) (ih : Int32 → Int32 → Int32 → HP → Rs Unit) (a4 : Int32) (a5 : Int32) (a6 : Int32) (h : HP) : Rs Unit :=
  f_X43_join_l9b53 v0 v2 v3 ih a4 a5 a6 (1 : Int32) h
noncomputable def f_X43_join_l9b52 (v0 : Nat) (v2 : Int32) (v3 : Int32) (ih : Int32 → Int32 → Int32 → HP → Rs Unit) (a4 : Int32) (a5 : Int32) (a6 : Int32) (h : HP) : Rs Unit :=
  f_X43_join_l9b53 v0 v2 v3 ih a4 a5 a6 (0 : Int32) h
noncomputable def b_X43_join_l9 (v0 : Nat) (v2 : Int32) (v3 : Int32) (ih : Int32 → Int32 → Int32 → HP → Rs Unit) (a4 : Int32) (a5 : Int32) (a6 : Int32) (h : HP) : Rs Unit :=
  if v3 ≤ a6 then
  (rok () h)
  else
  (if a4 = v2 then
  (f_X43_join_l9b48 v0 v2 v3 ih a4 a5 a6 h)
  else
  (if v3 ≤ a5 then
  (f_X43_join_l9b52 v0 v2 v3 ih a4 a5 a6 h)
  else
  (ldR 42 339 v0 h fun x1 =>
  aldI 0 x1 a5 h fun x2 =>
  ldR 42 339 v0 h fun x3 =>
  aldI 0 x3 a4 h fun x4 =>
  if kc h v0 = 42 then
  bd (f_X43_isBefore v0 x2 x4 h) (fun x5 h6 =>
  if x5 = 0 then
  (f_X43_join_l9b52 v0 v2 v3 ih a4 a5 a6 h6)
  else
  (f_X43_join_l9b48 v0 v2 v3 ih a4 a5 a6 h6))
  else none)))
noncomputable def f_X43_join_l9 (v0 : Nat) (v2 : Int32) (v3 : Int32) (n : Nat) : Int32 → Int32 → Int32 → HP → Rs Unit := @Nat.rec (fun _ => Int32 → Int32 → Int32 → HP → Rs Unit) (fun _ _ _ _ => none) (fun _ ih => b_X43_join_l9 v0 v2 v3 ih) n
noncomputable def f_X43_join (a0 : Nat) (a1 : Int32) (a2 : Int32) (a3 : Int32) (h : HP) : Rs Unit :=
  bd (f_X43_join_l9 a0 a2 a3 NN a1 a2 a1 h) (fun x1 h2 => rok () h2)
noncomputable def b_X43_sort_l2 (v0 : Nat) (ih : Int32 → HP → Rs Unit) (a1 : Int32) (h : HP) : Rs Unit :=
  ldI 42 341 v0 h fun x1 =>
  if x1 ≤ a1 then
  (rok () h)
  else
  (ldR 42 339 v0 h fun x2 =>
  astI 0 x2 a1 a1 h fun h3 =>
  lt3 (a1 + 1) fun x4 =>
  ih x4 h3)
noncomputable def f_X43_sort_l2 (v0 : Nat) (n : Nat) : Int32 → HP → Rs Unit := @Nat.rec (fun _ => Int32 → HP → Rs Unit) (fun _ _ => none) (fun _ ih => b_X43_sort_l2 v0 ih) n
noncomputable def b_X43_sort_l43 (v0 : Nat) (v1 : Int32) (ih : Int32 → HP → Rs Unit) (a2 : Int32) (h : HP) : Rs Unit :=
  ldI 42 341 v0 h fun x1 =>
  if x1 ≤ a2 then
  (rok () h)
  else
  (ldI 42 341 v0 h fun x2 =>
  ldI 42 341 v0 h fun x3 =>
  if kc h v0 = 42 then
  bd (f_X43_join v0 a2 (mnI (a2 + v1) x2) (mnI (a2 + ((2 : Int32) * v1)) x3) h) (fun _ h4 =>
  lt3 (a2 + ((2 : Int32) * v1)) fun x5 =>
  ih x5 h4)
  else none)
noncomputable def f_X43_sort_l43 (v0 : Nat) (v1 : Int32) (n : Nat) : Int32 → HP → Rs Unit := @Nat.rec (fun _ => Int32 → HP → Rs Unit) (fun _ _ => none) (fun _ ih => b_X43_sort_l43 v0 v1 ih) n
noncomputable def b_X43_sort_l89 (v0 : Nat) (v1 : Int32) (ih : Int32 → HP → Rs Unit) (a2 : Int32) (h : HP) : Rs Unit :=
  ldI 42 341 v0 h fun x1 =>
  if x1 ≤ a2 then
  (rok () h)
  else
  (ldR 42 339 v0 h fun x2 =>
  ldR 42 340 v0 h fun x3 =>
  aldI 0 x3 a2 h fun x4 =>
  astI 0 x2 a2 x4 h fun h5 =>
  lt3 (a2 + 1) fun x6 =>
  ih x6 h5)
noncomputable def f_X43_sort_l89 (v0 : Nat) (v1 : Int32) (n : Nat) : Int32 → HP → Rs Unit := @Nat.rec (fun _ => Int32 → HP → Rs Unit) (fun _ _ => none) (fun _ ih => b_X43_sort_l89 v0 v1 ih) n
noncomputable def b_X43_sort_l33 (v0 : Nat) (ih : Int32 → HP → Rs Unit) (a1 : Int32) (h : HP) : Rs Unit :=
  ldI 42 341 v0 h fun x1 =>
  if x1 ≤ a1 then
  (rok () h)
  else
  (bd (f_X43_sort_l43 v0 a1 NN (0 : Int32) h) (fun x2 h3 => bd (f_X43_sort_l89 v0 a1 NN (0 : Int32) h3) (fun x4 h5 => lt3 (a1 * (2 : Int32)) fun x6 =>
  ih x6 h5)))
noncomputable def f_X43_sort_l33 (v0 : Nat) (n : Nat) : Int32 → HP → Rs Unit := @Nat.rec (fun _ => Int32 → HP → Rs Unit) (fun _ _ => none) (fun _ ih => b_X43_sort_l33 v0 ih) n
noncomputable def f_X43_sort (a0 : Nat) (h : HP) : Rs Unit :=
  bd (f_X43_sort_l2 a0 NN (0 : Int32) h) (fun x1 h2 => ldR 42 335 a0 h2 fun x3 =>
  if x3 = 0 then
  (rok () h2)
  else
  (bd (f_X43_sort_l33 a0 NN (1 : Int32) h2) (fun x4 h5 => rok () h5)))
noncomputable def f_X43_ask_l39b91 (v0 : Nat) (ih : Int32 → HP → Rs Unit) (a2 : Int32) (s0 : Nat) (s1 : Int32) (s2 : Int32) (h : HP) : Rs Unit :=
  astI 0 s0 s1 s2 h fun h1 =>
  lt3 (a2 + 1) fun x2 =>
  ih x2 h1
noncomputable def b_X43_ask_l39 (v0 : Nat) (ih : Int32 → HP → Rs Unit) (a2 : Int32) (h : HP) : Rs Unit :=
  ldI 42 344 v0 h fun x1 =>
  if x1 ≤ a2 then
  (rok () h)
  else
  (ldR 42 343 v0 h fun x2 =>
  ldR 42 332 v0 h fun x3 =>
  lsGet x3 a2 h fun x4 =>
  castR [16, 17, 18, 19, 20, 21, 22, 23, 24, 25, 27, 28, 29] x4 h (
  ldMR ksNode 183 x4 h fun x5 =>
  if x5 = 0 then
  (f_X43_ask_l39b91 v0 ih a2 x2 a2 (8 : Int32) h)
  else
  (ldR 42 332 v0 h fun x6 =>
  lsGet x6 a2 h fun x7 =>
  castR [16, 17, 18, 19, 20, 21, 22, 23, 24, 25, 27, 28, 29] x7 h (
  ldMR ksNode 183 x7 h fun x8 =>
  ldI 4 31 x8 h fun x9 =>
  f_X43_ask_l39b91 v0 ih a2 x2 a2 x9 h))))
noncomputable def f_X43_ask_l39 (v0 : Nat) (n : Nat) : Int32 → HP → Rs Unit := @Nat.rec (fun _ => Int32 → HP → Rs Unit) (fun _ _ => none) (fun _ ih => b_X43_ask_l39 v0 ih) n
noncomputable def b_X43_ask_l110 (v0 : Nat) (v2 : Int32) (ih : Int32 → HP → Rs Unit) (a3 : Int32) (h : HP) : Rs Unit :=
  ldI 42 344 v0 h fun x1 =>
  if x1 ≤ a3 then
  (rok () h)
  else
  (ldR 42 342 v0 h fun x2 =>
  ldR 42 338 v0 h fun x3 =>
  ldR 42 339 v0 h fun x4 =>
  aldI 0 x4 v2 h fun x5 =>
  aldJ 3 x3 ((((5 : Int32) * x5) + (1 : Int32)) + a3) h fun x6 =>
  astJ 3 x2 (((4 : Int32) * v2) + a3) x6 h fun h7 =>
  lt3 (a3 + 1) fun x8 =>
  ih x8 h7)
noncomputable def f_X43_ask_l110 (v0 : Nat) (v2 : Int32) (n : Nat) : Int32 → HP → Rs Unit := @Nat.rec (fun _ => Int32 → HP → Rs Unit) (fun _ _ => none) (fun _ ih => b_X43_ask_l110 v0 v2 ih) n
noncomputable def b_X43_ask_l100 (v0 : Nat) (ih : Int32 → HP → Rs Unit) (a2 : Int32) (h : HP) : Rs Unit :=
  ldI 42 341 v0 h fun x1 =>
  if x1 ≤ a2 then
  (rok () h)
  else
  (bd (f_X43_ask_l110 v0 a2 NN (0 : Int32) h) (fun x2 h3 => lt3 (a2 + 1) fun x4 =>
  ih x4 h3))
noncomputable def f_X43_ask_l100 (v0 : Nat) (n : Nat) : Int32 → HP → Rs Unit := @Nat.rec (fun _ => Int32 → HP → Rs Unit) (fun _ _ => none) (fun _ ih => b_X43_ask_l100 v0 ih) n
noncomputable def f_X43_ask (a0 : Nat) (a1 : Int32) (h : HP) : Rs Int32 :=
  ldR 42 327 a0 h fun x1 =>
  ldI 42 337 a0 h fun x2 =>
  if kc h x1 = 37 then
  bd (f_X38_begin x1 a1 x2 h) (fun _ h3 =>
  stI 42 341 a0 (0 : Int32) h3 fun h4 =>
  if kc h4 a0 = 42 then
  bd (f_X43_go 100 a0 (0 : Int32) h4) (fun _ h5 =>
  if kc h5 a0 = 42 then
  bd (f_X43_sort a0 h5) (fun _ h6 =>
  ldR 42 332 a0 h6 fun x7 =>
  lsSize x7 h6 fun x8 =>
  stI 42 344 a0 x8 h6 fun h9 =>
  bd (f_X43_ask_l39 a0 NN (0 : Int32) h9) (fun x10 h11 => bd (f_X43_ask_l100 a0 NN (0 : Int32) h11) (fun x12 h13 => ldI 42 341 a0 h13 fun x14 =>
  stI 42 345 a0 x14 h13 fun h15 =>
  ldI 42 341 a0 h15 fun x16 =>
  rok x16 h15)))
  else none)
  else none)
  else none
noncomputable def f_X10_level (a0 : Int32) (h : HP) : Rs Int32 :=
  if a0 = (19 : Int32) then
  (rok (0 : Int32) h)
  else
  (if a0 = (18 : Int32) then
  (rok (1 : Int32) h)
  else
  (if a0 = (17 : Int32) then
  (rok (2 : Int32) h)
  else
  (if a0 = (16 : Int32) then
  (rok (3 : Int32) h)
  else
  (if a0 = (15 : Int32) then
  (rok (4 : Int32) h)
  else
  (if a0 < (13 : Int32) then
  (if a0 < (9 : Int32) then
  (if a0 < (6 : Int32) then
  (if a0 < (3 : Int32) then
  (if a0 < (1 : Int32) then
  (rok (-1 : Int32) h)
  else
  (rok (8 : Int32) h))
  else
  (rok (9 : Int32) h))
  else
  (rok (7 : Int32) h))
  else
  (rok (6 : Int32) h))
  else
  (rok (5 : Int32) h))))))
noncomputable def f_X10_longSign (a0 : Int32) (a1 : Int32) (h : HP) : Rs Int32 :=
  if a0 = (60 : Int32) then
  (if a1 = (60 : Int32) then
  (rok (6 : Int32) h)
  else
  (rok (11 : Int32) h))
  else
  (if a0 = (62 : Int32) then
  (if a1 = (62 : Int32) then
  (rok (7 : Int32) h)
  else
  (rok (12 : Int32) h))
  else
  (if a0 = (61 : Int32) then
  (rok (13 : Int32) h)
  else
  (if a0 = (33 : Int32) then
  (rok (14 : Int32) h)
  else
  (if a0 = (38 : Int32) then
  (rok (18 : Int32) h)
  else
  (rok (19 : Int32) h)))))
noncomputable def f_X10_sign (a0 : Nat) (h : HP) : Rs Int32 :=
  ldMR ksParser 156 a0 h fun x1 =>
  ldI 10 151 x1 h fun x2 =>
  if x2 = (8 : Int32) then
  (ldMR ksParser 156 a0 h fun x3 =>
  ldR 10 154 x3 h fun x4 =>
  txAt x4 (0 : Int32) h fun x5 =>
  ldMR ksParser 156 a0 h fun x6 =>
  ldR 10 154 x6 h fun x7 =>
  txLen x7 h fun x8 =>
  if x8 = (3 : Int32) then
  (rok (8 : Int32) h)
  else
  (if x8 = (2 : Int32) then
  (ldMR ksParser 156 a0 h fun x9 =>
  ldR 10 154 x9 h fun x10 =>
  txAt x10 (1 : Int32) h fun x11 =>
  bd (f_X10_longSign x5 x11 h) (fun x12 h13 =>
  rok x12 h13))
  else
  (if x5 = (37) then
  (rok (5 : Int32) h)
  else
  if x5 = (38) then
  (rok (15 : Int32) h)
  else
  if x5 = (42) then
  (rok (3 : Int32) h)
  else
  if x5 = (43) then
  (rok (1 : Int32) h)
  else
  if x5 = (45) then
  (rok (2 : Int32) h)
  else
  if x5 = (47) then
  (rok (4 : Int32) h)
  else
  if x5 = (60) then
  (rok (9 : Int32) h)
  else
  if x5 = (62) then
  (rok (10 : Int32) h)
  else
  if x5 = (94) then
  (rok (16 : Int32) h)
  else
  if x5 = (124) then
  (rok (17 : Int32) h)
  else
  (rok (0 : Int32) h))))
  else
  (rok (0 : Int32) h)
noncomputable def f_X9_isIn_l15b60 (v0 : Nat) (v1 : Nat) (v2 : Int32) (ih : Int32 → Int32 → HP → Rs (Int32 × Int32)) (a3 : Int32) (s0 : Int32) (h : HP) : Rs (Int32 × Int32) :=
  lt3 (a3 + 1) fun x1 =>
  ih x1 s0 h
noncomputable def f_X9_isIn_l15b59 (v0 : Nat) (v1 : Nat) (v2 : Int32) (ih : Int32 → Int32 → HP → Rs (Int32 × Int32)) (a3 : Int32) (h : HP) : Rs (Int32 × Int32) :=
  f_X9_isIn_l15b60 v0 v1 v2 ih a3 (0 : Int32) h
noncomputable def b_X9_isIn_l15 (v0 : Nat) (v1 : Nat) (v2 : Int32) (ih : Int32 → Int32 → HP → Rs (Int32 × Int32)) (a3 : Int32) (a4 : Int32) (h : HP) : Rs (Int32 × Int32) :=
  txAt v0 a3 h fun x1 =>
  if x1 = (32 : Int32) then
  (rok (a3, a4) h)
  else
  (if a4 = 0 then
  (f_X9_isIn_l15b59 v0 v1 v2 ih a3 h)
  else
  (txLen v1 h fun x2 =>
  if x2 ≤ (a3 - v2) then
  (f_X9_isIn_l15b59 v0 v1 v2 ih a3 h)
  else
  (txAt v0 a3 h fun x3 =>
  txAt v1 (a3 - v2) h fun x4 =>
  if x3 = x4 then
  (f_X9_isIn_l15b60 v0 v1 v2 ih a3 (1 : Int32) h)
  else
  (f_X9_isIn_l15b59 v0 v1 v2 ih a3 h))))
noncomputable def f_X9_isIn_l15 (v0 : Nat) (v1 : Nat) (v2 : Int32) (n : Nat) : Int32 → Int32 → HP → Rs (Int32 × Int32) := @Nat.rec (fun _ => Int32 → Int32 → HP → Rs (Int32 × Int32)) (fun _ _ _ => none) (fun _ ih => b_X9_isIn_l15 v0 v1 v2 ih) n
noncomputable def f_X9_isIn_l2b85 (v0 : Nat) (v1 : Nat) (ih : Int32 → HP → Rs (Unit ⊕ Unit)) (a3 : Int32) (h : HP) : Rs (Unit ⊕ Unit) :=
  lt3 (a3 + (1 : Int32)) fun x1 =>
  ih x1 h
noncomputable def b_X9_isIn_l2 (v0 : Nat) (v1 : Nat) (ih : Int32 → HP → Rs (Unit ⊕ Unit)) (a2 : Int32) (h : HP) : Rs (Unit ⊕ Unit) :=
  txLen v0 h fun x1 =>
  if x1 ≤ a2 then
  (rok (Sum.inr ()) h)
  else
  (bd (f_X9_isIn_l15 v0 v1 a2 NN a2 (1 : Int32) h) (fun x2 h3 => if x2.2 = 0 then
  (f_X9_isIn_l2b85 v0 v1 ih x2.1 h3)
  else
  (txLen v1 h3 fun x4 =>
  if (x2.1 - a2) = x4 then
  (rok (Sum.inl ()) h3)
  else
  (f_X9_isIn_l2b85 v0 v1 ih x2.1 h3))))
noncomputable def f_X9_isIn_l2 (v0 : Nat) (v1 : Nat) (n : Nat) : Int32 → HP → Rs (Unit ⊕ Unit) := @Nat.rec (fun _ => Int32 → HP → Rs (Unit ⊕ Unit)) (fun _ _ => none) (fun _ ih => b_X9_isIn_l2 v0 v1 ih) n
noncomputable def f_X9_isIn (a0 : Nat) (a1 : Nat) (h : HP) : Rs Int32 :=
  bd (f_X9_isIn_l2 a0 a1 NN (1 : Int32) h) (Sum.elim (fun x1 => fun h2 => rok (1 : Int32) h2) (fun x3 => fun h4 => rok (0 : Int32) h4))
noncomputable def f_X10_isPlainWord (a0 : Nat) (h : HP) : Rs Int32 :=
  ldMR ksParser 156 a0 h fun x1 =>
  ldI 10 151 x1 h fun x2 =>
  if x2 = (2 : Int32) then
  (ldMR ksParser 156 a0 h fun x3 =>
  ldR 10 154 x3 h fun x4 =>
  bd (f_X9_isIn 3 x4 h) (fun x5 h6 =>
  if x5 = 0 then
  (rok (0 : Int32) h6)
  else
  (rok (1 : Int32) h6)))
  else
  (rok (0 : Int32) h)
noncomputable def f_X13_init (a0 : Nat) (a1 : Nat) (a2 : Int32) (a3 : Int32) (h : HP) : Rs Unit :=
  if a0 = 0 then none else (
  stR 14 170 a0 a1 h fun h1 =>
  stI 14 171 a0 a2 h1 fun h2 =>
  stI 14 172 a0 a3 h2 fun h3 =>
  rok () h3)
noncomputable def f_X9_is_b17 (a0 : Nat) (a1 : Nat) (h : HP) : Rs Int32 :=
  ldR 10 154 a0 h fun x1 =>
  txEq x1 a1 h fun x2 =>
  if x2 = 0 then
  (rok (0 : Int32) h)
  else
  (rok (1 : Int32) h)
noncomputable def f_X9_is (a0 : Nat) (a1 : Nat) (h : HP) : Rs Int32 :=
  ldI 10 151 a0 h fun x1 =>
  if x1 = (8 : Int32) then
  (f_X9_is_b17  a0 a1 h)
  else
  (ldI 10 151 a0 h fun x2 =>
  if x2 = (2 : Int32) then
  (f_X9_is_b17  a0 a1 h)
  else
  (rok (0 : Int32) h))
noncomputable def f_X9_isBlank (a0 : Int32) (h : HP) : Rs Int32 :=
  if a0 = (32 : Int32) then
  (rok (1 : Int32) h)
  else
  (if a0 = (9 : Int32) then
  (rok (1 : Int32) h)
  else
  (if a0 = (10 : Int32) then
  (rok (1 : Int32) h)
  else
  (if a0 = (13 : Int32) then
  (rok (1 : Int32) h)
  else
  (rok (0 : Int32) h))))
noncomputable def f_X9_isDigit (a0 : Int32) (h : HP) : Rs Int32 :=
  if a0 < (48 : Int32) then
  (rok (0 : Int32) h)
  else
  (if (57 : Int32) < a0 then
  (rok (0 : Int32) h)
  else
  (rok (1 : Int32) h))
noncomputable def f_X9_isLetter_b24 (a0 : Int32) (h : HP) : Rs Int32 :=
  if a0 = (95 : Int32) then
  (rok (1 : Int32) h)
  else
  (rok (0 : Int32) h)
noncomputable def f_X9_isLetter_b12 (a0 : Int32) (h : HP) : Rs Int32 :=
  if a0 < (65 : Int32) then
  (f_X9_isLetter_b24  a0 h)
  else
  (if a0 ≤ (90 : Int32) then
  (rok (1 : Int32) h)
  else
  (f_X9_isLetter_b24  a0 h))
noncomputable def f_X9_isLetter (a0 : Int32) (h : HP) : Rs Int32 :=
  if a0 < (97 : Int32) then
  (f_X9_isLetter_b12  a0 h)
  else
  (if a0 ≤ (122 : Int32) then
  (rok (1 : Int32) h)
  else
  (f_X9_isLetter_b12  a0 h))
noncomputable def f_X9_look (a0 : Nat) (a1 : Int32) (h : HP) : Rs Int32 :=
  ldI 10 149 a0 h fun x1 =>
  if x1 ≤ a1 then
  (rok (-1 : Int32) h)
  else
  (ldR 10 148 a0 h fun x2 =>
  aldI 1 x2 a1 h fun x3 =>
  rok (x3 &&& (255 : Int32)) h)
noncomputable def f_X9_set (a0 : Nat) (a1 : Int32) (a2 : Int32) (a3 : Nat) (h : HP) : Rs Unit :=
  stI 10 151 a0 a1 h fun h1 =>
  stI 10 153 a0 a2 h1 fun h2 =>
  stR 10 154 a0 a3 h2 fun h3 =>
  rok () h3
noncomputable def f_X9_wrong (a0 : Nat) (h : HP) : Rs Nat :=
  ldR 10 150 a0 h fun x1 =>
  ldI 10 152 a0 h fun x2 =>
  if kc h x1 = 2 then
  bd (f_X1_at x1 (1 : Int32) x2 h) (fun x3 h4 =>
  rok x3 h4)
  else none
noncomputable def f_X9_readCharacter (a0 : Nat) (a1 : Int32) (h : HP) : Rs Unit :=
  if kc h a0 = 10 then
  bd (f_X9_look a0 (a1 + (1 : Int32)) h) (fun x1 h2 =>
  if x1 < (32 : Int32) then
  (if kc h2 a0 = 10 then
  bd (f_X9_wrong a0 h2) (fun x3 h4 =>
  if kc h4 x3 = 69 then rex h4 else none)
  else none)
  else
  (if (126 : Int32) < x1 then
  (if kc h2 a0 = 10 then
  bd (f_X9_wrong a0 h2) (fun x5 h6 =>
  if kc h6 x5 = 69 then rex h6 else none)
  else none)
  else
  (if x1 = (39 : Int32) then
  (if kc h2 a0 = 10 then
  bd (f_X9_wrong a0 h2) (fun x7 h8 =>
  if kc h8 x7 = 69 then rex h8 else none)
  else none)
  else
  (if x1 = (92 : Int32) then
  (if kc h2 a0 = 10 then
  bd (f_X9_wrong a0 h2) (fun x9 h10 =>
  if kc h10 x9 = 69 then rex h10 else none)
  else none)
  else
  (if kc h2 a0 = 10 then
  bd (f_X9_look a0 (a1 + (2 : Int32)) h2) (fun x11 h12 =>
  if x11 = (39 : Int32) then
  (stJ 10 155 a0 (Int32.toInt64 x1) h12 fun h13 =>
  if kc h13 a0 = 10 then
  bd (f_X9_set a0 (6 : Int32) (a1 + (3 : Int32)) 1 h13) (fun _ h14 =>
  rok () h14)
  else none)
  else
  (if kc h12 a0 = 10 then
  bd (f_X9_wrong a0 h12) (fun x15 h16 =>
  if kc h16 x15 = 69 then rex h16 else none)
  else none))
  else none)))))
  else none
noncomputable def b_X9_part_l14 (v0 : Nat) (v2 : Int32) (v3 : Nat) (ih : Int32 → HP → Rs Unit) (a4 : Int32) (h : HP) : Rs Unit :=
  if v2 ≤ a4 then
  (rok () h)
  else
  (if kc h v0 = 10 then
  bd (f_X9_look v0 a4 h) (fun x1 h2 =>
  sbApC v3 (UInt32.toInt32 (Int32.toUInt32 x1 % 65536)) h2 fun h3 =>
  lt3 (a4 + 1) fun x4 =>
  ih x4 h3)
  else none)
noncomputable def f_X9_part_l14 (v0 : Nat) (v2 : Int32) (v3 : Nat) (n : Nat) : Int32 → HP → Rs Unit := @Nat.rec (fun _ => Int32 → HP → Rs Unit) (fun _ _ => none) (fun _ ih => b_X9_part_l14 v0 v2 v3 ih) n
noncomputable def f_X9_part (a0 : Nat) (a1 : Int32) (a2 : Int32) (h : HP) : Rs Nat :=
  nwC 72 4 h fun p1 h2 =>
  sbInitN p1 (a2 - a1) h2 fun h3 =>
  bd (f_X9_part_l14 a0 a2 p1 NN a1 h3) (fun x4 h5 => sbStr p1 h5 fun x6 h7 =>
  rok x6 h7)
noncomputable def f_X9_readName_l2b24 (v0 : Nat) (v1 : Int32) (ih : Int32 → HP → Rs Int32) (a2 : Int32) (h : HP) : Rs Int32 :=
  lt3 (a2 + 1) fun x1 =>
  ih x1 h
noncomputable def b_X9_readName_l2 (v0 : Nat) (v1 : Int32) (ih : Int32 → HP → Rs Int32) (a2 : Int32) (h : HP) : Rs Int32 :=
  if kc h v0 = 10 then
  bd (f_X9_look v0 a2 h) (fun x1 h2 =>
  bd (f_X9_isLetter x1 h2) (fun x3 h4 =>
  if x3 = 0 then
  (if kc h4 v0 = 10 then
  bd (f_X9_look v0 a2 h4) (fun x5 h6 =>
  bd (f_X9_isDigit x5 h6) (fun x7 h8 =>
  if x7 = 0 then
  (rok a2 h8)
  else
  (f_X9_readName_l2b24 v0 v1 ih a2 h8)))
  else none)
  else
  (f_X9_readName_l2b24 v0 v1 ih a2 h4)))
  else none
noncomputable def f_X9_readName_l2 (v0 : Nat) (v1 : Int32) (n : Nat) : Int32 → HP → Rs Int32 := @Nat.rec (fun _ => Int32 → HP → Rs Int32) (fun _ _ => none) (fun _ ih => b_X9_readName_l2 v0 v1 ih) n
noncomputable def f_X9_readName (a0 : Nat) (a1 : Int32) (h : HP) : Rs Unit :=
  bd (f_X9_readName_l2 a0 a1 NN a1 h) (fun x1 h2 => if kc h2 a0 = 10 then
  bd (f_X9_part a0 a1 x1 h2) (fun x3 h4 =>
  bd (f_X9_isIn 2 x3 h4) (fun x5 h6 =>
  if x5 = 0 then
  (if (x1 - a1) ≤ (30 : Int32) then
  (if kc h6 a0 = 10 then
  bd (f_X9_set a0 (1 : Int32) x1 x3 h6) (fun _ h7 =>
  rok () h7)
  else none)
  else
  (if kc h6 a0 = 10 then
  bd (f_X9_wrong a0 h6) (fun x8 h9 =>
  if kc h9 x8 = 69 then rex h9 else none)
  else none))
  else
  (if kc h6 a0 = 10 then
  bd (f_X9_set a0 (2 : Int32) x1 x3 h6) (fun _ h10 =>
  rok () h10)
  else none)))
  else none)
noncomputable def b_X9_readReal_l4 (v0 : Nat) (v1 : Int32) (v2 : Int32) (ih : Int32 → HP → Rs Int32) (a3 : Int32) (h : HP) : Rs Int32 :=
  if kc h v0 = 10 then
  bd (f_X9_look v0 a3 h) (fun x1 h2 =>
  bd (f_X9_isDigit x1 h2) (fun x3 h4 =>
  if x3 = 0 then
  (rok a3 h4)
  else
  (lt3 (a3 + 1) fun x5 =>
  ih x5 h4)))
  else none
noncomputable def f_X9_readReal_l4 (v0 : Nat) (v1 : Int32) (v2 : Int32) (n : Nat) : Int32 → HP → Rs Int32 := @Nat.rec (fun _ => Int32 → HP → Rs Int32) (fun _ _ => none) (fun _ ih => b_X9_readReal_l4 v0 v1 v2 ih) n
noncomputable def f_X9_readReal_l42b74 (v0 : Nat) (v2 : Int32) (v3 : Int32) (ih : Int64 → Int32 → HP → Rs Int64) (a4 : Int64) (a6 : Int32) (h : HP) : Rs Int64 :=
  lt3 (a6 + 1) fun x1 =>
  ih a4 x1 h
noncomputable def b_X9_readReal_l42 (v0 : Nat) (v2 : Int32) (v3 : Int32) (ih : Int64 → Int32 → HP → Rs Int64) (a4 : Int64) (a6 : Int32) (h : HP) : Rs Int64 :=
  if v3 ≤ a6 then
  (rok a4 h)
  else
  (if a6 = v2 then
  (f_X9_readReal_l42b74 v0 v2 v3 ih a4 a6 h)
  else
  (if kc h v0 = 10 then
  bd (f_X9_look v0 a6 h) (fun x1 h2 =>
  lt3 ((((10 : Int64) * a4) + (Int32.toInt64 x1)) - (48 : Int64)) fun x3 =>
  f_X9_readReal_l42b74 v0 v2 v3 ih x3 a6 h2)
  else none))
noncomputable def f_X9_readReal_l42 (v0 : Nat) (v2 : Int32) (v3 : Int32) (n : Nat) : Int64 → Int32 → HP → Rs Int64 := @Nat.rec (fun _ => Int64 → Int32 → HP → Rs Int64) (fun _ _ _ => none) (fun _ ih => b_X9_readReal_l42 v0 v2 v3 ih) n
noncomputable def b_X9_readReal_l88 (v0 : Nat) (v3 : Int32) (v4 : Int64) (ih : UInt64 → Int32 → HP → Rs UInt64) (a6 : UInt64) (a8 : Int32) (h : HP) : Rs UInt64 :=
  if v3 ≤ a8 then
  (rok a6 h)
  else
  (nD (FP.dmul a6 (4621819117588971520 : UInt64)) (
  lt3 (FP.dmul a6 (4621819117588971520 : UInt64)) fun x1 =>
  lt3 (a8 + 1) fun x2 =>
  ih x1 x2 h))
noncomputable def f_X9_readReal_l88 (v0 : Nat) (v3 : Int32) (v4 : Int64) (n : Nat) : UInt64 → Int32 → HP → Rs UInt64 := @Nat.rec (fun _ => UInt64 → Int32 → HP → Rs UInt64) (fun _ _ _ => none) (fun _ ih => b_X9_readReal_l88 v0 v3 v4 ih) n
noncomputable def f_X9_readReal (a0 : Nat) (a1 : Int32) (a2 : Int32) (h : HP) : Rs Unit :=
  lt3 (a2 + (1 : Int32)) fun x1 =>
  bd (f_X9_readReal_l4 a0 a1 a2 NN x1 h) (fun x2 h3 => if ((x2 - a1) - (1 : Int32)) ≤ (15 : Int32) then
  (bd (f_X9_readReal_l42 a0 a2 x2 NN (0 : Int64) a1 h3) (fun x4 h5 => lt3 (a2 + (1 : Int32)) fun x6 =>
  bd (f_X9_readReal_l88 a0 x2 x4 NN FP.dconst1 x6 h5) (fun x7 h8 => nD (FP.ddiv (FP.l2d x4) x7) (
  nD (FP.ddiv (FP.l2d x4) x7) (
  stJ 10 155 a0 (jOfD (FP.ddiv (FP.l2d x4) x7)) h8 fun h9 =>
  if kc h9 a0 = 10 then
  bd (f_X9_set a0 (5 : Int32) x2 1 h9) (fun _ h10 =>
  rok () h10)
  else none)))))
  else
  (if kc h3 a0 = 10 then
  bd (f_X9_wrong a0 h3) (fun x11 h12 =>
  if kc h12 x11 = 69 then rex h12 else none)
  else none))
noncomputable def b_X9_readNumber_l2 (v0 : Nat) (v1 : Int32) (ih : Int32 → HP → Rs Int32) (a2 : Int32) (h : HP) : Rs Int32 :=
  if kc h v0 = 10 then
  bd (f_X9_look v0 a2 h) (fun x1 h2 =>
  bd (f_X9_isDigit x1 h2) (fun x3 h4 =>
  if x3 = 0 then
  (rok a2 h4)
  else
  (lt3 (a2 + 1) fun x5 =>
  ih x5 h4)))
  else none
noncomputable def f_X9_readNumber_l2 (v0 : Nat) (v1 : Int32) (n : Nat) : Int32 → HP → Rs Int32 := @Nat.rec (fun _ => Int32 → HP → Rs Int32) (fun _ _ => none) (fun _ ih => b_X9_readNumber_l2 v0 v1 ih) n
noncomputable def b_X9_readNumber_l86 (v0 : Nat) (v2 : Int32) (v3 : Int32) (v4 : Int64) (ih : Int64 → Int32 → HP → Rs (Unit ⊕ Int64)) (a6 : Int64) (a8 : Int32) (h : HP) : Rs (Unit ⊕ Int64) :=
  if v2 ≤ a8 then
  (rok (Sum.inr a6) h)
  else
  (if kc h v0 = 10 then
  bd (f_X9_look v0 a8 h) (fun x1 h2 =>
  lt3 (x1 - (48 : Int32)) fun x3 =>
  dvJ (10 : Int64) (
  if (lg_cmp a6 ((v4 - (Int32.toInt64 x3)) / (10 : Int64))) ≤ 0 then
  (lt3 (((10 : Int64) * a6) + (Int32.toInt64 x3)) fun x4 =>
  lt3 (a8 + 1) fun x5 =>
  ih x4 x5 h2)
  else
  (rok (Sum.inl ()) h2)))
  else none)
noncomputable def f_X9_readNumber_l86 (v0 : Nat) (v2 : Int32) (v3 : Int32) (v4 : Int64) (n : Nat) : Int64 → Int32 → HP → Rs (Unit ⊕ Int64) := @Nat.rec (fun _ => Int64 → Int32 → HP → Rs (Unit ⊕ Int64)) (fun _ _ _ => none) (fun _ ih => b_X9_readNumber_l86 v0 v2 v3 v4 ih) n
noncomputable def f_X9_readNumber_b158 (a2 : Int32) (a3 : Int32) (s0 : Nat) (s1 : Int32) (h : HP) : Rs Unit :=
  if a3 = 0 then
  (if kc h s0 = 10 then
  bd (f_X9_set s0 s1 a2 1 h) (fun _ h1 =>
  rok () h1)
  else none)
  else
  (if kc h s0 = 10 then
  bd (f_X9_set s0 s1 (a2 + (1 : Int32)) 1 h) (fun _ h2 =>
  rok () h2)
  else none)
noncomputable def f_X9_readNumber_b78 (a0 : Nat) (a1 : Int32) (a2 : Int32) (a3 : Int32) (s0 : Int64) (h : HP) : Rs Unit :=
  bd (f_X9_readNumber_l86 a0 a2 a3 s0 NN (0 : Int64) a1 h) (Sum.elim (fun x1 => fun h2 => if kc h2 a0 = 10 then
  bd (f_X9_wrong a0 h2) (fun x3 h4 =>
  if kc h4 x3 = 69 then rex h4 else none)
  else none) (fun x5 => fun h6 => stJ 10 155 a0 x5 h6 fun h7 =>
  if a3 = 0 then
  (f_X9_readNumber_b158  a2 a3 a0 (3 : Int32) h7)
  else
  (f_X9_readNumber_b158  a2 a3 a0 (4 : Int32) h7)))
noncomputable def f_X9_readNumber_b64 (a0 : Nat) (a1 : Int32) (a2 : Int32) (s0 : Int32) (h : HP) : Rs Unit :=
  if s0 = 0 then
  (f_X9_readNumber_b78  a0 a1 a2 s0 (2147483647 : Int64) h)
  else
  (f_X9_readNumber_b78  a0 a1 a2 s0 (9223372036854775807 : Int64) h)
noncomputable def f_X9_readNumber_b49 (a0 : Nat) (a1 : Int32) (a2 : Int32) (h : HP) : Rs Unit :=
  if kc h a0 = 10 then
  bd (f_X9_look a0 a2 h) (fun x1 h2 =>
  if x1 = (76 : Int32) then
  (f_X9_readNumber_b64  a0 a1 a2 (1 : Int32) h2)
  else
  (f_X9_readNumber_b64  a0 a1 a2 (0 : Int32) h2))
  else none
noncomputable def f_X9_readNumber (a0 : Nat) (a1 : Int32) (h : HP) : Rs Unit :=
  bd (f_X9_readNumber_l2 a0 a1 NN a1 h) (fun x1 h2 => if kc h2 a0 = 10 then
  bd (f_X9_look a0 x1 h2) (fun x3 h4 =>
  if x3 = (46 : Int32) then
  (if kc h4 a0 = 10 then
  bd (f_X9_look a0 (x1 + (1 : Int32)) h4) (fun x5 h6 =>
  bd (f_X9_isDigit x5 h6) (fun x7 h8 =>
  if x7 = 0 then
  (f_X9_readNumber_b49  a0 a1 x1 h8)
  else
  (if kc h8 a0 = 10 then
  bd (f_X9_readReal a0 a1 x1 h8) (fun _ h9 =>
  rok () h9)
  else none)))
  else none)
  else
  (f_X9_readNumber_b49  a0 a1 x1 h4))
  else none)
noncomputable def f_X9_sign_b543 (a1 : Int32) (h : HP) : Rs Nat :=
  if a1 = (1 : Int32) then
  (rok 74 h)
  else
  (rok 75 h)
noncomputable def f_X9_sign (a0 : Int32) (a1 : Int32) (a2 : Int32) (h : HP) : Rs Nat :=
  if a0 = 33 then
  (if a1 = (1 : Int32) then
  (rok 4 h)
  else
  (rok 5 h))
  else
  if a0 = 34 then
  (f_X9_sign_b543  a1 h)
  else
  if a0 = 35 then
  (f_X9_sign_b543  a1 h)
  else
  if a0 = 36 then
  (f_X9_sign_b543  a1 h)
  else
  if a0 = 37 then
  (rok 6 h)
  else
  if a0 = 38 then
  (if a1 = (1 : Int32) then
  (rok 7 h)
  else
  (rok 8 h))
  else
  if a0 = 39 then
  (f_X9_sign_b543  a1 h)
  else
  if a0 = 40 then
  (rok 9 h)
  else
  if a0 = 41 then
  (rok 10 h)
  else
  if a0 = 42 then
  (rok 11 h)
  else
  if a0 = 43 then
  (rok 12 h)
  else
  if a0 = 44 then
  (rok 13 h)
  else
  if a0 = 45 then
  (rok 14 h)
  else
  if a0 = 46 then
  (rok 15 h)
  else
  if a0 = 47 then
  (rok 16 h)
  else
  if a0 = 48 then
  (f_X9_sign_b543  a1 h)
  else
  if a0 = 49 then
  (f_X9_sign_b543  a1 h)
  else
  if a0 = 50 then
  (f_X9_sign_b543  a1 h)
  else
  if a0 = 51 then
  (f_X9_sign_b543  a1 h)
  else
  if a0 = 52 then
  (f_X9_sign_b543  a1 h)
  else
  if a0 = 53 then
  (f_X9_sign_b543  a1 h)
  else
  if a0 = 54 then
  (f_X9_sign_b543  a1 h)
  else
  if a0 = 55 then
  (f_X9_sign_b543  a1 h)
  else
  if a0 = 56 then
  (f_X9_sign_b543  a1 h)
  else
  if a0 = 57 then
  (f_X9_sign_b543  a1 h)
  else
  if a0 = 58 then
  (rok 17 h)
  else
  if a0 = 59 then
  (rok 18 h)
  else
  if a0 = 60 then
  (if a1 = (1 : Int32) then
  (rok 19 h)
  else
  (if a2 = (60 : Int32) then
  (rok 20 h)
  else
  (rok 21 h)))
  else
  if a0 = 61 then
  (if a1 = (1 : Int32) then
  (rok 22 h)
  else
  (rok 23 h))
  else
  if a0 = 62 then
  (if a1 = (1 : Int32) then
  (rok 24 h)
  else
  (if a1 = (3 : Int32) then
  (rok 27 h)
  else
  (if a2 = (62 : Int32) then
  (rok 26 h)
  else
  (rok 25 h))))
  else
  if a0 = 63 then
  (rok 28 h)
  else
  if a0 = 64 then
  (f_X9_sign_b543  a1 h)
  else
  if a0 = 65 then
  (f_X9_sign_b543  a1 h)
  else
  if a0 = 66 then
  (f_X9_sign_b543  a1 h)
  else
  if a0 = 67 then
  (f_X9_sign_b543  a1 h)
  else
  if a0 = 68 then
  (f_X9_sign_b543  a1 h)
  else
  if a0 = 69 then
  (f_X9_sign_b543  a1 h)
  else
  if a0 = 70 then
  (f_X9_sign_b543  a1 h)
  else
  if a0 = 71 then
  (f_X9_sign_b543  a1 h)
  else
  if a0 = 72 then
  (f_X9_sign_b543  a1 h)
  else
  if a0 = 73 then
  (f_X9_sign_b543  a1 h)
  else
  if a0 = 74 then
  (f_X9_sign_b543  a1 h)
  else
  if a0 = 75 then
  (f_X9_sign_b543  a1 h)
  else
  if a0 = 76 then
  (f_X9_sign_b543  a1 h)
  else
  if a0 = 77 then
  (f_X9_sign_b543  a1 h)
  else
  if a0 = 78 then
  (f_X9_sign_b543  a1 h)
  else
  if a0 = 79 then
  (f_X9_sign_b543  a1 h)
  else
  if a0 = 80 then
  (f_X9_sign_b543  a1 h)
  else
  if a0 = 81 then
  (f_X9_sign_b543  a1 h)
  else
  if a0 = 82 then
  (f_X9_sign_b543  a1 h)
  else
  if a0 = 83 then
  (f_X9_sign_b543  a1 h)
  else
  if a0 = 84 then
  (f_X9_sign_b543  a1 h)
  else
  if a0 = 85 then
  (f_X9_sign_b543  a1 h)
  else
  if a0 = 86 then
  (f_X9_sign_b543  a1 h)
  else
  if a0 = 87 then
  (f_X9_sign_b543  a1 h)
  else
  if a0 = 88 then
  (f_X9_sign_b543  a1 h)
  else
  if a0 = 89 then
  (f_X9_sign_b543  a1 h)
  else
  if a0 = 90 then
  (f_X9_sign_b543  a1 h)
  else
  if a0 = 91 then
  (rok 33 h)
  else
  if a0 = 92 then
  (f_X9_sign_b543  a1 h)
  else
  if a0 = 93 then
  (rok 34 h)
  else
  if a0 = 94 then
  (rok 35 h)
  else
  if a0 = 95 then
  (f_X9_sign_b543  a1 h)
  else
  if a0 = 96 then
  (f_X9_sign_b543  a1 h)
  else
  if a0 = 97 then
  (f_X9_sign_b543  a1 h)
  else
  if a0 = 98 then
  (f_X9_sign_b543  a1 h)
  else
  if a0 = 99 then
  (f_X9_sign_b543  a1 h)
  else
  if a0 = 100 then
  (f_X9_sign_b543  a1 h)
  else
  if a0 = 101 then
  (f_X9_sign_b543  a1 h)
  else
  if a0 = 102 then
  (f_X9_sign_b543  a1 h)
  else
  if a0 = 103 then
  (f_X9_sign_b543  a1 h)
  else
  if a0 = 104 then
  (f_X9_sign_b543  a1 h)
  else
  if a0 = 105 then
  (f_X9_sign_b543  a1 h)
  else
  if a0 = 106 then
  (f_X9_sign_b543  a1 h)
  else
  if a0 = 107 then
  (f_X9_sign_b543  a1 h)
  else
  if a0 = 108 then
  (f_X9_sign_b543  a1 h)
  else
  if a0 = 109 then
  (f_X9_sign_b543  a1 h)
  else
  if a0 = 110 then
  (f_X9_sign_b543  a1 h)
  else
  if a0 = 111 then
  (f_X9_sign_b543  a1 h)
  else
  if a0 = 112 then
  (f_X9_sign_b543  a1 h)
  else
  if a0 = 113 then
  (f_X9_sign_b543  a1 h)
  else
  if a0 = 114 then
  (f_X9_sign_b543  a1 h)
  else
  if a0 = 115 then
  (f_X9_sign_b543  a1 h)
  else
  if a0 = 116 then
  (f_X9_sign_b543  a1 h)
  else
  if a0 = 117 then
  (f_X9_sign_b543  a1 h)
  else
  if a0 = 118 then
  (f_X9_sign_b543  a1 h)
  else
  if a0 = 119 then
  (f_X9_sign_b543  a1 h)
  else
  if a0 = 120 then
  (f_X9_sign_b543  a1 h)
  else
  if a0 = 121 then
  (f_X9_sign_b543  a1 h)
  else
  if a0 = 122 then
  (f_X9_sign_b543  a1 h)
  else
  if a0 = 123 then
  (rok 72 h)
  else
  if a0 = 124 then
  (f_X9_sign_b543  a1 h)
  else
  if a0 = 125 then
  (rok 76 h)
  else
  if a0 = 126 then
  (rok 77 h)
  else
  (f_X9_sign_b543  a1 h)
noncomputable def f_X9_readSign_b142 (a0 : Nat) (a1 : Int32) (a2 : Int32) (a3 : Int32) (a4 : Int32) (h : HP) : Rs Unit :=
  bd (f_X9_sign a2 a4 a3 h) (fun x1 h2 =>
  if kc h2 a0 = 10 then
  bd (f_X9_set a0 (8 : Int32) (a1 + a4) x1 h2) (fun _ h3 =>
  rok () h3)
  else none)
noncomputable def f_X9_readSign_b115 (a0 : Nat) (a1 : Int32) (a2 : Int32) (a3 : Int32) (a4 : Int32) (h : HP) : Rs Unit :=
  if a4 = (1 : Int32) then
  (if (126 : Int32) < a2 then
  (if kc h a0 = 10 then
  bd (f_X9_wrong a0 h) (fun x1 h2 =>
  if kc h2 x1 = 69 then rex h2 else none)
  else none)
  else
  (txIdx 73 (UInt32.toInt32 (Int32.toUInt32 a2 % 65536)) h fun x3 =>
  if 0 ≤ x3 then
  (f_X9_readSign_b142  a0 a1 a2 a3 a4 h)
  else
  (if kc h a0 = 10 then
  bd (f_X9_wrong a0 h) (fun x4 h5 =>
  if kc h5 x4 = 69 then rex h5 else none)
  else none)))
  else
  (f_X9_readSign_b142  a0 a1 a2 a3 a4 h)
noncomputable def f_X9_readSign_b112 (a0 : Nat) (a1 : Int32) (a2 : Int32) (a3 : Int32) (h : HP) : Rs Unit :=
  f_X9_readSign_b115  a0 a1 a2 a3 (2 : Int32) h
noncomputable def f_X9_readSign_b107 (a0 : Nat) (a1 : Int32) (a2 : Int32) (a3 : Int32) (a4 : Int32) (h : HP) : Rs Unit :=
  if a3 = a2 then
  (f_X9_readSign_b112  a0 a1 a2 a3 h)
  else
  (f_X9_readSign_b115  a0 a1 a2 a3 a4 h)
noncomputable def f_X9_readSign_b95 (a0 : Nat) (a1 : Int32) (a2 : Int32) (a3 : Int32) (a4 : Int32) (h : HP) : Rs Unit :=
  if a2 = (38 : Int32) then
  (f_X9_readSign_b107  a0 a1 a2 a3 a4 h)
  else
  (if a2 = (124 : Int32) then
  (f_X9_readSign_b107  a0 a1 a2 a3 a4 h)
  else
  (f_X9_readSign_b115  a0 a1 a2 a3 a4 h))
noncomputable def f_X9_readSign_b89 (a0 : Nat) (a1 : Int32) (a2 : Int32) (a3 : Int32) (a4 : Int32) (h : HP) : Rs Unit :=
  if a3 = (61 : Int32) then
  (f_X9_readSign_b112  a0 a1 a2 a3 h)
  else
  (f_X9_readSign_b95  a0 a1 a2 a3 a4 h)
noncomputable def f_X9_readSign_b77 (a0 : Nat) (a1 : Int32) (a2 : Int32) (a3 : Int32) (a4 : Int32) (h : HP) : Rs Unit :=
  if a2 = (61 : Int32) then
  (f_X9_readSign_b89  a0 a1 a2 a3 a4 h)
  else
  (if a2 = (33 : Int32) then
  (f_X9_readSign_b89  a0 a1 a2 a3 a4 h)
  else
  (f_X9_readSign_b95  a0 a1 a2 a3 a4 h))
noncomputable def f_X9_readSign_b59 (a0 : Nat) (a1 : Int32) (a2 : Int32) (a3 : Int32) (a4 : Int32) (h : HP) : Rs Unit :=
  if a2 = (62 : Int32) then
  (if a3 = (62 : Int32) then
  (f_X9_readSign_b112  a0 a1 a2 a3 h)
  else
  (if a3 = (61 : Int32) then
  (f_X9_readSign_b112  a0 a1 a2 a3 h)
  else
  (f_X9_readSign_b77  a0 a1 a2 a3 a4 h)))
  else
  (f_X9_readSign_b77  a0 a1 a2 a3 a4 h)
noncomputable def f_X9_readSign_b41 (a0 : Nat) (a1 : Int32) (a2 : Int32) (a3 : Int32) (a4 : Int32) (h : HP) : Rs Unit :=
  if a2 = (60 : Int32) then
  (if a3 = (60 : Int32) then
  (f_X9_readSign_b112  a0 a1 a2 a3 h)
  else
  (if a3 = (61 : Int32) then
  (f_X9_readSign_b112  a0 a1 a2 a3 h)
  else
  (f_X9_readSign_b59  a0 a1 a2 a3 a4 h)))
  else
  (f_X9_readSign_b59  a0 a1 a2 a3 a4 h)
noncomputable def f_X9_readSign (a0 : Nat) (a1 : Int32) (a2 : Int32) (h : HP) : Rs Unit :=
  if kc h a0 = 10 then
  bd (f_X9_look a0 (a1 + (1 : Int32)) h) (fun x1 h2 =>
  if a2 = (62 : Int32) then
  (if x1 = (62 : Int32) then
  (if kc h2 a0 = 10 then
  bd (f_X9_look a0 (a1 + (2 : Int32)) h2) (fun x3 h4 =>
  if x3 = (62 : Int32) then
  (f_X9_readSign_b115  a0 a1 a2 x1 (3 : Int32) h4)
  else
  (f_X9_readSign_b41  a0 a1 a2 x1 (1 : Int32) h4))
  else none)
  else
  (f_X9_readSign_b41  a0 a1 a2 x1 (1 : Int32) h2))
  else
  (f_X9_readSign_b41  a0 a1 a2 x1 (1 : Int32) h2))
  else none
noncomputable def b_X9_readString_l4 (v0 : Nat) (v1 : Int32) (ih : Int32 → HP → Rs (Unit ⊕ Int32)) (a2 : Int32) (h : HP) : Rs (Unit ⊕ Int32) :=
  if kc h v0 = 10 then
  bd (f_X9_look v0 a2 h) (fun x1 h2 =>
  if x1 = (34 : Int32) then
  (rok (Sum.inr a2) h2)
  else
  (if kc h2 v0 = 10 then
  bd (f_X9_look v0 a2 h2) (fun x3 h4 =>
  if x3 < (32 : Int32) then
  (rok (Sum.inl ()) h4)
  else
  (if (126 : Int32) < x3 then
  (rok (Sum.inl ()) h4)
  else
  (if x3 = (92 : Int32) then
  (rok (Sum.inl ()) h4)
  else
  (if (a2 - v1) ≤ (100 : Int32) then
  (lt3 (a2 + 1) fun x5 =>
  ih x5 h4)
  else
  (rok (Sum.inl ()) h4)))))
  else none))
  else none
noncomputable def f_X9_readString_l4 (v0 : Nat) (v1 : Int32) (n : Nat) : Int32 → HP → Rs (Unit ⊕ Int32) := @Nat.rec (fun _ => Int32 → HP → Rs (Unit ⊕ Int32)) (fun _ _ => none) (fun _ ih => b_X9_readString_l4 v0 v1 ih) n
noncomputable def f_X9_readString (a0 : Nat) (a1 : Int32) (h : HP) : Rs Unit :=
  lt3 (a1 + (1 : Int32)) fun x1 =>
  bd (f_X9_readString_l4 a0 a1 NN x1 h) (Sum.elim (fun x2 => fun h3 => if kc h3 a0 = 10 then
  bd (f_X9_wrong a0 h3) (fun x4 h5 =>
  if kc h5 x4 = 69 then rex h5 else none)
  else none) (fun x6 => fun h7 => if kc h7 a0 = 10 then
  bd (f_X9_part a0 (a1 + (1 : Int32)) x6 h7) (fun x8 h9 =>
  if kc h9 a0 = 10 then
  bd (f_X9_set a0 (7 : Int32) (x6 + (1 : Int32)) x8 h9) (fun _ h10 =>
  rok () h10)
  else none)
  else none))
noncomputable def b_X9_next_l5 (v0 : Nat) (ih : Int32 → HP → Rs Int32) (a1 : Int32) (h : HP) : Rs Int32 :=
  if kc h v0 = 10 then
  bd (f_X9_look v0 a1 h) (fun x1 h2 =>
  bd (f_X9_isBlank x1 h2) (fun x3 h4 =>
  if x3 = 0 then
  (rok a1 h4)
  else
  (lt3 (a1 + 1) fun x5 =>
  ih x5 h4)))
  else none
noncomputable def f_X9_next_l5 (v0 : Nat) (n : Nat) : Int32 → HP → Rs Int32 := @Nat.rec (fun _ => Int32 → HP → Rs Int32) (fun _ _ => none) (fun _ ih => b_X9_next_l5 v0 ih) n
noncomputable def f_X9_next (a0 : Nat) (h : HP) : Rs Unit :=
  ldI 10 153 a0 h fun x1 =>
  bd (f_X9_next_l5 a0 NN x1 h) (fun x2 h3 => stI 10 152 a0 x2 h3 fun h4 =>
  if kc h4 a0 = 10 then
  bd (f_X9_look a0 x2 h4) (fun x5 h6 =>
  if 0 ≤ x5 then
  (bd (f_X9_isLetter x5 h6) (fun x7 h8 =>
  if x7 = 0 then
  (bd (f_X9_isDigit x5 h8) (fun x9 h10 =>
  if x9 = 0 then
  (if x5 = (39 : Int32) then
  (if kc h10 a0 = 10 then
  bd (f_X9_readCharacter a0 x2 h10) (fun _ h13 =>
  rok () h13)
  else none)
  else
  (if x5 = (34 : Int32) then
  (if kc h10 a0 = 10 then
  bd (f_X9_readString a0 x2 h10) (fun _ h12 =>
  rok () h12)
  else none)
  else
  (if kc h10 a0 = 10 then
  bd (f_X9_readSign a0 x2 x5 h10) (fun _ h11 =>
  rok () h11)
  else none)))
  else
  (if kc h10 a0 = 10 then
  bd (f_X9_readNumber a0 x2 h10) (fun _ h14 =>
  rok () h14)
  else none)))
  else
  (if kc h8 a0 = 10 then
  bd (f_X9_readName a0 x2 h8) (fun _ h15 =>
  rok () h15)
  else none)))
  else
  (if kc h6 a0 = 10 then
  bd (f_X9_set a0 (0 : Int32) x2 1 h6) (fun _ h16 =>
  rok () h16)
  else none))
  else none)
noncomputable def f_X9_expect (a0 : Nat) (a1 : Nat) (h : HP) : Rs Unit :=
  if kc h a0 = 10 then
  bd (f_X9_is a0 a1 h) (fun x1 h2 =>
  if x1 = 0 then
  (if kc h2 a0 = 10 then
  bd (f_X9_wrong a0 h2) (fun x4 h5 =>
  if kc h5 x4 = 69 then rex h5 else none)
  else none)
  else
  (if kc h2 a0 = 10 then
  bd (f_X9_next a0 h2) (fun _ h3 =>
  rok () h3)
  else none))
  else none
noncomputable def b_X10_type_l51 (v0 : Nat) (v1 : Int32) (v2 : Nat) (ih : Int32 → HP → Rs (Unit ⊕ Int32)) (a3 : Int32) (h : HP) : Rs (Unit ⊕ Int32) :=
  ldMR ksParser 156 v0 h fun x1 =>
  if kc h x1 = 10 then
  bd (f_X9_is x1 33 h) (fun x2 h3 =>
  if x2 = 0 then
  (rok (Sum.inr a3) h3)
  else
  (if a3 = (8 : Int32) then
  (rok (Sum.inl ()) h3)
  else
  (ldMR ksParser 156 v0 h3 fun x4 =>
  if kc h3 x4 = 10 then
  bd (f_X9_next x4 h3) (fun _ h5 =>
  ldMR ksParser 156 v0 h5 fun x6 =>
  if kc h5 x6 = 10 then
  bd (f_X9_expect x6 34 h5) (fun _ h7 =>
  lt3 (a3 + 1) fun x8 =>
  ih x8 h7)
  else none)
  else none)))
  else none
noncomputable def f_X10_type_l51 (v0 : Nat) (v1 : Int32) (v2 : Nat) (n : Nat) : Int32 → HP → Rs (Unit ⊕ Int32) := @Nat.rec (fun _ => Int32 → HP → Rs (Unit ⊕ Int32)) (fun _ _ => none) (fun _ ih => b_X10_type_l51 v0 v1 v2 ih) n
noncomputable def f_X10_type_b42 (a0 : Nat) (a1 : Int32) (a2 : Nat) (h : HP) : Rs Nat :=
  ldMR ksParser 156 a0 h fun x1 =>
  if kc h x1 = 10 then
  bd (f_X9_next x1 h) (fun _ h2 =>
  bd (f_X10_type_l51 a0 a1 a2 NN (0 : Int32) h2) (Sum.elim (fun x3 => fun h4 => ldMR ksParser 156 a0 h4 fun x5 =>
  if kc h4 x5 = 10 then
  bd (f_X9_wrong x5 h4) (fun x6 h7 =>
  if kc h7 x6 = 69 then rex h7 else none)
  else none) (fun x8 => fun h9 => nwO 14 4 h9 fun p10 h11 =>
  if kc h11 p10 = 14 then
  bd (f_X13_init p10 a2 a1 x8 h11) (fun _ h12 =>
  ldMR ksParser 158 a0 h12 fun x13 =>
  lsAdd x13 p10 h12 fun h14 =>
  rok p10 h14)
  else none)))
  else none
noncomputable def f_X10_type (a0 : Nat) (h : HP) : Rs Nat :=
  ldMR ksParser 156 a0 h fun x1 =>
  ldI 10 152 x1 h fun x2 =>
  ldMR ksParser 156 a0 h fun x3 =>
  ldR 10 154 x3 h fun x4 =>
  ldMR ksParser 156 a0 h fun x5 =>
  ldI 10 151 x5 h fun x6 =>
  if x6 = (1 : Int32) then
  (f_X10_type_b42  a0 x2 x4 h)
  else
  (if kc h a0 ∈ [11, 12] then
  bd (f_X10_isPlainWord a0 h) (fun x7 h8 =>
  if x7 = 0 then
  (ldMR ksParser 156 a0 h8 fun x9 =>
  if kc h8 x9 = 10 then
  bd (f_X9_wrong x9 h8) (fun x10 h11 =>
  if kc h11 x10 = 69 then rex h11 else none)
  else none)
  else
  (f_X10_type_b42  a0 x2 x4 h8))
  else none)
noncomputable def f_X10_deeper (a0 : Nat) (a1 : Int32) (h : HP) : Rs Int32 :=
  if a1 = (30 : Int32) then
  (ldMR ksParser 156 a0 h fun x1 =>
  if kc h x1 = 10 then
  bd (f_X9_wrong x1 h) (fun x2 h3 =>
  if kc h3 x2 = 69 then rex h3 else none)
  else none)
  else
  (rok (a1 + (1 : Int32)) h)
noncomputable def b_X10_isIn_l2 (v0 : Nat) (v1 : Nat) (ih : Int32 → HP → Rs (Unit ⊕ Unit)) (a2 : Int32) (h : HP) : Rs (Unit ⊕ Unit) :=
  lsSize v0 h fun x1 =>
  if x1 ≤ a2 then
  (rok (Sum.inr ()) h)
  else
  (lsGet v0 a2 h fun x2 =>
  castR [71] x2 h (
  txEq x2 v1 h fun x3 =>
  if x3 = 0 then
  (lt3 (a2 + 1) fun x4 =>
  ih x4 h)
  else
  (rok (Sum.inl ()) h)))
noncomputable def f_X10_isIn_l2 (v0 : Nat) (v1 : Nat) (n : Nat) : Int32 → HP → Rs (Unit ⊕ Unit) := @Nat.rec (fun _ => Int32 → HP → Rs (Unit ⊕ Unit)) (fun _ _ => none) (fun _ ih => b_X10_isIn_l2 v0 v1 ih) n
noncomputable def f_X10_isIn (a0 : Nat) (a1 : Nat) (h : HP) : Rs Int32 :=
  bd (f_X10_isIn_l2 a0 a1 NN (0 : Int32) h) (Sum.elim (fun x1 => fun h2 => rok (1 : Int32) h2) (fun x3 => fun h4 => rok (0 : Int32) h4))
noncomputable def f_X15_over (a0 : Nat) (a1 : Nat) (h : HP) : Rs Nat :=
  ldMI ksNode 184 a0 h fun x1 =>
  ldMI ksNode 184 a1 h fun x2 =>
  stMI ksNode 184 a0 (mxI x1 (x2 + (1 : Int32))) h fun h3 =>
  rok a0 h3
noncomputable def f_X15_init (a0 : Nat) (a1 : Int32) (h : HP) : Rs Unit :=
  if a0 = 0 then none else (
  stMI ksNode 184 a0 (1 : Int32) h fun h1 =>
  stMI ksNode 182 a0 a1 h1 fun h2 =>
  rok () h2)
noncomputable def f_X20_init (a0 : Nat) (a1 : Int32) (a2 : Nat) (a3 : Nat) (a4 : Nat) (h : HP) : Rs Unit :=
  if kc h a0 = 20 then
  bd (f_X15_init a0 a1 h) (fun _ h1 =>
  stR 20 191 a0 a2 h1 fun h2 =>
  stR 20 192 a0 a3 h2 fun h3 =>
  stR 20 193 a0 a4 h3 fun h4 =>
  rok () h4)
  else none
noncomputable def f_X9_accept (a0 : Nat) (a1 : Nat) (h : HP) : Rs Int32 :=
  if kc h a0 = 10 then
  bd (f_X9_is a0 a1 h) (fun x1 h2 =>
  if x1 = 0 then
  (rok (0 : Int32) h2)
  else
  (if kc h2 a0 = 10 then
  bd (f_X9_next a0 h2) (fun _ h3 =>
  rok (1 : Int32) h3)
  else none))
  else none
noncomputable def f_X22_init (a0 : Nat) (a1 : Int32) (a2 : Nat) (a3 : Nat) (h : HP) : Rs Unit :=
  if kc h a0 = 22 then
  bd (f_X15_init a0 a1 h) (fun _ h1 =>
  stR 22 199 a0 a2 h1 fun h2 =>
  stR 22 200 a0 a3 h2 fun h3 =>
  rok () h3)
  else none
noncomputable def f_X23_init (a0 : Nat) (a1 : Int32) (a2 : Nat) (a3 : Nat) (h : HP) : Rs Unit :=
  if kc h a0 = 23 then
  bd (f_X15_init a0 a1 h) (fun _ h1 =>
  stR 23 201 a0 a2 h1 fun h2 =>
  stR 23 202 a0 a3 h2 fun h3 =>
  rok () h3)
  else none
noncomputable def f_X9_name (a0 : Nat) (h : HP) : Rs Nat :=
  ldI 10 151 a0 h fun x1 =>
  if x1 = (1 : Int32) then
  (ldR 10 154 a0 h fun x2 =>
  if kc h a0 = 10 then
  bd (f_X9_next a0 h) (fun _ h3 =>
  rok x2 h3)
  else none)
  else
  (if kc h a0 = 10 then
  bd (f_X9_wrong a0 h) (fun x4 h5 =>
  if kc h5 x4 = 69 then rex h5 else none)
  else none)
noncomputable def f_X17_init (a0 : Nat) (a1 : Int32) (a2 : Int32) (a3 : Int64) (h : HP) : Rs Unit :=
  if kc h a0 = 17 then
  bd (f_X15_init a0 a1 h) (fun _ h1 =>
  stI 17 187 a0 a2 h1 fun h2 =>
  stJ 17 188 a0 a3 h2 fun h3 =>
  rok () h3)
  else none
noncomputable def f_X18_init (a0 : Nat) (a1 : Int32) (a2 : Nat) (h : HP) : Rs Unit :=
  if kc h a0 = 18 then
  bd (f_X15_init a0 a1 h) (fun _ h1 =>
  stR 18 189 a0 a2 h1 fun h2 =>
  rok () h2)
  else none
noncomputable def f_X19_init (a0 : Nat) (a1 : Int32) (h : HP) : Rs Unit :=
  if kc h a0 = 19 then
  bd (f_X15_init a0 a1 h) (fun _ h1 =>
  rok () h1)
  else none
noncomputable def f_X21_init (a0 : Nat) (a1 : Int32) (a2 : Nat) (h : HP) : Rs Unit :=
  if kc h a0 = 21 then
  bd (f_X15_init a0 a1 h) (fun _ h1 =>
  stR 21 196 a0 a2 h1 fun h2 =>
  rok () h2)
  else none
noncomputable def f_X16_init (a0 : Nat) (a1 : Int32) (a2 : Int32) (a3 : Nat) (h : HP) : Rs Unit :=
  if kc h a0 = 16 then
  bd (f_X15_init a0 a1 h) (fun _ h1 =>
  stC 16 185 a0 a2 h1 fun h2 =>
  stR 16 186 a0 a3 h2 fun h3 =>
  rok () h3)
  else none
noncomputable def f_X24_init (a0 : Nat) (a1 : Int32) (a2 : Nat) (a3 : Nat) (h : HP) : Rs Unit :=
  if kc h a0 = 24 then
  bd (f_X15_init a0 a1 h) (fun _ h1 =>
  stR 24 206 a0 a2 h1 fun h2 =>
  stR 24 207 a0 a3 h2 fun h3 =>
  rok () h3)
  else none
noncomputable def f_X27_init (a0 : Nat) (a1 : Int32) (a2 : Nat) (a3 : Nat) (h : HP) : Rs Unit :=
  if kc h a0 = 27 then
  bd (f_X15_init a0 a1 h) (fun _ h1 =>
  stR 27 215 a0 a2 h1 fun h2 =>
  stR 27 216 a0 a3 h2 fun h3 =>
  rok () h3)
  else none
noncomputable def f_X28_init (a0 : Nat) (a1 : Int32) (a2 : Int32) (a3 : Nat) (a4 : Nat) (h : HP) : Rs Unit :=
  if kc h a0 = 28 then
  bd (f_X15_init a0 a1 h) (fun _ h1 =>
  stI 28 220 a0 (-1 : Int32) h1 fun h2 =>
  stI 28 217 a0 a2 h2 fun h3 =>
  stR 28 218 a0 a3 h3 fun h4 =>
  stR 28 219 a0 a4 h4 fun h5 =>
  rok () h5)
  else none
noncomputable def f_X25_init (a0 : Nat) (a1 : Int32) (a2 : Int32) (a3 : Nat) (a4 : Nat) (a5 : Nat) (h : HP) : Rs Unit :=
  if kc h a0 = 25 then
  bd (f_X15_init a0 a1 h) (fun _ h1 =>
  stI 25 208 a0 a2 h1 fun h2 =>
  stR 25 209 a0 a3 h2 fun h3 =>
  stR 25 210 a0 a4 h3 fun h4 =>
  stR 25 211 a0 a5 h4 fun h5 =>
  rok () h5)
  else none
noncomputable def f_X26_init (a0 : Nat) (a1 : Nat) (h : HP) : Rs Unit :=
  if a0 = 0 then none else (
  stR 26 213 a0 a1 h fun h1 =>
  rok () h1)
noncomputable def f_X29_init (a0 : Nat) (a1 : Int32) (a2 : Nat) (a3 : Nat) (a4 : Nat) (h : HP) : Rs Unit :=
  if kc h a0 = 29 then
  bd (f_X15_init a0 a1 h) (fun _ h1 =>
  stR 29 221 a0 a2 h1 fun h2 =>
  stR 29 222 a0 a3 h2 fun h3 =>
  stR 29 223 a0 a4 h3 fun h4 =>
  rok () h4)
  else none
abbrev TY_S4 : Type := (Nat → Int32 → Int32 → HP → Rs Nat) × (Nat → Int32 → Nat → Nat → Int32 → HP → Rs Nat) × (Nat → Int32 → HP → Rs Nat) × (Nat → Nat → Int32 → HP → Rs Nat) × (Nat → Int32 → HP → Rs Nat) × (Nat → Int32 → HP → Rs Nat) × (Nat → Int32 → HP → Rs Nat)
noncomputable def b_X10_binary_l80 (R : TY_S4) (v0 : Nat) (v1 : Int32) (v2 : Int32) (ih : Nat → Int32 → HP → Rs Nat) (a3 : Nat) (a4 : Int32) (h : HP) : Rs Nat :=
  if a4 ≤ 0 then
  (rok a3 h)
  else
  (bd (f_X10_level a4 h) (fun x1 h2 =>
  if x1 = v1 then
  (ldMR ksParser 156 v0 h2 fun x3 =>
  ldI 10 152 x3 h2 fun x4 =>
  ldMR ksParser 156 v0 h2 fun x5 =>
  if kc h2 x5 = 10 then
  bd (f_X9_next x5 h2) (fun _ h6 =>
  if kc h6 v0 ∈ [11, 12] then
  bd (R.1 v0 (v1 + (1 : Int32)) v2 h6) (fun x7 h8 =>
  nwO 28 7 h8 fun p9 h10 =>
  if kc h10 p9 = 28 then
  bd (f_X28_init p9 x4 a4 a3 x7 h10) (fun _ h11 =>
  if kc h11 p9 ∈ [28] then
  bd (f_X15_over p9 a3 h11) (fun x12 h13 =>
  if kc h13 x12 ∈ [16, 17, 18, 19, 20, 21, 22, 23, 24, 25, 27, 28, 29] then
  bd (f_X15_over x12 x7 h13) (fun x14 h15 =>
  if kc h15 v0 ∈ [11, 12] then
  bd (f_X10_sign v0 h15) (fun x16 h17 =>
  ih x14 x16 h17)
  else none)
  else none)
  else none)
  else none)
  else none)
  else none)
  else
  (rok a3 h2)))
noncomputable def f_X10_binary_l80 (R : TY_S4) (v0 : Nat) (v1 : Int32) (v2 : Int32) (n : Nat) : Nat → Int32 → HP → Rs Nat := @Nat.rec (fun _ => Nat → Int32 → HP → Rs Nat) (fun _ _ _ => none) (fun _ ih => b_X10_binary_l80 R v0 v1 v2 ih) n
noncomputable def f_X10_binary_b74 (R : TY_S4) (a0 : Nat) (a1 : Int32) (a2 : Int32) (a3 : Nat) (h : HP) : Rs Nat :=
  if kc h a0 ∈ [11, 12] then
  bd (f_X10_sign a0 h) (fun x1 h2 =>
  bd (f_X10_binary_l80 R a0 a1 a2 NN a3 x1 h2) (fun x3 h4 => rok x3 h4))
  else none
noncomputable def f_X10_binary_o (R : TY_S4) (a0 : Nat) (a1 : Int32) (a2 : Int32) (h : HP) : Rs Nat :=
  if a1 ≤ (9 : Int32) then
  (if kc h a0 ∈ [11, 12] then
  bd (R.1 a0 (a1 + (1 : Int32)) a2 h) (fun x1 h2 =>
  if a1 = (6 : Int32) then
  (ldMR ksParser 156 a0 h2 fun x3 =>
  if kc h2 x3 = 10 then
  bd (f_X9_is x3 57 h2) (fun x4 h5 =>
  if x4 = 0 then
  (f_X10_binary_b74 R  a0 a1 a2 x1 h5)
  else
  (ldMR ksParser 156 a0 h5 fun x6 =>
  ldI 10 152 x6 h5 fun x7 =>
  ldMR ksParser 156 a0 h5 fun x8 =>
  if kc h5 x8 = 10 then
  bd (f_X9_next x8 h5) (fun _ h9 =>
  nwO 27 5 h9 fun p10 h11 =>
  if kc h11 a0 ∈ [11, 12] then
  bd (f_X10_type a0 h11) (fun x12 h13 =>
  if kc h13 p10 = 27 then
  bd (f_X27_init p10 x7 x1 x12 h13) (fun _ h14 =>
  if kc h14 p10 ∈ [27] then
  bd (f_X15_over p10 x1 h14) (fun x15 h16 =>
  rok x15 h16)
  else none)
  else none)
  else none)
  else none))
  else none)
  else
  (f_X10_binary_b74 R  a0 a1 a2 x1 h2))
  else none)
  else
  (if kc h a0 ∈ [11, 12] then
  bd (R.2.2.2.2.2.2 a0 a2 h) (fun x17 h18 =>
  rok x17 h18)
  else none)
noncomputable def b_X10_call_l44 (R : TY_S4) (v0 : Nat) (v1 : Int32) (v2 : Nat) (v3 : Nat) (v5 : Int32) (v6 : Nat) (ih : Int32 → HP → Rs Unit) (a7 : Int32) (h : HP) : Rs Unit :=
  if a7 = 0 then
  (rok () h)
  else
  (if kc h v0 ∈ [11, 12] then
  bd (R.2.2.1 v0 v5 h) (fun x1 h2 =>
  lsAdd v6 x1 h2 fun h3 =>
  ldMR ksParser 156 v0 h3 fun x4 =>
  if kc h3 x4 = 10 then
  bd (f_X9_accept x4 13 h3) (fun x5 h6 =>
  ih x5 h6)
  else none)
  else none)
noncomputable def f_X10_call_l44 (R : TY_S4) (v0 : Nat) (v1 : Int32) (v2 : Nat) (v3 : Nat) (v5 : Int32) (v6 : Nat) (n : Nat) : Int32 → HP → Rs Unit := @Nat.rec (fun _ => Int32 → HP → Rs Unit) (fun _ _ => none) (fun _ ih => b_X10_call_l44 R v0 v1 v2 v3 v5 v6 ih) n
noncomputable def b_X10_call_l113 (R : TY_S4) (v6 : Nat) (v8 : Nat) (ih : Int32 → HP → Rs Unit) (a9 : Int32) (h : HP) : Rs Unit :=
  lsSize v6 h fun x1 =>
  if x1 ≤ a9 then
  (rok () h)
  else
  (lsGet v6 a9 h fun x2 =>
  castR [16, 17, 18, 19, 20, 21, 22, 23, 24, 25, 27, 28, 29] x2 h (
  if kc h v8 ∈ [16, 17, 18, 19, 20, 21, 22, 23, 24, 25, 27, 28, 29] then
  bd (f_X15_over v8 x2 h) (fun x3 h4 =>
  lt3 (a9 + 1) fun x5 =>
  ih x5 h4)
  else none))
noncomputable def f_X10_call_l113 (R : TY_S4) (v6 : Nat) (v8 : Nat) (n : Nat) : Int32 → HP → Rs Unit := @Nat.rec (fun _ => Int32 → HP → Rs Unit) (fun _ _ => none) (fun _ ih => b_X10_call_l113 R v6 v8 ih) n
noncomputable def f_X10_call_b110 (R : TY_S4) (a6 : Nat) (a8 : Nat) (h : HP) : Rs Nat :=
  bd (f_X10_call_l113 R a6 a8 NN (0 : Int32) h) (fun x1 h2 => rok a8 h2)
noncomputable def f_X10_call_b42 (R : TY_S4) (a0 : Nat) (a1 : Int32) (a2 : Nat) (a3 : Nat) (a5 : Int32) (a6 : Nat) (s0 : Int32) (h : HP) : Rs Nat :=
  bd (f_X10_call_l44 R a0 a1 a2 a3 a5 a6 NN s0 h) (fun x1 h2 => ldMR ksParser 156 a0 h2 fun x3 =>
  if kc h2 x3 = 10 then
  bd (f_X9_expect x3 10 h2) (fun _ h4 =>
  nwO 20 8 h4 fun p5 h6 =>
  if kc h6 p5 = 20 then
  bd (f_X20_init p5 a1 a2 a3 a6 h6) (fun _ h7 =>
  if a2 = 0 then
  (f_X10_call_b110 R  a6 p5 h7)
  else
  (if kc h7 p5 ∈ [16, 17, 18, 19, 20, 21, 22, 23, 24, 25, 27, 28, 29] then
  bd (f_X15_over p5 a2 h7) (fun x8 h9 =>
  f_X10_call_b110 R  a6 p5 h9)
  else none))
  else none)
  else none)
noncomputable def f_X10_call_o (R : TY_S4) (a0 : Nat) (a1 : Int32) (a2 : Nat) (a3 : Nat) (a4 : Int32) (h : HP) : Rs Nat :=
  if kc h a0 ∈ [11, 12] then
  bd (f_X10_deeper a0 a4 h) (fun x1 h2 =>
  ldMR ksParser 156 a0 h2 fun x3 =>
  if kc h2 x3 = 10 then
  bd (f_X9_next x3 h2) (fun _ h4 =>
  nwC 107 3 h4 fun p5 h6 =>
  lsInitN p5 (2 : Int32) h6 fun h7 =>
  ldMR ksParser 156 a0 h7 fun x8 =>
  if kc h7 x8 = 10 then
  bd (f_X9_is x8 10 h7) (fun x9 h10 =>
  if x9 = 0 then
  (f_X10_call_b42 R  a0 a1 a2 a3 x1 p5 (1 : Int32) h10)
  else
  (f_X10_call_b42 R  a0 a1 a2 a3 x1 p5 (0 : Int32) h10))
  else none)
  else none)
  else none
noncomputable def f_X10_expression_o (R : TY_S4) (a0 : Nat) (a1 : Int32) (h : HP) : Rs Nat :=
  ldMR ksParser 156 a0 h fun x1 =>
  if kc h x1 = 10 then
  bd (f_X9_is x1 49 h) (fun x2 h3 =>
  if x2 = 0 then
  (ldMR ksParser 156 a0 h3 fun x6 =>
  if kc h3 x6 = 10 then
  bd (f_X9_is x6 37 h3) (fun x7 h8 =>
  if x7 = 0 then
  (ldMR ksParser 156 a0 h8 fun x11 =>
  if kc h8 x11 = 10 then
  bd (f_X9_is x11 44 h8) (fun x12 h13 =>
  if x12 = 0 then
  (ldMR ksParser 156 a0 h13 fun x16 =>
  if kc h13 x16 = 10 then
  bd (f_X9_is x16 68 h13) (fun x17 h18 =>
  if x17 = 0 then
  (if kc h18 a0 ∈ [11, 12] then
  bd (R.1 a0 (0 : Int32) a1 h18) (fun x19 h20 =>
  ldMR ksParser 156 a0 h20 fun x21 =>
  if kc h20 x21 = 10 then
  bd (f_X9_is x21 28 h20) (fun x22 h23 =>
  if x22 = 0 then
  (rok x19 h23)
  else
  (ldMR ksParser 156 a0 h23 fun x24 =>
  ldI 10 152 x24 h23 fun x25 =>
  if kc h23 a0 ∈ [11, 12] then
  bd (f_X10_deeper a0 a1 h23) (fun x26 h27 =>
  ldMR ksParser 156 a0 h27 fun x28 =>
  if kc h27 x28 = 10 then
  bd (f_X9_next x28 h27) (fun _ h29 =>
  if kc h29 a0 ∈ [11, 12] then
  bd (R.2.2.1 a0 x26 h29) (fun x30 h31 =>
  ldMR ksParser 156 a0 h31 fun x32 =>
  if kc h31 x32 = 10 then
  bd (f_X9_expect x32 17 h31) (fun _ h33 =>
  if kc h33 a0 ∈ [11, 12] then
  bd (R.2.2.1 a0 x26 h33) (fun x34 h35 =>
  nwO 29 6 h35 fun p36 h37 =>
  if kc h37 p36 = 29 then
  bd (f_X29_init p36 x25 x19 x30 x34 h37) (fun _ h38 =>
  if kc h38 p36 ∈ [29] then
  bd (f_X15_over p36 x19 h38) (fun x39 h40 =>
  if kc h40 x39 ∈ [16, 17, 18, 19, 20, 21, 22, 23, 24, 25, 27, 28, 29] then
  bd (f_X15_over x39 x30 h40) (fun x41 h42 =>
  if kc h42 x41 ∈ [16, 17, 18, 19, 20, 21, 22, 23, 24, 25, 27, 28, 29] then
  bd (f_X15_over x41 x34 h42) (fun x43 h44 =>
  rok x43 h44)
  else none)
  else none)
  else none)
  else none)
  else none)
  else none)
  else none)
  else none)
  else none))
  else none)
  else none)
  else
  (if kc h18 a0 ∈ [11, 12] then
  bd (R.2.2.2.2.2.1 a0 a1 h18) (fun x45 h46 =>
  rok x45 h46)
  else none))
  else none)
  else
  (if kc h13 a0 ∈ [11, 12] then
  bd (R.2.2.2.2.2.1 a0 a1 h13) (fun x14 h15 =>
  rok x14 h15)
  else none))
  else none)
  else
  (if kc h8 a0 ∈ [11, 12] then
  bd (R.2.2.2.2.2.1 a0 a1 h8) (fun x9 h10 =>
  rok x9 h10)
  else none))
  else none)
  else
  (if kc h3 a0 ∈ [11, 12] then
  bd (R.2.2.2.2.2.1 a0 a1 h3) (fun x4 h5 =>
  rok x4 h5)
  else none))
  else none
noncomputable def f_X10_postfix_l5b159 (R : TY_S4) (v0 : Nat) (v2 : Int32) (ih : Nat → Int32 → HP → Rs Nat) (a4 : Int32) (s0 : Nat) (h : HP) : Rs Nat :=
  ih s0 a4 h
noncomputable def b_X10_postfix_l5 (R : TY_S4) (v0 : Nat) (v2 : Int32) (ih : Nat → Int32 → HP → Rs Nat) (a3 : Nat) (a4 : Int32) (h : HP) : Rs Nat :=
  if a4 = 0 then
  (rok a3 h)
  else
  (ldMR ksParser 156 v0 h fun x1 =>
  if kc h x1 = 10 then
  bd (f_X9_is x1 33 h) (fun x2 h3 =>
  if x2 = 0 then
  (ldMR ksParser 156 v0 h3 fun x4 =>
  if kc h3 x4 = 10 then
  bd (f_X9_accept x4 15 h3) (fun x5 h6 =>
  if x5 = 0 then
  (ih a3 (0 : Int32) h6)
  else
  (ldMR ksParser 156 v0 h6 fun x7 =>
  ldI 10 152 x7 h6 fun x8 =>
  ldMR ksParser 156 v0 h6 fun x9 =>
  if kc h6 x9 = 10 then
  bd (f_X9_name x9 h6) (fun x10 h11 =>
  ldMR ksParser 156 v0 h11 fun x12 =>
  if kc h11 x12 = 10 then
  bd (f_X9_is x12 9 h11) (fun x13 h14 =>
  if x13 = 0 then
  (nwO 23 8 h14 fun p15 h16 =>
  if kc h16 p15 = 23 then
  bd (f_X23_init p15 x8 a3 x10 h16) (fun _ h17 =>
  if kc h17 p15 ∈ [23] then
  bd (f_X15_over p15 a3 h17) (fun x18 h19 =>
  f_X10_postfix_l5b159 R v0 v2 ih a4 x18 h19)
  else none)
  else none)
  else
  (if kc h14 v0 ∈ [11, 12] then
  bd (R.2.1 v0 x8 a3 x10 v2 h14) (fun x20 h21 =>
  f_X10_postfix_l5b159 R v0 v2 ih a4 x20 h21)
  else none))
  else none)
  else none))
  else none)
  else
  (ldMR ksParser 156 v0 h3 fun x22 =>
  ldI 10 152 x22 h3 fun x23 =>
  if kc h3 v0 ∈ [11, 12] then
  bd (f_X10_deeper v0 v2 h3) (fun x24 h25 =>
  ldMR ksParser 156 v0 h25 fun x26 =>
  if kc h25 x26 = 10 then
  bd (f_X9_next x26 h25) (fun _ h27 =>
  if kc h27 v0 ∈ [11, 12] then
  bd (R.2.2.1 v0 x24 h27) (fun x28 h29 =>
  ldMR ksParser 156 v0 h29 fun x30 =>
  if kc h29 x30 = 10 then
  bd (f_X9_expect x30 34 h29) (fun _ h31 =>
  nwO 22 5 h31 fun p32 h33 =>
  if kc h33 p32 = 22 then
  bd (f_X22_init p32 x23 a3 x28 h33) (fun _ h34 =>
  if kc h34 p32 ∈ [22] then
  bd (f_X15_over p32 a3 h34) (fun x35 h36 =>
  if kc h36 x35 ∈ [16, 17, 18, 19, 20, 21, 22, 23, 24, 25, 27, 28, 29] then
  bd (f_X15_over x35 x28 h36) (fun x37 h38 =>
  ih x37 a4 h38)
  else none)
  else none)
  else none)
  else none)
  else none)
  else none)
  else none))
  else none)
noncomputable def f_X10_postfix_l5 (R : TY_S4) (v0 : Nat) (v2 : Int32) (n : Nat) : Nat → Int32 → HP → Rs Nat := @Nat.rec (fun _ => Nat → Int32 → HP → Rs Nat) (fun _ _ _ => none) (fun _ ih => b_X10_postfix_l5 R v0 v2 ih) n
noncomputable def f_X10_postfix_o (R : TY_S4) (a0 : Nat) (a1 : Nat) (a2 : Int32) (h : HP) : Rs Nat :=
  bd (f_X10_postfix_l5 R a0 a2 NN a1 (1 : Int32) h) (fun x1 h2 => rok x1 h2)
noncomputable def f_X10_primary_b87 (R : TY_S4) (a0 : Nat) (a1 : Int32) (a2 : Int32) (a5 : Int32) (h : HP) : Rs Nat :=
  if a5 = (7 : Int32) then
  (nwO 18 5 h fun p36 h37 =>
  ldMR ksParser 156 a0 h37 fun x38 =>
  ldR 10 154 x38 h37 fun x39 =>
  if kc h37 p36 = 18 then
  bd (f_X18_init p36 a2 x39 h37) (fun _ h40 =>
  ldMR ksParser 159 a0 h40 fun x41 =>
  lsAdd x41 p36 h40 fun h42 =>
  ldMR ksParser 156 a0 h42 fun x43 =>
  if kc h42 x43 = 10 then
  bd (f_X9_next x43 h42) (fun _ h44 =>
  rok p36 h44)
  else none)
  else none)
  else
  (ldMR ksParser 156 a0 h fun x1 =>
  if kc h x1 = 10 then
  bd (f_X9_accept x1 70 h) (fun x2 h3 =>
  if x2 = 0 then
  (ldMR ksParser 156 a0 h3 fun x4 =>
  if kc h3 x4 = 10 then
  bd (f_X9_accept x4 51 h3) (fun x5 h6 =>
  if x5 = 0 then
  (ldMR ksParser 156 a0 h6 fun x7 =>
  if kc h6 x7 = 10 then
  bd (f_X9_accept x7 62 h6) (fun x8 h9 =>
  if x8 = 0 then
  (ldMR ksParser 156 a0 h9 fun x10 =>
  if kc h9 x10 = 10 then
  bd (f_X9_accept x10 69 h9) (fun x11 h12 =>
  if x11 = 0 then
  (ldMR ksParser 156 a0 h12 fun x13 =>
  if kc h12 x13 = 10 then
  bd (f_X9_name x13 h12) (fun x14 h15 =>
  ldMR ksParser 156 a0 h15 fun x16 =>
  if kc h15 x16 = 10 then
  bd (f_X9_is x16 9 h15) (fun x17 h18 =>
  if x17 = 0 then
  (nwO 21 6 h18 fun p19 h20 =>
  if kc h20 p19 = 21 then
  bd (f_X21_init p19 a2 x14 h20) (fun _ h21 =>
  rok p19 h21)
  else none)
  else
  (if kc h18 a0 ∈ [11, 12] then
  bd (R.2.1 a0 a2 0 x14 a1 h18) (fun x22 h23 =>
  rok x22 h23)
  else none))
  else none)
  else none)
  else
  (nwO 19 3 h12 fun p24 h25 =>
  if kc h25 p24 = 19 then
  bd (f_X19_init p24 a2 h25) (fun _ h26 =>
  rok p24 h26)
  else none))
  else none)
  else
  (nwO 17 5 h9 fun p27 h28 =>
  if kc h28 p27 = 17 then
  bd (f_X17_init p27 a2 (-1 : Int32) (0 : Int64) h28) (fun _ h29 =>
  rok p27 h29)
  else none))
  else none)
  else
  (nwO 17 5 h6 fun p30 h31 =>
  if kc h31 p30 = 17 then
  bd (f_X17_init p30 a2 (0 : Int32) (0 : Int64) h31) (fun _ h32 =>
  rok p30 h32)
  else none))
  else none)
  else
  (nwO 17 5 h3 fun p33 h34 =>
  if kc h34 p33 = 17 then
  bd (f_X17_init p33 a2 (0 : Int32) (1 : Int64) h34) (fun _ h35 =>
  rok p33 h35)
  else none))
  else none)
noncomputable def f_X10_primary_o (R : TY_S4) (a0 : Nat) (a1 : Int32) (h : HP) : Rs Nat :=
  ldMR ksParser 156 a0 h fun x1 =>
  ldI 10 152 x1 h fun x2 =>
  ldMR ksParser 156 a0 h fun x3 =>
  ldJ 10 155 x3 h fun x4 =>
  ldMR ksParser 156 a0 h fun x5 =>
  ldI 10 151 x5 h fun x6 =>
  if x6 < (3 : Int32) then
  (f_X10_primary_b87 R  a0 a1 x2 x6 h)
  else
  (if (6 : Int32) < x6 then
  (f_X10_primary_b87 R  a0 a1 x2 x6 h)
  else
  (ldMR ksParser 156 a0 h fun x7 =>
  if kc h x7 = 10 then
  bd (f_X9_next x7 h) (fun _ h8 =>
  nwO 17 5 h8 fun p9 h10 =>
  if x6 = (3 : Int32) then
  (if kc h10 p9 = 17 then
  bd (f_X17_init p9 x2 (4 : Int32) x4 h10) (fun _ h14 =>
  rok p9 h14)
  else none)
  else
  (if x6 = (4 : Int32) then
  (if kc h10 p9 = 17 then
  bd (f_X17_init p9 x2 (5 : Int32) x4 h10) (fun _ h13 =>
  rok p9 h13)
  else none)
  else
  (if x6 = (5 : Int32) then
  (if kc h10 p9 = 17 then
  bd (f_X17_init p9 x2 (7 : Int32) x4 h10) (fun _ h12 =>
  rok p9 h12)
  else none)
  else
  (if kc h10 p9 = 17 then
  bd (f_X17_init p9 x2 (3 : Int32) x4 h10) (fun _ h11 =>
  rok p9 h11)
  else none))))
  else none))
noncomputable def f_X10_quantor_b49 (R : TY_S4) (a0 : Nat) (a1 : Int32) (s0 : Int32) (h : HP) : Rs Nat :=
  if kc h a0 ∈ [11, 12] then
  bd (f_X10_deeper a0 a1 h) (fun x1 h2 =>
  ldMR ksParser 156 a0 h2 fun x3 =>
  if kc h2 x3 = 10 then
  bd (f_X9_next x3 h2) (fun _ h4 =>
  ldMR ksParser 156 a0 h4 fun x5 =>
  ldI 10 152 x5 h4 fun x6 =>
  ldMR ksParser 156 a0 h4 fun x7 =>
  if kc h4 x7 = 10 then
  bd (f_X9_name x7 h4) (fun x8 h9 =>
  ldMR ksParser 156 a0 h9 fun x10 =>
  if kc h9 x10 = 10 then
  bd (f_X9_expect x10 56 h9) (fun _ h11 =>
  if kc h11 a0 ∈ [11, 12] then
  bd (R.2.2.2.2.2.2 a0 x1 h11) (fun x12 h13 =>
  ldMR ksParser 156 a0 h13 fun x14 =>
  if kc h13 x14 = 10 then
  bd (f_X9_expect x14 17 h13) (fun _ h15 =>
  if kc h15 a0 ∈ [11, 12] then
  bd (R.2.2.1 a0 x1 h15) (fun x16 h17 =>
  nwO 25 8 h17 fun p18 h19 =>
  nwO 26 2 h19 fun p20 h21 =>
  if kc h21 p20 = 26 then
  bd (f_X26_init p20 x12 h21) (fun _ h22 =>
  if kc h22 p18 = 25 then
  bd (f_X25_init p18 x6 s0 x8 p20 x16 h22) (fun _ h23 =>
  if kc h23 p18 ∈ [25] then
  bd (f_X15_over p18 x12 h23) (fun x24 h25 =>
  if kc h25 x24 ∈ [16, 17, 18, 19, 20, 21, 22, 23, 24, 25, 27, 28, 29] then
  bd (f_X15_over x24 x16 h25) (fun x26 h27 =>
  rok x26 h27)
  else none)
  else none)
  else none)
  else none)
  else none)
  else none)
  else none)
  else none)
  else none)
  else none)
  else none
noncomputable def f_X10_quantor_o (R : TY_S4) (a0 : Nat) (a1 : Int32) (h : HP) : Rs Nat :=
  ldMR ksParser 156 a0 h fun x1 =>
  if kc h x1 = 10 then
  bd (f_X9_is x1 49 h) (fun x2 h3 =>
  if x2 = 0 then
  (ldMR ksParser 156 a0 h3 fun x4 =>
  if kc h3 x4 = 10 then
  bd (f_X9_is x4 37 h3) (fun x5 h6 =>
  if x5 = 0 then
  (ldMR ksParser 156 a0 h6 fun x7 =>
  if kc h6 x7 = 10 then
  bd (f_X9_is x7 44 h6) (fun x8 h9 =>
  if x8 = 0 then
  (f_X10_quantor_b49 R  a0 a1 (3 : Int32) h9)
  else
  (f_X10_quantor_b49 R  a0 a1 (2 : Int32) h9))
  else none)
  else
  (f_X10_quantor_b49 R  a0 a1 (1 : Int32) h6))
  else none)
  else
  (f_X10_quantor_b49 R  a0 a1 (0 : Int32) h3))
  else none
noncomputable def f_X10_unary_b44 (R : TY_S4) (a0 : Nat) (a1 : Int32) (a2 : Int32) (h : HP) : Rs Nat :=
  ldMR ksParser 156 a0 h fun x1 =>
  ldR 10 154 x1 h fun x2 =>
  txAt x2 (0 : Int32) h fun x3 =>
  if kc h a0 ∈ [11, 12] then
  bd (f_X10_deeper a0 a1 h) (fun x4 h5 =>
  ldMR ksParser 156 a0 h5 fun x6 =>
  if kc h5 x6 = 10 then
  bd (f_X9_next x6 h5) (fun _ h7 =>
  if kc h7 a0 ∈ [11, 12] then
  bd (R.2.2.2.2.2.2 a0 x4 h7) (fun x8 h9 =>
  nwO 16 5 h9 fun p10 h11 =>
  if kc h11 p10 = 16 then
  bd (f_X16_init p10 a2 x3 x8 h11) (fun _ h12 =>
  if kc h12 p10 ∈ [16] then
  bd (f_X15_over p10 x8 h12) (fun x13 h14 =>
  rok x13 h14)
  else none)
  else none)
  else none)
  else none)
  else none
noncomputable def f_X10_unary_b201 (R : TY_S4) (a0 : Nat) (a1 : Int32) (a2 : Int32) (a3 : Int32) (s0 : Int32) (h : HP) : Rs Nat :=
  if s0 = 0 then
  (if kc h a0 ∈ [11, 12] then
  bd (R.2.2.1 a0 a3 h) (fun x1 h2 =>
  ldMR ksParser 156 a0 h2 fun x3 =>
  if kc h2 x3 = 10 then
  bd (f_X9_expect x3 10 h2) (fun _ h4 =>
  if kc h4 a0 ∈ [11, 12] then
  bd (R.2.2.2.1 a0 x1 a1 h4) (fun x5 h6 =>
  rok x5 h6)
  else none)
  else none)
  else none)
  else
  (if kc h a0 ∈ [11, 12] then
  bd (f_X10_type a0 h) (fun x7 h8 =>
  ldMR ksParser 156 a0 h8 fun x9 =>
  if kc h8 x9 = 10 then
  bd (f_X9_expect x9 10 h8) (fun _ h10 =>
  if kc h10 a0 ∈ [11, 12] then
  bd (R.2.2.2.2.2.2 a0 a3 h10) (fun x11 h12 =>
  nwO 24 5 h12 fun p13 h14 =>
  if kc h14 p13 = 24 then
  bd (f_X24_init p13 a2 x7 x11 h14) (fun _ h15 =>
  if kc h15 p13 ∈ [24] then
  bd (f_X15_over p13 x11 h15) (fun x16 h17 =>
  rok x16 h17)
  else none)
  else none)
  else none)
  else none)
  else none)
noncomputable def f_X10_unary_b196 (R : TY_S4) (a0 : Nat) (a1 : Int32) (a2 : Int32) (a3 : Int32) (h : HP) : Rs Nat :=
  f_X10_unary_b201 R  a0 a1 a2 a3 (1 : Int32) h
noncomputable def f_X10_unary_b200 (R : TY_S4) (a0 : Nat) (a1 : Int32) (a2 : Int32) (a3 : Int32) (h : HP) : Rs Nat :=
  f_X10_unary_b201 R  a0 a1 a2 a3 (0 : Int32) h
noncomputable def f_X10_unary_o (R : TY_S4) (a0 : Nat) (a1 : Int32) (h : HP) : Rs Nat :=
  ldMR ksParser 156 a0 h fun x1 =>
  ldI 10 152 x1 h fun x2 =>
  ldMR ksParser 156 a0 h fun x3 =>
  if kc h x3 = 10 then
  bd (f_X9_is x3 14 h) (fun x4 h5 =>
  if x4 = 0 then
  (ldMR ksParser 156 a0 h5 fun x6 =>
  if kc h5 x6 = 10 then
  bd (f_X9_is x6 4 h5) (fun x7 h8 =>
  if x7 = 0 then
  (ldMR ksParser 156 a0 h8 fun x9 =>
  if kc h8 x9 = 10 then
  bd (f_X9_is x9 77 h8) (fun x10 h11 =>
  if x10 = 0 then
  (ldMR ksParser 156 a0 h11 fun x12 =>
  if kc h11 x12 = 10 then
  bd (f_X9_is x12 9 h11) (fun x13 h14 =>
  if x13 = 0 then
  (if kc h14 a0 ∈ [11, 12] then
  bd (R.2.2.2.2.1 a0 a1 h14) (fun x34 h35 =>
  if kc h35 a0 ∈ [11, 12] then
  bd (R.2.2.2.1 a0 x34 a1 h35) (fun x36 h37 =>
  rok x36 h37)
  else none)
  else none)
  else
  (if kc h14 a0 ∈ [11, 12] then
  bd (f_X10_deeper a0 a1 h14) (fun x15 h16 =>
  ldMR ksParser 156 a0 h16 fun x17 =>
  if kc h16 x17 = 10 then
  bd (f_X9_next x17 h16) (fun _ h18 =>
  if kc h18 a0 ∈ [11, 12] then
  bd (f_X10_isPlainWord a0 h18) (fun x19 h20 =>
  if x19 = 0 then
  (ldMR ksParser 156 a0 h20 fun x21 =>
  ldI 10 151 x21 h20 fun x22 =>
  if x22 = (1 : Int32) then
  (ldMR ksParser 156 a0 h20 fun x23 =>
  ldR 10 154 x23 h20 fun x24 =>
  txEq x24 30 h20 fun x25 =>
  if x25 = 0 then
  (ldMR ksParser 156 a0 h20 fun x26 =>
  ldR 10 154 x26 h20 fun x27 =>
  txEq x27 31 h20 fun x28 =>
  if x28 = 0 then
  (ldMR ksParser 160 a0 h20 fun x29 =>
  ldMR ksParser 156 a0 h20 fun x30 =>
  ldR 10 154 x30 h20 fun x31 =>
  bd (f_X10_isIn x29 x31 h20) (fun x32 h33 =>
  if x32 = 0 then
  (f_X10_unary_b200 R  a0 a1 x2 x15 h33)
  else
  (f_X10_unary_b196 R  a0 a1 x2 x15 h33)))
  else
  (f_X10_unary_b196 R  a0 a1 x2 x15 h20))
  else
  (f_X10_unary_b196 R  a0 a1 x2 x15 h20))
  else
  (f_X10_unary_b200 R  a0 a1 x2 x15 h20))
  else
  (f_X10_unary_b196 R  a0 a1 x2 x15 h20))
  else none)
  else none)
  else none))
  else none)
  else
  (f_X10_unary_b44 R  a0 a1 x2 h11))
  else none)
  else
  (f_X10_unary_b44 R  a0 a1 x2 h8))
  else none)
  else
  (f_X10_unary_b44 R  a0 a1 x2 h5))
  else none
noncomputable def r_S4 (n : Nat) : TY_S4 := @Nat.rec (fun _ => TY_S4) (fun _ _ _ _ => none, fun _ _ _ _ _ _ => none, fun _ _ _ => none, fun _ _ _ _ => none, fun _ _ _ => none, fun _ _ _ => none, fun _ _ _ => none) (fun _ R => (f_X10_binary_o R, f_X10_call_o R, f_X10_expression_o R, f_X10_postfix_o R, f_X10_primary_o R, f_X10_quantor_o R, f_X10_unary_o R)) n
noncomputable def f_X10_binary (n : Nat) : Nat → Int32 → Int32 → HP → Rs Nat := (r_S4 n).1
noncomputable def f_X10_call (n : Nat) : Nat → Int32 → Nat → Nat → Int32 → HP → Rs Nat := (r_S4 n).2.1
noncomputable def f_X10_expression (n : Nat) : Nat → Int32 → HP → Rs Nat := (r_S4 n).2.2.1
noncomputable def f_X10_postfix (n : Nat) : Nat → Nat → Int32 → HP → Rs Nat := (r_S4 n).2.2.2.1
noncomputable def f_X10_primary (n : Nat) : Nat → Int32 → HP → Rs Nat := (r_S4 n).2.2.2.2.1
noncomputable def f_X10_quantor (n : Nat) : Nat → Int32 → HP → Rs Nat := (r_S4 n).2.2.2.2.2.1
noncomputable def f_X10_unary (n : Nat) : Nat → Int32 → HP → Rs Nat := (r_S4 n).2.2.2.2.2.2
noncomputable def f_X10_source (a0 : Nat) (h : HP) : Rs Nat :=
  if kc h a0 ∈ [11, 12] then
  bd (f_X10_unary 520 a0 (1 : Int32) h) (fun x1 h2 =>
  rok x1 h2)
  else none
noncomputable def b_X43_read_l72 (v0 : Nat) (v1 : Nat) (v2 : Nat) (ih : HP → Rs (Unit ⊕ Unit)) (h : HP) : Rs (Unit ⊕ Unit) :=
  ldR 42 328 v0 h fun x1 =>
  lsSize x1 h fun x2 =>
  if x2 = (3 : Int32) then
  (rok (Sum.inl ()) h)
  else
  (ldR 42 329 v0 h fun x3 =>
  ldI 10 152 v2 h fun x4 =>
  ivOf x4 h fun x5 h6 =>
  lsAdd x3 x5 h6 fun h7 =>
  ldR 42 328 v0 h7 fun x8 =>
  if kc h7 v2 = 10 then
  bd (f_X9_name v2 h7) (fun x9 h10 =>
  lsAdd x8 x9 h10 fun h11 =>
  if kc h11 v2 = 10 then
  bd (f_X9_expect v2 56 h11) (fun _ h12 =>
  ldR 42 333 v0 h12 fun x13 =>
  ldI 10 152 v2 h12 fun x14 =>
  ivOf x14 h12 fun x15 h16 =>
  lsAdd x13 x15 h16 fun h17 =>
  if kc h17 v1 ∈ [11, 12] then
  bd (f_X10_source v1 h17) (fun x18 h19 =>
  ldR 42 331 v0 h19 fun x20 =>
  lsAdd x20 x18 h19 fun h21 =>
  ldR 42 330 v0 h21 fun x22 =>
  nwO 26 2 h21 fun p23 h24 =>
  if kc h24 p23 = 26 then
  bd (f_X26_init p23 x18 h24) (fun _ h25 =>
  lsAdd x22 p23 h25 fun h26 =>
  if kc h26 v2 = 10 then
  bd (f_X9_accept v2 13 h26) (fun x27 h28 =>
  if x27 = 0 then
  (rok (Sum.inr ()) h28)
  else
  (ih  h28))
  else none)
  else none)
  else none)
  else none)
  else none)
noncomputable def f_X43_read_l72 (v0 : Nat) (v1 : Nat) (v2 : Nat) (n : Nat) : HP → Rs (Unit ⊕ Unit) := @Nat.rec (fun _ => HP → Rs (Unit ⊕ Unit)) (fun _ => none) (fun _ ih => b_X43_read_l72 v0 v1 v2 ih) n
noncomputable def b_X43_read_l257 (v0 : Nat) (v1 : Nat) (v2 : Nat) (ih : HP → Rs (Unit ⊕ Unit)) (h : HP) : Rs (Unit ⊕ Unit) :=
  ldR 42 332 v0 h fun x1 =>
  lsSize x1 h fun x2 =>
  if x2 = (4 : Int32) then
  (rok (Sum.inl ()) h)
  else
  (ldR 42 333 v0 h fun x3 =>
  ldI 10 152 v2 h fun x4 =>
  ivOf x4 h fun x5 h6 =>
  lsAdd x3 x5 h6 fun h7 =>
  ldR 42 332 v0 h7 fun x8 =>
  if kc h7 v1 ∈ [11, 12] then
  bd (f_X10_expression 520 v1 (1 : Int32) h7) (fun x9 h10 =>
  lsAdd x8 x9 h10 fun h11 =>
  if kc h11 v2 = 10 then
  bd (f_X9_accept v2 13 h11) (fun x12 h13 =>
  if x12 = 0 then
  (rok (Sum.inr ()) h13)
  else
  (ih  h13))
  else none)
  else none)
noncomputable def f_X43_read_l257 (v0 : Nat) (v1 : Nat) (v2 : Nat) (n : Nat) : HP → Rs (Unit ⊕ Unit) := @Nat.rec (fun _ => HP → Rs (Unit ⊕ Unit)) (fun _ => none) (fun _ ih => b_X43_read_l257 v0 v1 v2 ih) n
noncomputable def f_X43_read_b251 (a0 : Nat) (a1 : Nat) (a2 : Nat) (h : HP) : Rs Unit :=
  if kc h a2 = 10 then
  bd (f_X9_expect a2 54 h) (fun _ h1 =>
  bd (f_X43_read_l257 a0 a1 a2 NN h1) (Sum.elim (fun x2 => fun h3 => if kc h3 a2 = 10 then
  bd (f_X9_wrong a2 h3) (fun x4 h5 =>
  if kc h5 x4 = 69 then rex h5 else none)
  else none) (fun x6 => fun h7 => ldI 10 151 a2 h7 fun x8 =>
  if x8 = 0 then
  (rok () h7)
  else
  (if kc h7 a2 = 10 then
  bd (f_X9_wrong a2 h7) (fun x9 h10 =>
  if kc h10 x9 = 69 then rex h10 else none)
  else none))))
  else none
noncomputable def f_X43_read_b208 (a0 : Nat) (a1 : Nat) (a2 : Nat) (h : HP) : Rs Unit :=
  if kc h a2 = 10 then
  bd (f_X9_accept a2 64 h) (fun x1 h2 =>
  if x1 = 0 then
  (f_X43_read_b251  a0 a1 a2 h2)
  else
  (ldR 42 333 a0 h2 fun x3 =>
  ldI 10 152 a2 h2 fun x4 =>
  ivOf x4 h2 fun x5 h6 =>
  lsAdd x3 x5 h6 fun h7 =>
  if kc h7 a1 ∈ [11, 12] then
  bd (f_X10_expression 520 a1 (1 : Int32) h7) (fun x8 h9 =>
  stR 42 335 a0 x8 h9 fun h10 =>
  if kc h10 a2 = 10 then
  bd (f_X9_accept a2 47 h10) (fun x11 h12 =>
  stZ 42 336 a0 x11 h12 fun h13 =>
  f_X43_read_b251  a0 a1 a2 h13)
  else none)
  else none))
  else none
noncomputable def f_X43_read (a0 : Nat) (a1 : Nat) (h : HP) : Rs Unit :=
  ldR 42 328 a0 h fun x1 =>
  lsClr x1 h fun h2 =>
  ldR 42 329 a0 h2 fun x3 =>
  lsClr x3 h2 fun h4 =>
  ldR 42 330 a0 h4 fun x5 =>
  lsClr x5 h4 fun h6 =>
  ldR 42 331 a0 h6 fun x7 =>
  lsClr x7 h6 fun h8 =>
  ldR 42 332 a0 h8 fun x9 =>
  lsClr x9 h8 fun h10 =>
  ldR 42 333 a0 h10 fun x11 =>
  lsClr x11 h10 fun h12 =>
  stR 42 334 a0 0 h12 fun h13 =>
  stR 42 335 a0 0 h13 fun h14 =>
  stI 42 336 a0 (0 : Int32) h14 fun h15 =>
  ldMR ksParser 156 a1 h15 fun x16 =>
  if kc h15 x16 = 10 then
  bd (f_X9_next x16 h15) (fun _ h17 =>
  if kc h17 x16 = 10 then
  bd (f_X9_expect x16 53 h17) (fun _ h18 =>
  bd (f_X43_read_l72 a0 a1 x16 NN h18) (Sum.elim (fun x19 => fun h20 => if kc h20 x16 = 10 then
  bd (f_X9_wrong x16 h20) (fun x21 h22 =>
  if kc h22 x21 = 69 then rex h22 else none)
  else none) (fun x23 => fun h24 => if kc h24 x16 = 10 then
  bd (f_X9_accept x16 71 h24) (fun x25 h26 =>
  if x25 = 0 then
  (f_X43_read_b208  a0 a1 x16 h26)
  else
  (ldR 42 333 a0 h26 fun x27 =>
  ldI 10 152 x16 h26 fun x28 =>
  ivOf x28 h26 fun x29 h30 =>
  lsAdd x27 x29 h30 fun h31 =>
  if kc h31 a1 ∈ [11, 12] then
  bd (f_X10_expression 520 a1 (1 : Int32) h31) (fun x32 h33 =>
  stR 42 334 a0 x32 h33 fun h34 =>
  f_X43_read_b208  a0 a1 x16 h34)
  else none))
  else none)))
  else none)
  else none
noncomputable def f_X15_isBoolean (a0 : Nat) (h : HP) : Rs Int32 :=
  ldMR ksNode 183 a0 h fun x1 =>
  if x1 = 0 then
  (rok (0 : Int32) h)
  else
  (ldMR ksNode 183 a0 h fun x2 =>
  ldI 4 31 x2 h fun x3 =>
  if x3 = 0 then
  (rok (1 : Int32) h)
  else
  (rok (0 : Int32) h))
noncomputable def f_X3_isNumber (a0 : Nat) (h : HP) : Rs Int32 :=
  ldI 4 31 a0 h fun x1 =>
  if x1 < (1 : Int32) then
  (rok (0 : Int32) h)
  else
  (ldI 4 31 a0 h fun x2 =>
  if (7 : Int32) < x2 then
  (rok (0 : Int32) h)
  else
  (rok (1 : Int32) h))
noncomputable def f_X15_isNumber (a0 : Nat) (h : HP) : Rs Int32 :=
  ldMR ksNode 183 a0 h fun x1 =>
  if x1 = 0 then
  (rok (0 : Int32) h)
  else
  (ldMR ksNode 183 a0 h fun x2 =>
  if kc h x2 = 4 then
  bd (f_X3_isNumber x2 h) (fun x3 h4 =>
  if x3 = 0 then
  (rok (0 : Int32) h4)
  else
  (rok (1 : Int32) h4))
  else none)
noncomputable def f_X3_isWhole (a0 : Nat) (h : HP) : Rs Int32 :=
  ldI 4 31 a0 h fun x1 =>
  if x1 < (1 : Int32) then
  (rok (0 : Int32) h)
  else
  (ldI 4 31 a0 h fun x2 =>
  if (5 : Int32) < x2 then
  (rok (0 : Int32) h)
  else
  (rok (1 : Int32) h))
noncomputable def f_X15_isWhole (a0 : Nat) (h : HP) : Rs Int32 :=
  ldMR ksNode 183 a0 h fun x1 =>
  if x1 = 0 then
  (rok (0 : Int32) h)
  else
  (ldMR ksNode 183 a0 h fun x2 =>
  if kc h x2 = 4 then
  bd (f_X3_isWhole x2 h) (fun x3 h4 =>
  if x3 = 0 then
  (rok (0 : Int32) h4)
  else
  (rok (1 : Int32) h4))
  else none)
noncomputable def f_X17_check (a0 : Nat) (a1 : Nat) (h : HP) : Rs Unit :=
  ldI 17 187 a0 h fun x1 =>
  if 0 ≤ x1 then
  (ldR 32 237 a1 h fun x2 =>
  ldI 17 187 a0 h fun x3 =>
  if kc h x2 = 3 then
  bd (f_X2_get x2 x3 h) (fun x4 h5 =>
  stR 17 183 a0 x4 h5 fun h6 =>
  rok () h6)
  else none)
  else
  (stR 17 183 a0 0 h fun h7 =>
  rok () h7)
noncomputable def f_X18_check (a0 : Nat) (a1 : Nat) (h : HP) : Rs Unit :=
  ldR 32 237 a1 h fun x1 =>
  if kc h x1 = 3 then
  bd (f_X2_get x1 (9 : Int32) h) (fun x2 h3 =>
  stR 18 183 a0 x2 h3 fun h4 =>
  rok () h4)
  else none
noncomputable def f_X32_wrong (a0 : Nat) (a1 : Int32) (h : HP) : Rs Nat :=
  ldR 32 239 a0 h fun x1 =>
  if kc h x1 = 2 then
  bd (f_X1_at x1 (2 : Int32) a1 h) (fun x2 h3 =>
  rok x2 h3)
  else none
noncomputable def f_X19_check (a0 : Nat) (a1 : Nat) (h : HP) : Rs Unit :=
  ldR 32 238 a1 h fun x1 =>
  if x1 = 0 then
  (ldI 19 182 a0 h fun x4 =>
  if kc h a1 = 32 then
  bd (f_X32_wrong a1 x4 h) (fun x5 h6 =>
  if kc h6 x5 = 69 then rex h6 else none)
  else none)
  else
  (ldR 32 238 a1 h fun x2 =>
  stR 19 183 a0 x2 h fun h3 =>
  rok () h3)
noncomputable def f_X3_widens (a0 : Int32) (a1 : Int32) (h : HP) : Rs Int32 :=
  if a0 = 0 then
  (rok (0 : Int32) h)
  else
  (if a1 = 0 then
  (rok (0 : Int32) h)
  else
  (if a1 = (3 : Int32) then
  (rok (0 : Int32) h)
  else
  (if a0 < a1 then
  (if a0 = (3 : Int32) then
  (if a1 < (4 : Int32) then
  (rok (0 : Int32) h)
  else
  (rok (1 : Int32) h))
  else
  (rok (1 : Int32) h))
  else
  (rok (0 : Int32) h))))
noncomputable def f_X3_fits_b14 (a0 : Nat) (a1 : Nat) (h : HP) : Rs Int32 :=
  eqR h a0 a1
  (rok (1 : Int32) h)
  (if kc h a0 = 4 then
  bd (f_X3_isPlain a0 h) (fun x1 h2 =>
  if x1 = 0 then
  (rok (0 : Int32) h2)
  else
  (if kc h2 a1 = 4 then
  bd (f_X3_isPlain a1 h2) (fun x3 h4 =>
  if x3 = 0 then
  (rok (0 : Int32) h4)
  else
  (ldI 4 31 a0 h4 fun x5 =>
  ldI 4 31 a1 h4 fun x6 =>
  bd (f_X3_widens x5 x6 h4) (fun x7 h8 =>
  if x7 = 0 then
  (rok (0 : Int32) h8)
  else
  (rok (1 : Int32) h8))))
  else none))
  else none)
noncomputable def f_X3_fits (a0 : Nat) (a1 : Nat) (h : HP) : Rs Int32 :=
  if kc h a0 = 4 then
  bd (f_X3_isPlain a0 h) (fun x1 h2 =>
  if x1 = 0 then
  (if kc h2 a1 = 4 then
  bd (f_X3_isPlain a1 h2) (fun x3 h4 =>
  if x3 = 0 then
  (if kc h4 a0 = 4 then
  bd (f_X3_isBelow 100 a0 a1 h4) (fun x5 h6 =>
  rokZ x5 h6)
  else none)
  else
  (f_X3_fits_b14  a0 a1 h4))
  else none)
  else
  (f_X3_fits_b14  a0 a1 h2))
  else none
noncomputable def f_X15_fits (a0 : Nat) (a1 : Nat) (h : HP) : Rs Int32 :=
  ldMR ksNode 183 a0 h fun x1 =>
  if x1 = 0 then
  (if kc h a1 = 4 then
  bd (f_X3_isPlain a1 h) (fun x5 h6 =>
  if x5 = 0 then
  (rok (1 : Int32) h6)
  else
  (rok (0 : Int32) h6))
  else none)
  else
  (ldMR ksNode 183 a0 h fun x2 =>
  if kc h x2 = 4 then
  bd (f_X3_fits x2 a1 h) (fun x3 h4 =>
  rokZ x3 h4)
  else none)
noncomputable def f_X20_checkText_b109 (a0 : Nat) (a1 : Nat) (a2 : Int32) (s0 : Nat) (s1 : Int32) (h : HP) : Rs Unit :=
  stI 20 195 s0 s1 h fun h1 =>
  ldR 32 237 a1 h1 fun x2 =>
  if a2 = 0 then
  (if kc h1 x2 = 3 then
  bd (f_X2_get x2 (3 : Int32) h1) (fun x3 h4 =>
  stR 20 183 a0 x3 h4 fun h5 =>
  rok () h5)
  else none)
  else
  (if kc h1 x2 = 3 then
  bd (f_X2_get x2 (4 : Int32) h1) (fun x6 h7 =>
  stR 20 183 a0 x6 h7 fun h8 =>
  rok () h8)
  else none)
noncomputable def f_X20_checkText_b99 (a0 : Nat) (a1 : Nat) (a2 : Int32) (h : HP) : Rs Unit :=
  if a2 = 0 then
  (f_X20_checkText_b109  a0 a1 a2 a0 (2 : Int32) h)
  else
  (f_X20_checkText_b109  a0 a1 a2 a0 (1 : Int32) h)
noncomputable def f_X20_checkText_b81 (a0 : Nat) (a1 : Nat) (a2 : Int32) (s0 : Int32) (h : HP) : Rs Unit :=
  if a2 = 0 then
  (if s0 = 0 then
  (ldI 20 182 a0 h fun x1 =>
  if kc h a1 = 32 then
  bd (f_X32_wrong a1 x1 h) (fun x2 h3 =>
  if kc h3 x2 = 69 then rex h3 else none)
  else none)
  else
  (f_X20_checkText_b99  a0 a1 a2 h))
  else
  (f_X20_checkText_b99  a0 a1 a2 h)
noncomputable def f_X20_checkText_b80 (a0 : Nat) (a1 : Nat) (a2 : Int32) (h : HP) : Rs Unit :=
  f_X20_checkText_b81  a0 a1 a2 (0 : Int32) h
noncomputable def f_X20_checkText_b27 (a0 : Nat) (a1 : Nat) (s0 : Int32) (h : HP) : Rs Unit :=
  ldR 20 192 a0 h fun x1 =>
  txEq x1 38 h fun x2 =>
  if x2 = 0 then
  (f_X20_checkText_b80  a0 a1 s0 h)
  else
  (ldR 20 193 a0 h fun x3 =>
  lsSize x3 h fun x4 =>
  if x4 = (1 : Int32) then
  (ldR 20 193 a0 h fun x5 =>
  lsGet x5 (0 : Int32) h fun x6 =>
  castR [16, 17, 18, 19, 20, 21, 22, 23, 24, 25, 27, 28, 29] x6 h (
  ldR 32 237 a1 h fun x7 =>
  if kc h x7 = 3 then
  bd (f_X2_get x7 (4 : Int32) h) (fun x8 h9 =>
  if kc h9 x6 ∈ [16, 17, 18, 19, 20, 21, 22, 23, 24, 25, 27, 28, 29] then
  bd (f_X15_fits x6 x8 h9) (fun x10 h11 =>
  if x10 = 0 then
  (f_X20_checkText_b80  a0 a1 s0 h11)
  else
  (f_X20_checkText_b81  a0 a1 s0 (1 : Int32) h11))
  else none)
  else none))
  else
  (f_X20_checkText_b80  a0 a1 s0 h))
noncomputable def f_X20_checkText_b26 (a0 : Nat) (a1 : Nat) (h : HP) : Rs Unit :=
  f_X20_checkText_b27  a0 a1 (0 : Int32) h
noncomputable def f_X20_checkText (a0 : Nat) (a1 : Nat) (h : HP) : Rs Unit :=
  ldR 20 192 a0 h fun x1 =>
  txEq x1 60 h fun x2 =>
  if x2 = 0 then
  (f_X20_checkText_b26  a0 a1 h)
  else
  (ldR 20 193 a0 h fun x3 =>
  lsEmp x3 h fun x4 =>
  if x4 = 0 then
  (f_X20_checkText_b26  a0 a1 h)
  else
  (f_X20_checkText_b27  a0 a1 (1 : Int32) h))
noncomputable def b_X32_find_l5 (v1 : Nat) (ih : Nat → HP → Rs (Nat ⊕ Unit)) (a2 : Nat) (h : HP) : Rs (Nat ⊕ Unit) :=
  if a2 = 0 then
  (rok (Sum.inr ()) h)
  else
  (ldR 33 243 a2 h fun x1 =>
  txEq x1 v1 h fun x2 =>
  if x2 = 0 then
  (ldR 33 246 a2 h fun x3 =>
  ih x3 h)
  else
  (rok (Sum.inl a2) h))
noncomputable def f_X32_find_l5 (v1 : Nat) (n : Nat) : Nat → HP → Rs (Nat ⊕ Unit) := @Nat.rec (fun _ => Nat → HP → Rs (Nat ⊕ Unit)) (fun _ _ => none) (fun _ ih => b_X32_find_l5 v1 ih) n
noncomputable def f_X32_find (a0 : Nat) (a1 : Nat) (h : HP) : Rs Int32 :=
  ldR 32 240 a0 h fun x1 =>
  bd (f_X32_find_l5 a1 NN x1 h) (Sum.elim (fun x2 => fun h3 => ldI 33 245 x2 h3 fun x4 =>
  rok x4 h3) (fun x5 => fun h6 => rok (-1 : Int32) h6))
noncomputable def b_X32_kindAt_l5 (v1 : Int32) (ih : Nat → HP → Rs Nat) (a2 : Nat) (h : HP) : Rs Nat :=
  ldI 33 245 a2 h fun x1 =>
  if x1 = v1 then
  (rok a2 h)
  else
  (ldR 33 246 a2 h fun x2 =>
  ih x2 h)
noncomputable def f_X32_kindAt_l5 (v1 : Int32) (n : Nat) : Nat → HP → Rs Nat := @Nat.rec (fun _ => Nat → HP → Rs Nat) (fun _ _ => none) (fun _ ih => b_X32_kindAt_l5 v1 ih) n
noncomputable def f_X32_kindAt (a0 : Nat) (a1 : Int32) (h : HP) : Rs Nat :=
  ldR 32 240 a0 h fun x1 =>
  bd (f_X32_kindAt_l5 a1 NN x1 h) (fun x2 h3 => ldR 33 244 x2 h3 fun x4 =>
  rok x4 h3)
noncomputable def b_X3_field_l2 (v0 : Nat) (v1 : Nat) (ih : Int32 → HP → Rs (Int32 ⊕ Unit)) (a2 : Int32) (h : HP) : Rs (Int32 ⊕ Unit) :=
  ldR 4 44 v0 h fun x1 =>
  lsSize x1 h fun x2 =>
  if x2 ≤ a2 then
  (rok (Sum.inr ()) h)
  else
  (ldR 4 44 v0 h fun x3 =>
  lsGet x3 a2 h fun x4 =>
  castR [31] x4 h (
  ldR 31 234 x4 h fun x5 =>
  txEq x5 v1 h fun x6 =>
  if x6 = 0 then
  (lt3 (a2 + 1) fun x7 =>
  ih x7 h)
  else
  (rok (Sum.inl a2) h)))
noncomputable def f_X3_field_l2 (v0 : Nat) (v1 : Nat) (n : Nat) : Int32 → HP → Rs (Int32 ⊕ Unit) := @Nat.rec (fun _ => Int32 → HP → Rs (Int32 ⊕ Unit)) (fun _ _ => none) (fun _ ih => b_X3_field_l2 v0 v1 ih) n
noncomputable def f_X3_field (a0 : Nat) (a1 : Nat) (h : HP) : Rs Nat :=
  bd (f_X3_field_l2 a0 a1 NN (0 : Int32) h) (Sum.elim (fun x1 => fun h2 => ldR 4 44 a0 h2 fun x3 =>
  lsGet x3 x1 h2 fun x4 =>
  castR [31] x4 h2 (
  rok x4 h2)) (fun x5 => fun h6 => rok 0 h6))
noncomputable def f_X21_check_b55 (a0 : Nat) (a1 : Nat) (s0 : Nat) (s1 : Nat) (h : HP) : Rs Unit :=
  stR 21 198 s0 s1 h fun h1 =>
  ldR 21 198 a0 h1 fun x2 =>
  if x2 = 0 then
  (ldI 21 182 a0 h1 fun x6 =>
  if kc h1 a1 = 32 then
  bd (f_X32_wrong a1 x6 h1) (fun x7 h8 =>
  if kc h8 x7 = 69 then rex h8 else none)
  else none)
  else
  (ldR 21 198 a0 h1 fun x3 =>
  ldR 31 235 x3 h1 fun x4 =>
  stR 21 183 a0 x4 h1 fun h5 =>
  rok () h5)
noncomputable def f_X21_check (a0 : Nat) (a1 : Nat) (h : HP) : Rs Unit :=
  ldR 21 196 a0 h fun x1 =>
  if kc h a1 = 32 then
  bd (f_X32_find a1 x1 h) (fun x2 h3 =>
  stI 21 197 a0 x2 h3 fun h4 =>
  ldI 21 197 a0 h4 fun x5 =>
  if x5 < 0 then
  (ldR 32 238 a1 h4 fun x6 =>
  if x6 = 0 then
  (f_X21_check_b55  a0 a1 a0 0 h4)
  else
  (ldR 32 238 a1 h4 fun x7 =>
  ldR 21 196 a0 h4 fun x8 =>
  if kc h4 x7 = 4 then
  bd (f_X3_field x7 x8 h4) (fun x9 h10 =>
  f_X21_check_b55  a0 a1 a0 x9 h10)
  else none))
  else
  (ldI 21 197 a0 h4 fun x11 =>
  if kc h4 a1 = 32 then
  bd (f_X32_kindAt a1 x11 h4) (fun x12 h13 =>
  stR 21 183 a0 x12 h13 fun h14 =>
  rok () h14)
  else none))
  else none
noncomputable def f_X15_isReference (a0 : Nat) (h : HP) : Rs Int32 :=
  ldMR ksNode 183 a0 h fun x1 =>
  if x1 = 0 then
  (rok (1 : Int32) h)
  else
  (ldMR ksNode 183 a0 h fun x2 =>
  if kc h x2 = 4 then
  bd (f_X3_isPlain x2 h) (fun x3 h4 =>
  if x3 = 0 then
  (rok (1 : Int32) h4)
  else
  (rok (0 : Int32) h4))
  else none)
noncomputable def f_X3_mayBe_b48 (a0 : Nat) (a1 : Nat) (h : HP) : Rs Int32 :=
  ldR 4 32 a1 h fun x1 =>
  eqS x1 904
  (ldR 4 32 a0 h fun x2 =>
  eqS x2 903
  (rok (1 : Int32) h)
  (rok (0 : Int32) h))
  (rok (0 : Int32) h)
noncomputable def f_X3_mayBe (a0 : Nat) (a1 : Nat) (h : HP) : Rs Int32 :=
  if kc h a0 = 4 then
  bd (f_X3_isBelow 100 a0 a1 h) (fun x1 h2 =>
  if x1 = 0 then
  (if kc h2 a1 = 4 then
  bd (f_X3_isBelow 100 a1 a0 h2) (fun x3 h4 =>
  if x3 = 0 then
  (ldR 4 32 a0 h4 fun x5 =>
  eqS x5 904
  (ldR 4 32 a1 h4 fun x6 =>
  eqS x6 903
  (rok (1 : Int32) h4)
  (ldR 4 32 a1 h4 fun x7 =>
  eqS x7 904
  (rok (1 : Int32) h4)
  (f_X3_mayBe_b48  a0 a1 h4)))
  (f_X3_mayBe_b48  a0 a1 h4))
  else
  (rok (1 : Int32) h4))
  else none)
  else
  (rok (1 : Int32) h2))
  else none
noncomputable def f_X28_areComparable (a0 : Nat) (h : HP) : Rs Int32 :=
  ldR 28 218 a0 h fun x1 =>
  if kc h x1 ∈ [16, 17, 18, 19, 20, 21, 22, 23, 24, 25, 27, 28, 29] then
  bd (f_X15_isReference x1 h) (fun x2 h3 =>
  if x2 = 0 then
  (rok (0 : Int32) h3)
  else
  (ldR 28 219 a0 h3 fun x4 =>
  if kc h3 x4 ∈ [16, 17, 18, 19, 20, 21, 22, 23, 24, 25, 27, 28, 29] then
  bd (f_X15_isReference x4 h3) (fun x5 h6 =>
  if x5 = 0 then
  (rok (0 : Int32) h6)
  else
  (ldR 28 218 a0 h6 fun x7 =>
  ldMR ksNode 183 x7 h6 fun x8 =>
  if x8 = 0 then
  (rok (1 : Int32) h6)
  else
  (ldR 28 219 a0 h6 fun x9 =>
  ldMR ksNode 183 x9 h6 fun x10 =>
  if x10 = 0 then
  (rok (1 : Int32) h6)
  else
  (ldR 28 218 a0 h6 fun x11 =>
  ldMR ksNode 183 x11 h6 fun x12 =>
  ldR 28 219 a0 h6 fun x13 =>
  ldMR ksNode 183 x13 h6 fun x14 =>
  if kc h6 x12 = 4 then
  bd (f_X3_mayBe x12 x14 h6) (fun x15 h16 =>
  if x15 = 0 then
  (rok (0 : Int32) h16)
  else
  (rok (1 : Int32) h16))
  else none))))
  else none))
  else none
noncomputable def f_X34_wider (a0 : Int32) (a1 : Int32) (h : HP) : Rs Int32 :=
  rok (mxI (4 : Int32) (mxI a0 a1)) h
noncomputable def f_X32_pop (a0 : Nat) (h : HP) : Rs Unit :=
  ldR 32 240 a0 h fun x1 =>
  ldR 33 246 x1 h fun x2 =>
  stR 32 240 a0 x2 h fun h3 =>
  ldI 32 241 a0 h3 fun x4 =>
  stI 32 241 a0 (x4 - (1 : Int32)) h3 fun h5 =>
  rok () h5
noncomputable def f_X33_init (a0 : Nat) (a1 : Nat) (a2 : Nat) (a3 : Int32) (a4 : Nat) (h : HP) : Rs Unit :=
  if a0 = 0 then none else (
  stR 33 243 a0 a1 h fun h1 =>
  stR 33 244 a0 a2 h1 fun h2 =>
  stI 33 245 a0 a3 h2 fun h3 =>
  stR 33 246 a0 a4 h3 fun h4 =>
  rok () h4)
noncomputable def f_X32_push (a0 : Nat) (a1 : Nat) (a2 : Nat) (h : HP) : Rs Int32 :=
  nwO 33 4 h fun p1 h2 =>
  ldI 32 241 a0 h2 fun x3 =>
  ldR 32 240 a0 h2 fun x4 =>
  if kc h2 p1 = 33 then
  bd (f_X33_init p1 a1 a2 x3 x4 h2) (fun _ h5 =>
  stR 32 240 a0 p1 h5 fun h6 =>
  ldI 32 241 a0 h6 fun x7 =>
  stI 32 241 a0 (x7 + (1 : Int32)) h6 fun h8 =>
  ldI 32 242 a0 h8 fun x9 =>
  ldI 32 241 a0 h8 fun x10 =>
  stI 32 242 a0 (mxI x9 x10) h8 fun h11 =>
  ldI 32 241 a0 h11 fun x12 =>
  rok (x12 - (1 : Int32)) h11)
  else none
noncomputable def b_X3_meant_l8 (v0 : Nat) (v1 : Nat) (ih : Nat → Int32 → HP → Rs Nat) (a2 : Nat) (a3 : Int32) (h : HP) : Rs Nat :=
  ldR 4 43 v0 h fun x1 =>
  lsSize x1 h fun x2 =>
  if x2 ≤ a3 then
  (rok a2 h)
  else
  (if a2 = 0 then
  (ldR 4 43 v0 h fun x3 =>
  lsGet x3 a3 h fun x4 =>
  castR [4] x4 h (
  if kc h x4 = 4 then
  bd (f_X3_own x4 v1 h) (fun x5 h6 =>
  lt3 (a3 + 1) fun x7 =>
  ih x5 x7 h6)
  else none))
  else
  (rok a2 h))
noncomputable def f_X3_meant_l8 (v0 : Nat) (v1 : Nat) (n : Nat) : Nat → Int32 → HP → Rs Nat := @Nat.rec (fun _ => Nat → Int32 → HP → Rs Nat) (fun _ _ _ => none) (fun _ ih => b_X3_meant_l8 v0 v1 ih) n
noncomputable def f_X3_meant (a0 : Nat) (a1 : Nat) (h : HP) : Rs Nat :=
  if kc h a0 = 4 then
  bd (f_X3_inClasses 100 a0 a1 h) (fun x1 h2 =>
  bd (f_X3_meant_l8 a0 a1 NN x1 (0 : Int32) h2) (fun x3 h4 => rok x3 h4))
  else none
noncomputable def f_X3_isClassLike (a0 : Nat) (h : HP) : Rs Int32 :=
  ldR 4 32 a0 h fun x1 =>
  eqS x1 903
  (rok (1 : Int32) h)
  (ldR 4 32 a0 h fun x2 =>
  eqS x2 905
  (rok (1 : Int32) h)
  (rok (0 : Int32) h))
abbrev TY_S5 : Type := (Nat → Nat → HP → Rs Unit) × (Nat → Nat → HP → Rs Unit) × (Nat → Nat → HP → Rs Unit) × (Nat → Nat → HP → Rs Unit) × (Nat → Nat → HP → Rs Unit) × (Nat → Nat → HP → Rs Unit) × (Nat → Nat → Int32 → HP → Rs Nat) × (Nat → Nat → HP → Rs Unit) × (Nat → Nat → HP → Rs Unit) × (Nat → Nat → HP → Rs Unit)
noncomputable def f_X16_check_b53 (R : TY_S5) (a0 : Nat) (a1 : Nat) (s0 : Int32) (h : HP) : Rs Unit :=
  if s0 = 0 then
  (ldI 16 182 a0 h fun x14 =>
  if kc h a1 = 32 then
  bd (f_X32_wrong a1 x14 h) (fun x15 h16 =>
  if kc h16 x15 = 69 then rex h16 else none)
  else none)
  else
  (ldI 16 185 a0 h fun x1 =>
  if x1 = (33 : Int32) then
  (ldR 16 186 a0 h fun x11 =>
  ldMR ksNode 183 x11 h fun x12 =>
  stR 16 183 a0 x12 h fun h13 =>
  rok () h13)
  else
  (ldR 32 237 a1 h fun x2 =>
  ldR 16 186 a0 h fun x3 =>
  ldMR ksNode 183 x3 h fun x4 =>
  ldI 4 31 x4 h fun x5 =>
  bd (f_X34_wider x5 (4 : Int32) h) (fun x6 h7 =>
  if kc h7 x2 = 3 then
  bd (f_X2_get x2 x6 h7) (fun x8 h9 =>
  stR 16 183 a0 x8 h9 fun h10 =>
  rok () h10)
  else none)))
noncomputable def f_X16_check_o (R : TY_S5) (a0 : Nat) (a1 : Nat) (h : HP) : Rs Unit :=
  ldR 16 186 a0 h fun x1 =>
  bd (dsp (kc h x1) [(16, R.1 x1 a1), (17, f_X17_check x1 a1), (18, f_X18_check x1 a1), (19, f_X19_check x1 a1), (20, R.2.1 x1 a1), (21, f_X21_check x1 a1), (22, R.2.2.1 x1 a1), (23, R.2.2.2.1 x1 a1), (24, R.2.2.2.2.1 x1 a1), (25, R.2.2.2.2.2.1 x1 a1), (27, R.2.2.2.2.2.2.2.1 x1 a1), (28, R.2.2.2.2.2.2.2.2.1 x1 a1), (29, R.2.2.2.2.2.2.2.2.2 x1 a1)] h) (fun _ h2 =>
  ldI 16 185 a0 h2 fun x3 =>
  if x3 = (33 : Int32) then
  (ldR 16 186 a0 h2 fun x11 =>
  if kc h2 x11 ∈ [16, 17, 18, 19, 20, 21, 22, 23, 24, 25, 27, 28, 29] then
  bd (f_X15_isBoolean x11 h2) (fun x12 h13 =>
  f_X16_check_b53 R  a0 a1 x12 h13)
  else none)
  else
  (ldI 16 185 a0 h2 fun x4 =>
  if x4 = (126 : Int32) then
  (ldR 16 186 a0 h2 fun x8 =>
  if kc h2 x8 ∈ [16, 17, 18, 19, 20, 21, 22, 23, 24, 25, 27, 28, 29] then
  bd (f_X15_isWhole x8 h2) (fun x9 h10 =>
  f_X16_check_b53 R  a0 a1 x9 h10)
  else none)
  else
  (ldR 16 186 a0 h2 fun x5 =>
  if kc h2 x5 ∈ [16, 17, 18, 19, 20, 21, 22, 23, 24, 25, 27, 28, 29] then
  bd (f_X15_isNumber x5 h2) (fun x6 h7 =>
  f_X16_check_b53 R  a0 a1 x6 h7)
  else none)))
noncomputable def b_X20_check_l17 (R : TY_S5) (v0 : Nat) (v1 : Nat) (ih : Int32 → HP → Rs Unit) (a2 : Int32) (h : HP) : Rs Unit :=
  ldR 20 193 v0 h fun x1 =>
  lsSize x1 h fun x2 =>
  if x2 ≤ a2 then
  (rok () h)
  else
  (ldR 20 193 v0 h fun x3 =>
  lsGet x3 a2 h fun x4 =>
  castR [16, 17, 18, 19, 20, 21, 22, 23, 24, 25, 27, 28, 29] x4 h (
  bd (dsp (kc h x4) [(16, R.1 x4 v1), (17, f_X17_check x4 v1), (18, f_X18_check x4 v1), (19, f_X19_check x4 v1), (20, R.2.1 x4 v1), (21, f_X21_check x4 v1), (22, R.2.2.1 x4 v1), (23, R.2.2.2.1 x4 v1), (24, R.2.2.2.2.1 x4 v1), (25, R.2.2.2.2.2.1 x4 v1), (27, R.2.2.2.2.2.2.2.1 x4 v1), (28, R.2.2.2.2.2.2.2.2.1 x4 v1), (29, R.2.2.2.2.2.2.2.2.2 x4 v1)] h) (fun _ h5 =>
  lt3 (a2 + 1) fun x6 =>
  ih x6 h5)))
noncomputable def f_X20_check_l17 (R : TY_S5) (v0 : Nat) (v1 : Nat) (n : Nat) : Int32 → HP → Rs Unit := @Nat.rec (fun _ => Int32 → HP → Rs Unit) (fun _ _ => none) (fun _ ih => b_X20_check_l17 R v0 v1 ih) n
noncomputable def b_X20_check_l172 (R : TY_S5) (v0 : Nat) (v1 : Nat) (ih : Int32 → HP → Rs (Unit ⊕ Unit)) (a3 : Int32) (h : HP) : Rs (Unit ⊕ Unit) :=
  ldR 20 193 v0 h fun x1 =>
  lsSize x1 h fun x2 =>
  if x2 ≤ a3 then
  (rok (Sum.inr ()) h)
  else
  (ldR 20 193 v0 h fun x3 =>
  lsGet x3 a3 h fun x4 =>
  castR [16, 17, 18, 19, 20, 21, 22, 23, 24, 25, 27, 28, 29] x4 h (
  ldR 20 194 v0 h fun x5 =>
  ldR 30 230 x5 h fun x6 =>
  lsGet x6 a3 h fun x7 =>
  castR [4] x7 h (
  if kc h x4 ∈ [16, 17, 18, 19, 20, 21, 22, 23, 24, 25, 27, 28, 29] then
  bd (f_X15_fits x4 x7 h) (fun x8 h9 =>
  if x8 = 0 then
  (rok (Sum.inl ()) h9)
  else
  (lt3 (a3 + 1) fun x10 =>
  ih x10 h9))
  else none)))
noncomputable def f_X20_check_l172 (R : TY_S5) (v0 : Nat) (v1 : Nat) (n : Nat) : Int32 → HP → Rs (Unit ⊕ Unit) := @Nat.rec (fun _ => Int32 → HP → Rs (Unit ⊕ Unit)) (fun _ _ => none) (fun _ ih => b_X20_check_l172 R v0 v1 ih) n
noncomputable def f_X20_check_b93 (R : TY_S5) (a0 : Nat) (a1 : Nat) (s0 : Nat) (h : HP) : Rs Unit :=
  if s0 = 0 then
  (ldI 20 182 a0 h fun x29 =>
  if kc h a1 = 32 then
  bd (f_X32_wrong a1 x29 h) (fun x30 h31 =>
  if kc h31 x30 = 69 then rex h31 else none)
  else none)
  else
  (ldI 4 31 s0 h fun x1 =>
  if x1 = (9 : Int32) then
  (if kc h a0 = 20 then
  bd (f_X20_checkText a0 a1 h) (fun _ h28 =>
  rok () h28)
  else none)
  else
  (ldR 20 192 a0 h fun x2 =>
  if kc h s0 = 4 then
  bd (f_X3_meant s0 x2 h) (fun x3 h4 =>
  stR 20 194 a0 x3 h4 fun h5 =>
  ldR 20 194 a0 h5 fun x6 =>
  if x6 = 0 then
  (ldI 20 182 a0 h5 fun x7 =>
  if kc h5 a1 = 32 then
  bd (f_X32_wrong a1 x7 h5) (fun x8 h9 =>
  if kc h9 x8 = 69 then rex h9 else none)
  else none)
  else
  (ldR 20 194 a0 h5 fun x10 =>
  ldR 30 230 x10 h5 fun x11 =>
  lsSize x11 h5 fun x12 =>
  ldR 20 193 a0 h5 fun x13 =>
  lsSize x13 h5 fun x14 =>
  if x12 = x14 then
  (bd (f_X20_check_l172 R a0 a1 NN (0 : Int32) h5) (Sum.elim (fun x15 => fun h16 => ldI 20 182 a0 h16 fun x17 =>
  if kc h16 a1 = 32 then
  bd (f_X32_wrong a1 x17 h16) (fun x18 h19 =>
  if kc h19 x18 = 69 then rex h19 else none)
  else none) (fun x20 => fun h21 => ldR 20 194 a0 h21 fun x22 =>
  ldR 30 229 x22 h21 fun x23 =>
  stR 20 183 a0 x23 h21 fun h24 =>
  rok () h24)))
  else
  (ldI 20 182 a0 h5 fun x25 =>
  if kc h5 a1 = 32 then
  bd (f_X32_wrong a1 x25 h5) (fun x26 h27 =>
  if kc h27 x26 = 69 then rex h27 else none)
  else none)))
  else none))
noncomputable def f_X20_check_b72 (R : TY_S5) (a0 : Nat) (a1 : Nat) (h : HP) : Rs Unit :=
  ldR 20 191 a0 h fun x1 =>
  if x1 = 0 then
  (ldR 32 238 a1 h fun x4 =>
  f_X20_check_b93 R  a0 a1 x4 h)
  else
  (ldR 20 191 a0 h fun x2 =>
  ldMR ksNode 183 x2 h fun x3 =>
  f_X20_check_b93 R  a0 a1 x3 h)
noncomputable def f_X20_check_b15 (R : TY_S5) (a0 : Nat) (a1 : Nat) (h : HP) : Rs Unit :=
  bd (f_X20_check_l17 R a0 a1 NN (0 : Int32) h) (fun x1 h2 => ldR 20 191 a0 h2 fun x3 =>
  if x3 = 0 then
  (ldR 32 238 a1 h2 fun x4 =>
  if x4 = 0 then
  (ldI 20 182 a0 h2 fun x5 =>
  if kc h2 a1 = 32 then
  bd (f_X32_wrong a1 x5 h2) (fun x6 h7 =>
  if kc h7 x6 = 69 then rex h7 else none)
  else none)
  else
  (f_X20_check_b72 R  a0 a1 h2))
  else
  (f_X20_check_b72 R  a0 a1 h2))
noncomputable def f_X20_check_o (R : TY_S5) (a0 : Nat) (a1 : Nat) (h : HP) : Rs Unit :=
  ldR 20 191 a0 h fun x1 =>
  if x1 = 0 then
  (f_X20_check_b15 R  a0 a1 h)
  else
  (ldR 20 191 a0 h fun x2 =>
  bd (dsp (kc h x2) [(16, R.1 x2 a1), (17, f_X17_check x2 a1), (18, f_X18_check x2 a1), (19, f_X19_check x2 a1), (20, R.2.1 x2 a1), (21, f_X21_check x2 a1), (22, R.2.2.1 x2 a1), (23, R.2.2.2.1 x2 a1), (24, R.2.2.2.2.1 x2 a1), (25, R.2.2.2.2.2.1 x2 a1), (27, R.2.2.2.2.2.2.2.1 x2 a1), (28, R.2.2.2.2.2.2.2.2.1 x2 a1), (29, R.2.2.2.2.2.2.2.2.2 x2 a1)] h) (fun _ h3 =>
  f_X20_check_b15 R  a0 a1 h3))
noncomputable def f_X22_check_o (R : TY_S5) (a0 : Nat) (a1 : Nat) (h : HP) : Rs Unit :=
  ldR 22 199 a0 h fun x1 =>
  bd (dsp (kc h x1) [(16, R.1 x1 a1), (17, f_X17_check x1 a1), (18, f_X18_check x1 a1), (19, f_X19_check x1 a1), (20, R.2.1 x1 a1), (21, f_X21_check x1 a1), (22, R.2.2.1 x1 a1), (23, R.2.2.2.1 x1 a1), (24, R.2.2.2.2.1 x1 a1), (25, R.2.2.2.2.2.1 x1 a1), (27, R.2.2.2.2.2.2.2.1 x1 a1), (28, R.2.2.2.2.2.2.2.2.1 x1 a1), (29, R.2.2.2.2.2.2.2.2.2 x1 a1)] h) (fun _ h2 =>
  ldR 22 200 a0 h2 fun x3 =>
  bd (dsp (kc h2 x3) [(16, R.1 x3 a1), (17, f_X17_check x3 a1), (18, f_X18_check x3 a1), (19, f_X19_check x3 a1), (20, R.2.1 x3 a1), (21, f_X21_check x3 a1), (22, R.2.2.1 x3 a1), (23, R.2.2.2.1 x3 a1), (24, R.2.2.2.2.1 x3 a1), (25, R.2.2.2.2.2.1 x3 a1), (27, R.2.2.2.2.2.2.2.1 x3 a1), (28, R.2.2.2.2.2.2.2.2.1 x3 a1), (29, R.2.2.2.2.2.2.2.2.2 x3 a1)] h2) (fun _ h4 =>
  ldR 22 199 a0 h4 fun x5 =>
  ldMR ksNode 183 x5 h4 fun x6 =>
  if x6 = 0 then
  (ldI 22 182 a0 h4 fun x7 =>
  if kc h4 a1 = 32 then
  bd (f_X32_wrong a1 x7 h4) (fun x8 h9 =>
  if kc h9 x8 = 69 then rex h9 else none)
  else none)
  else
  (ldR 22 199 a0 h4 fun x10 =>
  ldMR ksNode 183 x10 h4 fun x11 =>
  ldR 4 32 x11 h4 fun x12 =>
  eqS x12 907
  (ldR 22 200 a0 h4 fun x16 =>
  if kc h4 x16 ∈ [16, 17, 18, 19, 20, 21, 22, 23, 24, 25, 27, 28, 29] then
  bd (f_X15_isWhole x16 h4) (fun x17 h18 =>
  if x17 = 0 then
  (ldI 22 182 a0 h18 fun x19 =>
  if kc h18 a1 = 32 then
  bd (f_X32_wrong a1 x19 h18) (fun x20 h21 =>
  if kc h21 x20 = 69 then rex h21 else none)
  else none)
  else
  (ldR 22 200 a0 h18 fun x22 =>
  ldR 32 237 a1 h18 fun x23 =>
  if kc h18 x23 = 3 then
  bd (f_X2_get x23 (4 : Int32) h18) (fun x24 h25 =>
  if kc h25 x22 ∈ [16, 17, 18, 19, 20, 21, 22, 23, 24, 25, 27, 28, 29] then
  bd (f_X15_fits x22 x24 h25) (fun x26 h27 =>
  if x26 = 0 then
  (ldI 22 182 a0 h27 fun x32 =>
  if kc h27 a1 = 32 then
  bd (f_X32_wrong a1 x32 h27) (fun x33 h34 =>
  if kc h34 x33 = 69 then rex h34 else none)
  else none)
  else
  (ldR 22 199 a0 h27 fun x28 =>
  ldMR ksNode 183 x28 h27 fun x29 =>
  ldR 4 34 x29 h27 fun x30 =>
  stR 22 183 a0 x30 h27 fun h31 =>
  rok () h31))
  else none)
  else none))
  else none)
  (ldI 22 182 a0 h4 fun x13 =>
  if kc h4 a1 = 32 then
  bd (f_X32_wrong a1 x13 h4) (fun x14 h15 =>
  if kc h15 x14 = 69 then rex h15 else none)
  else none))))
noncomputable def f_X23_check_b283 (R : TY_S5) (a0 : Nat) (a1 : Nat) (s0 : Nat) (s1 : Int32) (h : HP) : Rs Unit :=
  stI 23 203 s0 s1 h fun h1 =>
  ldR 32 237 a1 h1 fun x2 =>
  if kc h1 x2 = 3 then
  bd (f_X2_get x2 (4 : Int32) h1) (fun x3 h4 =>
  stR 23 183 a0 x3 h4 fun h5 =>
  rok () h5)
  else none
noncomputable def f_X23_check_b272 (R : TY_S5) (a0 : Nat) (a1 : Nat) (a4 : Int32) (h : HP) : Rs Unit :=
  if a4 = 0 then
  (f_X23_check_b283 R  a0 a1 a0 (2 : Int32) h)
  else
  (f_X23_check_b283 R  a0 a1 a0 (1 : Int32) h)
noncomputable def f_X23_check_b234 (R : TY_S5) (a0 : Nat) (a1 : Nat) (a3 : Nat) (s0 : Int32) (h : HP) : Rs Unit :=
  if s0 = 0 then
  (ldR 4 32 a3 h fun x1 =>
  eqS x1 906
  (ldR 23 202 a0 h fun x5 =>
  txEq x5 63 h fun x6 =>
  if x6 = 0 then
  (ldI 23 182 a0 h fun x7 =>
  if kc h a1 = 32 then
  bd (f_X32_wrong a1 x7 h) (fun x8 h9 =>
  if kc h9 x8 = 69 then rex h9 else none)
  else none)
  else
  (f_X23_check_b272 R  a0 a1 s0 h))
  (ldI 23 182 a0 h fun x2 =>
  if kc h a1 = 32 then
  bd (f_X32_wrong a1 x2 h) (fun x3 h4 =>
  if kc h4 x3 = 69 then rex h4 else none)
  else none))
  else
  (f_X23_check_b272 R  a0 a1 s0 h)
noncomputable def f_X23_check_b233 (R : TY_S5) (a0 : Nat) (a1 : Nat) (a3 : Nat) (h : HP) : Rs Unit :=
  f_X23_check_b234 R  a0 a1 a3 (0 : Int32) h
noncomputable def f_X23_check_b145 (R : TY_S5) (a0 : Nat) (a1 : Nat) (h : HP) : Rs Unit :=
  ldR 23 201 a0 h fun x1 =>
  bd (dsp (kc h x1) [(16, R.1 x1 a1), (17, f_X17_check x1 a1), (18, f_X18_check x1 a1), (19, f_X19_check x1 a1), (20, R.2.1 x1 a1), (21, f_X21_check x1 a1), (22, R.2.2.1 x1 a1), (23, R.2.2.2.1 x1 a1), (24, R.2.2.2.2.1 x1 a1), (25, R.2.2.2.2.2.1 x1 a1), (27, R.2.2.2.2.2.2.2.1 x1 a1), (28, R.2.2.2.2.2.2.2.2.1 x1 a1), (29, R.2.2.2.2.2.2.2.2.2 x1 a1)] h) (fun _ h2 =>
  ldR 23 201 a0 h2 fun x3 =>
  ldMR ksNode 183 x3 h2 fun x4 =>
  if x4 = 0 then
  (ldI 23 182 a0 h2 fun x16 =>
  if kc h2 a1 = 32 then
  bd (f_X32_wrong a1 x16 h2) (fun x17 h18 =>
  if kc h18 x17 = 69 then rex h18 else none)
  else none)
  else
  (ldR 23 202 a0 h2 fun x5 =>
  if kc h2 x4 = 4 then
  bd (f_X3_field x4 x5 h2) (fun x6 h7 =>
  stR 23 204 a0 x6 h7 fun h8 =>
  ldR 23 204 a0 h8 fun x9 =>
  if x9 = 0 then
  (ldR 4 32 x4 h8 fun x10 =>
  eqS x10 907
  (ldR 23 202 a0 h8 fun x11 =>
  txEq x11 60 h8 fun x12 =>
  if x12 = 0 then
  (f_X23_check_b233 R  a0 a1 x4 h8)
  else
  (f_X23_check_b234 R  a0 a1 x4 (1 : Int32) h8))
  (f_X23_check_b233 R  a0 a1 x4 h8))
  else
  (ldR 23 204 a0 h8 fun x13 =>
  ldR 31 235 x13 h8 fun x14 =>
  stR 23 183 a0 x14 h8 fun h15 =>
  rok () h15))
  else none))
noncomputable def b_X23_check_l65 (R : TY_S5) (v0 : Nat) (v1 : Nat) (v2 : Nat) (ih : Int32 → HP → Rs Int32) (a3 : Int32) (h : HP) : Rs Int32 :=
  ldR 4 46 v2 h fun x1 =>
  lsSize x1 h fun x2 =>
  if x2 ≤ a3 then
  (rok a3 h)
  else
  (ldR 4 46 v2 h fun x3 =>
  lsGet x3 a3 h fun x4 =>
  castR [71] x4 h (
  ldR 23 202 v0 h fun x5 =>
  txEq x4 x5 h fun x6 =>
  if x6 = 0 then
  (lt3 (a3 + 1) fun x7 =>
  ih x7 h)
  else
  (rok a3 h)))
noncomputable def f_X23_check_l65 (R : TY_S5) (v0 : Nat) (v1 : Nat) (v2 : Nat) (n : Nat) : Int32 → HP → Rs Int32 := @Nat.rec (fun _ => Int32 → HP → Rs Int32) (fun _ _ => none) (fun _ ih => b_X23_check_l65 R v0 v1 v2 ih) n
noncomputable def f_X23_check_b103 (R : TY_S5) (a0 : Nat) (a1 : Nat) (a2 : Nat) (a3 : Int32) (h : HP) : Rs Unit :=
  ldR 4 46 a2 h fun x1 =>
  lsSize x1 h fun x2 =>
  if a3 = x2 then
  (ldI 23 182 a0 h fun x7 =>
  if kc h a1 = 32 then
  bd (f_X32_wrong a1 x7 h) (fun x8 h9 =>
  if kc h9 x8 = 69 then rex h9 else none)
  else none)
  else
  (stI 23 203 a0 (3 : Int32) h fun h3 =>
  ldI 4 47 a2 h3 fun x4 =>
  stJ 23 205 a0 (Int32.toInt64 (x4 + a3)) h3 fun h5 =>
  stR 23 183 a0 a2 h5 fun h6 =>
  rok () h6)
noncomputable def f_X23_check_b48 (R : TY_S5) (a0 : Nat) (a1 : Nat) (s0 : Nat) (h : HP) : Rs Unit :=
  if s0 = 0 then
  (f_X23_check_b145 R  a0 a1 h)
  else
  (ldR 4 32 s0 h fun x1 =>
  eqS x1 906
  (bd (f_X23_check_l65 R a0 a1 s0 NN (0 : Int32) h) (fun x2 h3 => f_X23_check_b103 R  a0 a1 s0 x2 h3))
  (f_X23_check_b145 R  a0 a1 h))
noncomputable def f_X23_check_b47 (R : TY_S5) (a0 : Nat) (a1 : Nat) (h : HP) : Rs Unit :=
  f_X23_check_b48 R  a0 a1 0 h
noncomputable def f_X23_check_o (R : TY_S5) (a0 : Nat) (a1 : Nat) (h : HP) : Rs Unit :=
  ldR 23 201 a0 h fun x1 =>
  instN x1 h fun x2 =>
  if x2 = 0 then
  (f_X23_check_b47 R  a0 a1 h)
  else
  (ldR 23 201 a0 h fun x3 =>
  castR [21] x3 h (
  ldR 21 196 x3 h fun x4 =>
  if kc h a1 = 32 then
  bd (f_X32_find a1 x4 h) (fun x5 h6 =>
  if 0 ≤ x5 then
  (f_X23_check_b47 R  a0 a1 h6)
  else
  (ldR 32 237 a1 h6 fun x7 =>
  ldR 23 201 a0 h6 fun x8 =>
  castR [21] x8 h6 (
  ldR 21 196 x8 h6 fun x9 =>
  if kc h6 x7 = 3 then
  bd (f_X2_named x7 x9 h6) (fun x10 h11 =>
  f_X23_check_b48 R  a0 a1 x10 h11)
  else none)))
  else none))
noncomputable def f_X24_check_b154 (R : TY_S5) (a0 : Nat) (a1 : Nat) (a2 : Int32) (h : HP) : Rs Unit :=
  if a2 = 0 then
  (ldI 24 182 a0 h fun x1 =>
  if kc h a1 = 32 then
  bd (f_X32_wrong a1 x1 h) (fun x2 h3 =>
  if kc h3 x2 = 69 then rex h3 else none)
  else none)
  else
  (rok () h)
noncomputable def f_X24_check_b135 (R : TY_S5) (a0 : Nat) (a1 : Nat) (s0 : Int32) (h : HP) : Rs Unit :=
  f_X24_check_b154 R  a0 a1 s0 h
noncomputable def f_X24_check_b130 (R : TY_S5) (a0 : Nat) (a1 : Nat) (h : HP) : Rs Unit :=
  f_X24_check_b135 R  a0 a1 (1 : Int32) h
noncomputable def f_X24_check_b134 (R : TY_S5) (a0 : Nat) (a1 : Nat) (h : HP) : Rs Unit :=
  f_X24_check_b135 R  a0 a1 (0 : Int32) h
noncomputable def f_X24_check_b93 (R : TY_S5) (a0 : Nat) (a1 : Nat) (h : HP) : Rs Unit :=
  ldR 24 183 a0 h fun x1 =>
  ldR 24 207 a0 h fun x2 =>
  ldMR ksNode 183 x2 h fun x3 =>
  eqR h x1 x3
  (f_X24_check_b130 R  a0 a1 h)
  (ldR 24 183 a0 h fun x4 =>
  if kc h x4 = 4 then
  bd (f_X3_isNumber x4 h) (fun x5 h6 =>
  if x5 = 0 then
  (f_X24_check_b134 R  a0 a1 h6)
  else
  (ldR 24 207 a0 h6 fun x7 =>
  ldMR ksNode 183 x7 h6 fun x8 =>
  if kc h6 x8 = 4 then
  bd (f_X3_isNumber x8 h6) (fun x9 h10 =>
  if x9 = 0 then
  (f_X24_check_b134 R  a0 a1 h10)
  else
  (f_X24_check_b130 R  a0 a1 h10))
  else none))
  else none)
noncomputable def f_X24_check_b66 (R : TY_S5) (a0 : Nat) (a1 : Nat) (s0 : Int32) (h : HP) : Rs Unit :=
  f_X24_check_b154 R  a0 a1 s0 h
noncomputable def f_X24_check_o (R : TY_S5) (a0 : Nat) (a1 : Nat) (h : HP) : Rs Unit :=
  ldR 24 207 a0 h fun x1 =>
  bd (dsp (kc h x1) [(16, R.1 x1 a1), (17, f_X17_check x1 a1), (18, f_X18_check x1 a1), (19, f_X19_check x1 a1), (20, R.2.1 x1 a1), (21, f_X21_check x1 a1), (22, R.2.2.1 x1 a1), (23, R.2.2.2.1 x1 a1), (24, R.2.2.2.2.1 x1 a1), (25, R.2.2.2.2.2.1 x1 a1), (27, R.2.2.2.2.2.2.2.1 x1 a1), (28, R.2.2.2.2.2.2.2.2.1 x1 a1), (29, R.2.2.2.2.2.2.2.2.2 x1 a1)] h) (fun _ h2 =>
  ldR 24 206 a0 h2 fun x3 =>
  ldR 14 173 x3 h2 fun x4 =>
  if x4 = 0 then
  (ldR 24 206 a0 h2 fun x25 =>
  ldI 14 171 x25 h2 fun x26 =>
  if kc h2 a1 = 32 then
  bd (f_X32_wrong a1 x26 h2) (fun x27 h28 =>
  if kc h28 x27 = 69 then rex h28 else none)
  else none)
  else
  (ldR 24 206 a0 h2 fun x5 =>
  ldR 14 173 x5 h2 fun x6 =>
  stR 24 183 a0 x6 h2 fun h7 =>
  ldR 24 207 a0 h7 fun x8 =>
  ldMR ksNode 183 x8 h7 fun x9 =>
  if x9 = 0 then
  (ldR 24 183 a0 h7 fun x22 =>
  if kc h7 x22 = 4 then
  bd (f_X3_isPlain x22 h7) (fun x23 h24 =>
  if x23 = 0 then
  (f_X24_check_b66 R  a0 a1 (1 : Int32) h24)
  else
  (f_X24_check_b66 R  a0 a1 (0 : Int32) h24))
  else none)
  else
  (ldR 24 183 a0 h7 fun x10 =>
  if kc h7 x10 = 4 then
  bd (f_X3_isPlain x10 h7) (fun x11 h12 =>
  if x11 = 0 then
  (ldR 24 207 a0 h12 fun x13 =>
  ldMR ksNode 183 x13 h12 fun x14 =>
  if kc h12 x14 = 4 then
  bd (f_X3_isPlain x14 h12) (fun x15 h16 =>
  if x15 = 0 then
  (ldR 24 207 a0 h16 fun x17 =>
  ldMR ksNode 183 x17 h16 fun x18 =>
  ldR 24 183 a0 h16 fun x19 =>
  if kc h16 x18 = 4 then
  bd (f_X3_mayBe x18 x19 h16) (fun x20 h21 =>
  f_X24_check_b154 R  a0 a1 x20 h21)
  else none)
  else
  (f_X24_check_b93 R  a0 a1 h16))
  else none)
  else
  (f_X24_check_b93 R  a0 a1 h12))
  else none)))
noncomputable def f_X25_check_b122 (R : TY_S5) (a0 : Nat) (a1 : Nat) (s0 : Int32) (h : HP) : Rs Unit :=
  ldR 32 237 a1 h fun x1 =>
  ldI 25 208 a0 h fun x2 =>
  if (2 : Int32) ≤ x2 then
  (if s0 = (5 : Int32) then
  (if kc h x1 = 3 then
  bd (f_X2_get x1 (5 : Int32) h) (fun x9 h10 =>
  stR 25 183 a0 x9 h10 fun h11 =>
  rok () h11)
  else none)
  else
  (if s0 < (6 : Int32) then
  (if kc h x1 = 3 then
  bd (f_X2_get x1 (4 : Int32) h) (fun x3 h4 =>
  stR 25 183 a0 x3 h4 fun h5 =>
  rok () h5)
  else none)
  else
  (if kc h x1 = 3 then
  bd (f_X2_get x1 (7 : Int32) h) (fun x6 h7 =>
  stR 25 183 a0 x6 h7 fun h8 =>
  rok () h8)
  else none)))
  else
  (if kc h x1 = 3 then
  bd (f_X2_get x1 (0 : Int32) h) (fun x12 h13 =>
  stR 25 183 a0 x12 h13 fun h14 =>
  rok () h14)
  else none)
noncomputable def f_X25_check_b86 (R : TY_S5) (a0 : Nat) (a1 : Nat) (s0 : Int32) (h : HP) : Rs Unit :=
  if s0 = 0 then
  (ldI 25 182 a0 h fun x5 =>
  if kc h a1 = 32 then
  bd (f_X32_wrong a1 x5 h) (fun x6 h7 =>
  if kc h7 x6 = 69 then rex h7 else none)
  else none)
  else
  (ldI 25 208 a0 h fun x1 =>
  if x1 = (3 : Int32) then
  (ldR 25 211 a0 h fun x2 =>
  ldMR ksNode 183 x2 h fun x3 =>
  ldI 4 31 x3 h fun x4 =>
  f_X25_check_b122 R  a0 a1 x4 h)
  else
  (f_X25_check_b122 R  a0 a1 (4 : Int32) h))
noncomputable def f_X25_check_o (R : TY_S5) (a0 : Nat) (a1 : Nat) (h : HP) : Rs Unit :=
  ldR 25 210 a0 h fun x1 =>
  ldI 25 182 a0 h fun x2 =>
  if kc h x1 = 26 then
  bd (R.2.2.2.2.2.2.1 x1 a1 x2 h) (fun x3 h4 =>
  ldR 32 237 a1 h4 fun x5 =>
  ldR 25 209 a0 h4 fun x6 =>
  if kc h4 x5 = 3 then
  bd (f_X2_named x5 x6 h4) (fun x7 h8 =>
  if x7 = 0 then
  (ldR 25 209 a0 h8 fun x9 =>
  if kc h8 a1 = 32 then
  bd (f_X32_push a1 x9 x3 h8) (fun x10 h11 =>
  stI 25 212 a0 x10 h11 fun h12 =>
  ldR 25 211 a0 h12 fun x13 =>
  bd (dsp (kc h12 x13) [(16, R.1 x13 a1), (17, f_X17_check x13 a1), (18, f_X18_check x13 a1), (19, f_X19_check x13 a1), (20, R.2.1 x13 a1), (21, f_X21_check x13 a1), (22, R.2.2.1 x13 a1), (23, R.2.2.2.1 x13 a1), (24, R.2.2.2.2.1 x13 a1), (25, R.2.2.2.2.2.1 x13 a1), (27, R.2.2.2.2.2.2.2.1 x13 a1), (28, R.2.2.2.2.2.2.2.2.1 x13 a1), (29, R.2.2.2.2.2.2.2.2.2 x13 a1)] h12) (fun _ h14 =>
  if kc h14 a1 = 32 then
  bd (f_X32_pop a1 h14) (fun _ h15 =>
  ldI 25 208 a0 h15 fun x16 =>
  if x16 = (3 : Int32) then
  (ldR 25 211 a0 h15 fun x20 =>
  if kc h15 x20 ∈ [16, 17, 18, 19, 20, 21, 22, 23, 24, 25, 27, 28, 29] then
  bd (f_X15_isNumber x20 h15) (fun x21 h22 =>
  f_X25_check_b86 R  a0 a1 x21 h22)
  else none)
  else
  (ldR 25 211 a0 h15 fun x17 =>
  if kc h15 x17 ∈ [16, 17, 18, 19, 20, 21, 22, 23, 24, 25, 27, 28, 29] then
  bd (f_X15_isBoolean x17 h15) (fun x18 h19 =>
  f_X25_check_b86 R  a0 a1 x18 h19)
  else none))
  else none))
  else none)
  else
  (ldI 25 182 a0 h8 fun x23 =>
  if kc h8 a1 = 32 then
  bd (f_X32_wrong a1 x23 h8) (fun x24 h25 =>
  if kc h25 x24 = 69 then rex h25 else none)
  else none))
  else none)
  else none
noncomputable def f_X26_check_b87 (R : TY_S5) (a0 : Nat) (a1 : Nat) (a2 : Int32) (h : HP) : Rs Nat :=
  ldR 26 213 a0 h fun x1 =>
  bd (dsp (kc h x1) [(16, R.1 x1 a1), (17, f_X17_check x1 a1), (18, f_X18_check x1 a1), (19, f_X19_check x1 a1), (20, R.2.1 x1 a1), (21, f_X21_check x1 a1), (22, R.2.2.1 x1 a1), (23, R.2.2.2.1 x1 a1), (24, R.2.2.2.2.1 x1 a1), (25, R.2.2.2.2.2.1 x1 a1), (27, R.2.2.2.2.2.2.2.1 x1 a1), (28, R.2.2.2.2.2.2.2.2.1 x1 a1), (29, R.2.2.2.2.2.2.2.2.2 x1 a1)] h) (fun _ h2 =>
  ldR 26 213 a0 h2 fun x3 =>
  ldMR ksNode 183 x3 h2 fun x4 =>
  if x4 = 0 then
  (if kc h2 a1 = 32 then
  bd (f_X32_wrong a1 a2 h2) (fun x5 h6 =>
  if kc h6 x5 = 69 then rex h6 else none)
  else none)
  else
  (ldR 26 213 a0 h2 fun x7 =>
  ldMR ksNode 183 x7 h2 fun x8 =>
  ldR 4 32 x8 h2 fun x9 =>
  eqS x9 907
  (ldR 26 213 a0 h2 fun x10 =>
  ldMR ksNode 183 x10 h2 fun x11 =>
  ldR 4 34 x11 h2 fun x12 =>
  rok x12 h2)
  (if kc h2 a1 = 32 then
  bd (f_X32_wrong a1 a2 h2) (fun x13 h14 =>
  if kc h14 x13 = 69 then rex h14 else none)
  else none)))
noncomputable def f_X26_check_b48 (R : TY_S5) (a0 : Nat) (a1 : Nat) (a2 : Int32) (s0 : Nat) (h : HP) : Rs Nat :=
  if s0 = 0 then
  (f_X26_check_b87 R  a0 a1 a2 h)
  else
  (if kc h s0 = 4 then
  bd (f_X3_isClassLike s0 h) (fun x1 h2 =>
  if x1 = 0 then
  (ldR 4 32 s0 h2 fun x4 =>
  eqS x4 904
  (stR 26 214 a0 s0 h2 fun h5 =>
  rok s0 h5)
  (ldR 4 32 s0 h2 fun x6 =>
  eqS x6 906
  (stR 26 214 a0 s0 h2 fun h7 =>
  rok s0 h7)
  (f_X26_check_b87 R  a0 a1 a2 h2)))
  else
  (stR 26 214 a0 s0 h2 fun h3 =>
  rok s0 h3))
  else none)
noncomputable def f_X26_check_b47 (R : TY_S5) (a0 : Nat) (a1 : Nat) (a2 : Int32) (h : HP) : Rs Nat :=
  f_X26_check_b48 R  a0 a1 a2 0 h
noncomputable def f_X26_check_o (R : TY_S5) (a0 : Nat) (a1 : Nat) (a2 : Int32) (h : HP) : Rs Nat :=
  ldR 26 213 a0 h fun x1 =>
  instN x1 h fun x2 =>
  if x2 = 0 then
  (f_X26_check_b47 R  a0 a1 a2 h)
  else
  (ldR 26 213 a0 h fun x3 =>
  castR [21] x3 h (
  ldR 21 196 x3 h fun x4 =>
  if kc h a1 = 32 then
  bd (f_X32_find a1 x4 h) (fun x5 h6 =>
  if 0 ≤ x5 then
  (f_X26_check_b47 R  a0 a1 a2 h6)
  else
  (ldR 32 237 a1 h6 fun x7 =>
  ldR 26 213 a0 h6 fun x8 =>
  castR [21] x8 h6 (
  ldR 21 196 x8 h6 fun x9 =>
  if kc h6 x7 = 3 then
  bd (f_X2_named x7 x9 h6) (fun x10 h11 =>
  f_X26_check_b48 R  a0 a1 a2 x10 h11)
  else none)))
  else none))
noncomputable def f_X27_check_b88 (R : TY_S5) (a0 : Nat) (a1 : Nat) (s0 : Int32) (h : HP) : Rs Unit :=
  if s0 = 0 then
  (ldI 27 182 a0 h fun x5 =>
  if kc h a1 = 32 then
  bd (f_X32_wrong a1 x5 h) (fun x6 h7 =>
  if kc h7 x6 = 69 then rex h7 else none)
  else none)
  else
  (ldR 32 237 a1 h fun x1 =>
  if kc h x1 = 3 then
  bd (f_X2_get x1 (0 : Int32) h) (fun x2 h3 =>
  stR 27 183 a0 x2 h3 fun h4 =>
  rok () h4)
  else none)
noncomputable def f_X27_check_b87 (R : TY_S5) (a0 : Nat) (a1 : Nat) (h : HP) : Rs Unit :=
  f_X27_check_b88 R  a0 a1 (0 : Int32) h
noncomputable def f_X27_check_b83 (R : TY_S5) (a0 : Nat) (a1 : Nat) (h : HP) : Rs Unit :=
  f_X27_check_b88 R  a0 a1 (1 : Int32) h
noncomputable def f_X27_check_o (R : TY_S5) (a0 : Nat) (a1 : Nat) (h : HP) : Rs Unit :=
  ldR 27 215 a0 h fun x1 =>
  bd (dsp (kc h x1) [(16, R.1 x1 a1), (17, f_X17_check x1 a1), (18, f_X18_check x1 a1), (19, f_X19_check x1 a1), (20, R.2.1 x1 a1), (21, f_X21_check x1 a1), (22, R.2.2.1 x1 a1), (23, R.2.2.2.1 x1 a1), (24, R.2.2.2.2.1 x1 a1), (25, R.2.2.2.2.2.1 x1 a1), (27, R.2.2.2.2.2.2.2.1 x1 a1), (28, R.2.2.2.2.2.2.2.2.1 x1 a1), (29, R.2.2.2.2.2.2.2.2.2 x1 a1)] h) (fun _ h2 =>
  ldR 27 216 a0 h2 fun x3 =>
  ldR 14 173 x3 h2 fun x4 =>
  if x4 = 0 then
  (ldR 27 216 a0 h2 fun x20 =>
  ldI 14 171 x20 h2 fun x21 =>
  if kc h2 a1 = 32 then
  bd (f_X32_wrong a1 x21 h2) (fun x22 h23 =>
  if kc h23 x22 = 69 then rex h23 else none)
  else none)
  else
  (ldR 27 216 a0 h2 fun x5 =>
  ldR 14 173 x5 h2 fun x6 =>
  if kc h2 x6 = 4 then
  bd (f_X3_isPlain x6 h2) (fun x7 h8 =>
  if x7 = 0 then
  (ldR 27 215 a0 h8 fun x9 =>
  if kc h8 x9 ∈ [16, 17, 18, 19, 20, 21, 22, 23, 24, 25, 27, 28, 29] then
  bd (f_X15_isReference x9 h8) (fun x10 h11 =>
  if x10 = 0 then
  (f_X27_check_b87 R  a0 a1 h11)
  else
  (ldR 27 215 a0 h11 fun x12 =>
  ldMR ksNode 183 x12 h11 fun x13 =>
  if x13 = 0 then
  (f_X27_check_b83 R  a0 a1 h11)
  else
  (ldR 27 215 a0 h11 fun x14 =>
  ldMR ksNode 183 x14 h11 fun x15 =>
  ldR 27 216 a0 h11 fun x16 =>
  ldR 14 173 x16 h11 fun x17 =>
  if kc h11 x15 = 4 then
  bd (f_X3_mayBe x15 x17 h11) (fun x18 h19 =>
  if x18 = 0 then
  (f_X27_check_b87 R  a0 a1 h19)
  else
  (f_X27_check_b83 R  a0 a1 h19))
  else none)))
  else none)
  else
  (f_X27_check_b87 R  a0 a1 h8))
  else none))
noncomputable def f_X28_check_b314 (R : TY_S5) (a0 : Nat) (a1 : Nat) (s0 : Int32) (h : HP) : Rs Unit :=
  ldR 32 237 a1 h fun x1 =>
  if s0 = 0 then
  (if kc h x1 = 3 then
  bd (f_X2_get x1 (0 : Int32) h) (fun x2 h3 =>
  stR 28 183 a0 x2 h3 fun h4 =>
  rok () h4)
  else none)
  else
  (ldI 28 220 a0 h fun x5 =>
  if kc h x1 = 3 then
  bd (f_X2_get x1 x5 h) (fun x6 h7 =>
  stR 28 183 a0 x6 h7 fun h8 =>
  rok () h8)
  else none)
noncomputable def f_X28_check_b309 (R : TY_S5) (a0 : Nat) (a1 : Nat) (h : HP) : Rs Unit :=
  f_X28_check_b314 R  a0 a1 (1 : Int32) h
noncomputable def f_X28_check_b313 (R : TY_S5) (a0 : Nat) (a1 : Nat) (h : HP) : Rs Unit :=
  f_X28_check_b314 R  a0 a1 (0 : Int32) h
noncomputable def f_X28_check_b287 (R : TY_S5) (a0 : Nat) (a1 : Nat) (a3 : Int32) (h : HP) : Rs Unit :=
  ldI 28 217 a0 h fun x1 =>
  if x1 ≤ (8 : Int32) then
  (f_X28_check_b309 R  a0 a1 h)
  else
  (ldI 28 217 a0 h fun x2 =>
  if x2 < (15 : Int32) then
  (f_X28_check_b313 R  a0 a1 h)
  else
  (if a3 = 0 then
  (f_X28_check_b313 R  a0 a1 h)
  else
  (f_X28_check_b309 R  a0 a1 h)))
noncomputable def f_X28_check_b237 (R : TY_S5) (a0 : Nat) (a1 : Nat) (a3 : Int32) (a5 : Int32) (h : HP) : Rs Unit :=
  if a5 = 0 then
  (ldI 28 182 a0 h fun x9 =>
  if kc h a1 = 32 then
  bd (f_X32_wrong a1 x9 h) (fun x10 h11 =>
  if kc h11 x10 = 69 then rex h11 else none)
  else none)
  else
  (ldI 28 217 a0 h fun x1 =>
  if x1 < (6 : Int32) then
  (f_X28_check_b287 R  a0 a1 a3 h)
  else
  (ldI 28 217 a0 h fun x2 =>
  if (8 : Int32) < x2 then
  (f_X28_check_b287 R  a0 a1 a3 h)
  else
  (ldR 28 218 a0 h fun x3 =>
  ldMR ksNode 183 x3 h fun x4 =>
  ldI 4 31 x4 h fun x5 =>
  bd (f_X34_wider x5 (4 : Int32) h) (fun x6 h7 =>
  stI 28 220 a0 x6 h7 fun h8 =>
  f_X28_check_b287 R  a0 a1 a3 h8))))
noncomputable def f_X28_check_b228 (R : TY_S5) (a0 : Nat) (a1 : Nat) (a3 : Int32) (s0 : Int32) (h : HP) : Rs Unit :=
  f_X28_check_b237 R  a0 a1 a3 s0 h
noncomputable def f_X28_check_b223 (R : TY_S5) (a0 : Nat) (a1 : Nat) (a3 : Int32) (h : HP) : Rs Unit :=
  f_X28_check_b228 R  a0 a1 a3 (1 : Int32) h
noncomputable def f_X28_check_b200 (R : TY_S5) (a0 : Nat) (a1 : Nat) (a3 : Int32) (s0 : Int32) (h : HP) : Rs Unit :=
  f_X28_check_b237 R  a0 a1 a3 s0 h
noncomputable def f_X28_check_b195 (R : TY_S5) (a0 : Nat) (a1 : Nat) (a3 : Int32) (h : HP) : Rs Unit :=
  f_X28_check_b200 R  a0 a1 a3 (1 : Int32) h
noncomputable def f_X28_check_b126 (R : TY_S5) (a0 : Nat) (a1 : Nat) (a2 : Int32) (a3 : Int32) (a4 : Int32) (h : HP) : Rs Unit :=
  ldI 28 217 a0 h fun x1 =>
  if (5 : Int32) < x1 then
  (ldI 28 217 a0 h fun x2 =>
  if (8 : Int32) < x2 then
  (ldI 28 217 a0 h fun x3 =>
  if (12 : Int32) < x3 then
  (ldI 28 217 a0 h fun x4 =>
  if (14 : Int32) < x4 then
  (ldI 28 217 a0 h fun x5 =>
  if (17 : Int32) < x5 then
  (f_X28_check_b237 R  a0 a1 a3 a4 h)
  else
  (if a3 = 0 then
  (if a4 = 0 then
  (f_X28_check_b228 R  a0 a1 a3 (0 : Int32) h)
  else
  (f_X28_check_b223 R  a0 a1 a3 h))
  else
  (f_X28_check_b223 R  a0 a1 a3 h)))
  else
  (if a2 = 0 then
  (if a4 = 0 then
  (if kc h a0 = 28 then
  bd (f_X28_areComparable a0 h) (fun x6 h7 =>
  if x6 = 0 then
  (f_X28_check_b200 R  a0 a1 a3 (0 : Int32) h7)
  else
  (f_X28_check_b195 R  a0 a1 a3 h7))
  else none)
  else
  (f_X28_check_b195 R  a0 a1 a3 h))
  else
  (f_X28_check_b195 R  a0 a1 a3 h)))
  else
  (f_X28_check_b237 R  a0 a1 a3 a2 h))
  else
  (f_X28_check_b237 R  a0 a1 a3 a3 h))
  else
  (f_X28_check_b237 R  a0 a1 a3 a2 h)
noncomputable def f_X28_check_b93 (R : TY_S5) (a0 : Nat) (a1 : Nat) (a2 : Int32) (a3 : Int32) (s0 : Int32) (h : HP) : Rs Unit :=
  if a2 = 0 then
  (f_X28_check_b126 R  a0 a1 a2 a3 s0 h)
  else
  (ldR 28 218 a0 h fun x1 =>
  ldMR ksNode 183 x1 h fun x2 =>
  ldI 4 31 x2 h fun x3 =>
  ldR 28 219 a0 h fun x4 =>
  ldMR ksNode 183 x4 h fun x5 =>
  ldI 4 31 x5 h fun x6 =>
  bd (f_X34_wider x3 x6 h) (fun x7 h8 =>
  stI 28 220 a0 x7 h8 fun h9 =>
  f_X28_check_b126 R  a0 a1 a2 a3 s0 h9))
noncomputable def f_X28_check_b92 (R : TY_S5) (a0 : Nat) (a1 : Nat) (a2 : Int32) (a3 : Int32) (h : HP) : Rs Unit :=
  f_X28_check_b93 R  a0 a1 a2 a3 (0 : Int32) h
noncomputable def f_X28_check_b67 (R : TY_S5) (a0 : Nat) (a1 : Nat) (a2 : Int32) (s0 : Int32) (h : HP) : Rs Unit :=
  ldR 28 218 a0 h fun x1 =>
  if kc h x1 ∈ [16, 17, 18, 19, 20, 21, 22, 23, 24, 25, 27, 28, 29] then
  bd (f_X15_isBoolean x1 h) (fun x2 h3 =>
  if x2 = 0 then
  (f_X28_check_b92 R  a0 a1 a2 s0 h3)
  else
  (ldR 28 219 a0 h3 fun x4 =>
  if kc h3 x4 ∈ [16, 17, 18, 19, 20, 21, 22, 23, 24, 25, 27, 28, 29] then
  bd (f_X15_isBoolean x4 h3) (fun x5 h6 =>
  if x5 = 0 then
  (f_X28_check_b92 R  a0 a1 a2 s0 h6)
  else
  (f_X28_check_b93 R  a0 a1 a2 s0 (1 : Int32) h6))
  else none))
  else none
noncomputable def f_X28_check_b66 (R : TY_S5) (a0 : Nat) (a1 : Nat) (a2 : Int32) (h : HP) : Rs Unit :=
  f_X28_check_b67 R  a0 a1 a2 (0 : Int32) h
noncomputable def f_X28_check_b41 (R : TY_S5) (a0 : Nat) (a1 : Nat) (s0 : Int32) (h : HP) : Rs Unit :=
  ldR 28 218 a0 h fun x1 =>
  if kc h x1 ∈ [16, 17, 18, 19, 20, 21, 22, 23, 24, 25, 27, 28, 29] then
  bd (f_X15_isWhole x1 h) (fun x2 h3 =>
  if x2 = 0 then
  (f_X28_check_b66 R  a0 a1 s0 h3)
  else
  (ldR 28 219 a0 h3 fun x4 =>
  if kc h3 x4 ∈ [16, 17, 18, 19, 20, 21, 22, 23, 24, 25, 27, 28, 29] then
  bd (f_X15_isWhole x4 h3) (fun x5 h6 =>
  if x5 = 0 then
  (f_X28_check_b66 R  a0 a1 s0 h6)
  else
  (f_X28_check_b67 R  a0 a1 s0 (1 : Int32) h6))
  else none))
  else none
noncomputable def f_X28_check_b40 (R : TY_S5) (a0 : Nat) (a1 : Nat) (h : HP) : Rs Unit :=
  f_X28_check_b41 R  a0 a1 (0 : Int32) h
noncomputable def f_X28_check_o (R : TY_S5) (a0 : Nat) (a1 : Nat) (h : HP) : Rs Unit :=
  ldR 28 218 a0 h fun x1 =>
  bd (dsp (kc h x1) [(16, R.1 x1 a1), (17, f_X17_check x1 a1), (18, f_X18_check x1 a1), (19, f_X19_check x1 a1), (20, R.2.1 x1 a1), (21, f_X21_check x1 a1), (22, R.2.2.1 x1 a1), (23, R.2.2.2.1 x1 a1), (24, R.2.2.2.2.1 x1 a1), (25, R.2.2.2.2.2.1 x1 a1), (27, R.2.2.2.2.2.2.2.1 x1 a1), (28, R.2.2.2.2.2.2.2.2.1 x1 a1), (29, R.2.2.2.2.2.2.2.2.2 x1 a1)] h) (fun _ h2 =>
  ldR 28 219 a0 h2 fun x3 =>
  bd (dsp (kc h2 x3) [(16, R.1 x3 a1), (17, f_X17_check x3 a1), (18, f_X18_check x3 a1), (19, f_X19_check x3 a1), (20, R.2.1 x3 a1), (21, f_X21_check x3 a1), (22, R.2.2.1 x3 a1), (23, R.2.2.2.1 x3 a1), (24, R.2.2.2.2.1 x3 a1), (25, R.2.2.2.2.2.1 x3 a1), (27, R.2.2.2.2.2.2.2.1 x3 a1), (28, R.2.2.2.2.2.2.2.2.1 x3 a1), (29, R.2.2.2.2.2.2.2.2.2 x3 a1)] h2) (fun _ h4 =>
  ldR 28 218 a0 h4 fun x5 =>
  if kc h4 x5 ∈ [16, 17, 18, 19, 20, 21, 22, 23, 24, 25, 27, 28, 29] then
  bd (f_X15_isNumber x5 h4) (fun x6 h7 =>
  if x6 = 0 then
  (f_X28_check_b40 R  a0 a1 h7)
  else
  (ldR 28 219 a0 h7 fun x8 =>
  if kc h7 x8 ∈ [16, 17, 18, 19, 20, 21, 22, 23, 24, 25, 27, 28, 29] then
  bd (f_X15_isNumber x8 h7) (fun x9 h10 =>
  if x9 = 0 then
  (f_X28_check_b40 R  a0 a1 h10)
  else
  (f_X28_check_b41 R  a0 a1 (1 : Int32) h10))
  else none))
  else none))
noncomputable def f_X29_check_b275 (R : TY_S5) (a0 : Nat) (a1 : Nat) (a2 : Int32) (h : HP) : Rs Unit :=
  if a2 = 0 then
  (ldI 29 182 a0 h fun x1 =>
  if kc h a1 = 32 then
  bd (f_X32_wrong a1 x1 h) (fun x2 h3 =>
  if kc h3 x2 = 69 then rex h3 else none)
  else none)
  else
  (rok () h)
noncomputable def f_X29_check_b170 (R : TY_S5) (a0 : Nat) (a1 : Nat) (h : HP) : Rs Unit :=
  f_X29_check_b275 R  a0 a1 (0 : Int32) h
noncomputable def f_X29_check_b215 (R : TY_S5) (a0 : Nat) (a1 : Nat) (a2 : Int32) (h : HP) : Rs Unit :=
  ldR 29 223 a0 h fun x1 =>
  ldMR ksNode 183 x1 h fun x2 =>
  stR 29 183 a0 x2 h fun h3 =>
  f_X29_check_b275 R  a0 a1 a2 h3
noncomputable def f_X29_check_b259 (R : TY_S5) (a0 : Nat) (a1 : Nat) (a2 : Int32) (h : HP) : Rs Unit :=
  ldR 29 222 a0 h fun x1 =>
  ldMR ksNode 183 x1 h fun x2 =>
  stR 29 183 a0 x2 h fun h3 =>
  f_X29_check_b275 R  a0 a1 a2 h3
noncomputable def f_X29_check_b229 (R : TY_S5) (a0 : Nat) (a1 : Nat) (a2 : Int32) (h : HP) : Rs Unit :=
  ldR 29 223 a0 h fun x1 =>
  ldMR ksNode 183 x1 h fun x2 =>
  if x2 = 0 then
  (f_X29_check_b259 R  a0 a1 a2 h)
  else
  (ldR 29 223 a0 h fun x3 =>
  ldMR ksNode 183 x3 h fun x4 =>
  ldR 29 222 a0 h fun x5 =>
  ldMR ksNode 183 x5 h fun x6 =>
  if kc h x4 = 4 then
  bd (f_X3_isBelow 100 x4 x6 h) (fun x7 h8 =>
  if x7 = 0 then
  (f_X29_check_b275 R  a0 a1 (0 : Int32) h8)
  else
  (f_X29_check_b259 R  a0 a1 a2 h8))
  else none)
noncomputable def f_X29_check_b150 (R : TY_S5) (a0 : Nat) (a1 : Nat) (a2 : Int32) (h : HP) : Rs Unit :=
  ldR 29 222 a0 h fun x1 =>
  if kc h x1 ∈ [16, 17, 18, 19, 20, 21, 22, 23, 24, 25, 27, 28, 29] then
  bd (f_X15_isReference x1 h) (fun x2 h3 =>
  if x2 = 0 then
  (f_X29_check_b170 R  a0 a1 h3)
  else
  (ldR 29 223 a0 h3 fun x4 =>
  if kc h3 x4 ∈ [16, 17, 18, 19, 20, 21, 22, 23, 24, 25, 27, 28, 29] then
  bd (f_X15_isReference x4 h3) (fun x5 h6 =>
  if x5 = 0 then
  (f_X29_check_b170 R  a0 a1 h6)
  else
  (ldR 29 222 a0 h6 fun x7 =>
  ldMR ksNode 183 x7 h6 fun x8 =>
  if x8 = 0 then
  (f_X29_check_b215 R  a0 a1 a2 h6)
  else
  (ldR 29 223 a0 h6 fun x9 =>
  ldMR ksNode 183 x9 h6 fun x10 =>
  if x10 = 0 then
  (f_X29_check_b229 R  a0 a1 a2 h6)
  else
  (ldR 29 222 a0 h6 fun x11 =>
  ldMR ksNode 183 x11 h6 fun x12 =>
  ldR 29 223 a0 h6 fun x13 =>
  ldMR ksNode 183 x13 h6 fun x14 =>
  if kc h6 x12 = 4 then
  bd (f_X3_isBelow 100 x12 x14 h6) (fun x15 h16 =>
  if x15 = 0 then
  (f_X29_check_b229 R  a0 a1 a2 h16)
  else
  (f_X29_check_b215 R  a0 a1 a2 h16))
  else none))))
  else none))
  else none
noncomputable def f_X29_check_b116 (R : TY_S5) (a0 : Nat) (a1 : Nat) (a2 : Int32) (h : HP) : Rs Unit :=
  ldR 29 222 a0 h fun x1 =>
  if kc h x1 ∈ [16, 17, 18, 19, 20, 21, 22, 23, 24, 25, 27, 28, 29] then
  bd (f_X15_isBoolean x1 h) (fun x2 h3 =>
  if x2 = 0 then
  (f_X29_check_b150 R  a0 a1 a2 h3)
  else
  (ldR 29 223 a0 h3 fun x4 =>
  if kc h3 x4 ∈ [16, 17, 18, 19, 20, 21, 22, 23, 24, 25, 27, 28, 29] then
  bd (f_X15_isBoolean x4 h3) (fun x5 h6 =>
  if x5 = 0 then
  (f_X29_check_b150 R  a0 a1 a2 h6)
  else
  (ldR 29 222 a0 h6 fun x7 =>
  ldMR ksNode 183 x7 h6 fun x8 =>
  stR 29 183 a0 x8 h6 fun h9 =>
  f_X29_check_b275 R  a0 a1 a2 h9))
  else none))
  else none
noncomputable def f_X29_check_b110 (R : TY_S5) (a0 : Nat) (a1 : Nat) (a2 : Int32) (s0 : Nat) (s1 : Nat) (h : HP) : Rs Unit :=
  stR 29 183 s0 s1 h fun h1 =>
  f_X29_check_b275 R  a0 a1 a2 h1
noncomputable def f_X29_check_o (R : TY_S5) (a0 : Nat) (a1 : Nat) (h : HP) : Rs Unit :=
  ldR 29 221 a0 h fun x1 =>
  bd (dsp (kc h x1) [(16, R.1 x1 a1), (17, f_X17_check x1 a1), (18, f_X18_check x1 a1), (19, f_X19_check x1 a1), (20, R.2.1 x1 a1), (21, f_X21_check x1 a1), (22, R.2.2.1 x1 a1), (23, R.2.2.2.1 x1 a1), (24, R.2.2.2.2.1 x1 a1), (25, R.2.2.2.2.2.1 x1 a1), (27, R.2.2.2.2.2.2.2.1 x1 a1), (28, R.2.2.2.2.2.2.2.2.1 x1 a1), (29, R.2.2.2.2.2.2.2.2.2 x1 a1)] h) (fun _ h2 =>
  ldR 29 222 a0 h2 fun x3 =>
  bd (dsp (kc h2 x3) [(16, R.1 x3 a1), (17, f_X17_check x3 a1), (18, f_X18_check x3 a1), (19, f_X19_check x3 a1), (20, R.2.1 x3 a1), (21, f_X21_check x3 a1), (22, R.2.2.1 x3 a1), (23, R.2.2.2.1 x3 a1), (24, R.2.2.2.2.1 x3 a1), (25, R.2.2.2.2.2.1 x3 a1), (27, R.2.2.2.2.2.2.2.1 x3 a1), (28, R.2.2.2.2.2.2.2.2.1 x3 a1), (29, R.2.2.2.2.2.2.2.2.2 x3 a1)] h2) (fun _ h4 =>
  ldR 29 223 a0 h4 fun x5 =>
  bd (dsp (kc h4 x5) [(16, R.1 x5 a1), (17, f_X17_check x5 a1), (18, f_X18_check x5 a1), (19, f_X19_check x5 a1), (20, R.2.1 x5 a1), (21, f_X21_check x5 a1), (22, R.2.2.1 x5 a1), (23, R.2.2.2.1 x5 a1), (24, R.2.2.2.2.1 x5 a1), (25, R.2.2.2.2.2.1 x5 a1), (27, R.2.2.2.2.2.2.2.1 x5 a1), (28, R.2.2.2.2.2.2.2.2.1 x5 a1), (29, R.2.2.2.2.2.2.2.2.2 x5 a1)] h4) (fun _ h6 =>
  ldR 29 221 a0 h6 fun x7 =>
  if kc h6 x7 ∈ [16, 17, 18, 19, 20, 21, 22, 23, 24, 25, 27, 28, 29] then
  bd (f_X15_isBoolean x7 h6) (fun x8 h9 =>
  ldR 29 222 a0 h9 fun x10 =>
  if kc h9 x10 ∈ [16, 17, 18, 19, 20, 21, 22, 23, 24, 25, 27, 28, 29] then
  bd (f_X15_isNumber x10 h9) (fun x11 h12 =>
  if x11 = 0 then
  (f_X29_check_b116 R  a0 a1 x8 h12)
  else
  (ldR 29 223 a0 h12 fun x13 =>
  if kc h12 x13 ∈ [16, 17, 18, 19, 20, 21, 22, 23, 24, 25, 27, 28, 29] then
  bd (f_X15_isNumber x13 h12) (fun x14 h15 =>
  if x14 = 0 then
  (f_X29_check_b116 R  a0 a1 x8 h15)
  else
  (ldR 29 222 a0 h15 fun x16 =>
  ldMR ksNode 183 x16 h15 fun x17 =>
  ldR 29 223 a0 h15 fun x18 =>
  ldMR ksNode 183 x18 h15 fun x19 =>
  eqR h15 x17 x19
  (ldR 29 222 a0 h15 fun x31 =>
  ldMR ksNode 183 x31 h15 fun x32 =>
  f_X29_check_b110 R  a0 a1 x8 a0 x32 h15)
  (ldR 32 237 a1 h15 fun x20 =>
  ldR 29 222 a0 h15 fun x21 =>
  ldMR ksNode 183 x21 h15 fun x22 =>
  ldI 4 31 x22 h15 fun x23 =>
  ldR 29 223 a0 h15 fun x24 =>
  ldMR ksNode 183 x24 h15 fun x25 =>
  ldI 4 31 x25 h15 fun x26 =>
  bd (f_X34_wider x23 x26 h15) (fun x27 h28 =>
  if kc h28 x20 = 3 then
  bd (f_X2_get x20 x27 h28) (fun x29 h30 =>
  f_X29_check_b110 R  a0 a1 x8 a0 x29 h30)
  else none))))
  else none))
  else none)
  else none)))
noncomputable def r_S5 (n : Nat) : TY_S5 := @Nat.rec (fun _ => TY_S5) (fun _ _ _ => none, fun _ _ _ => none, fun _ _ _ => none, fun _ _ _ => none, fun _ _ _ => none, fun _ _ _ => none, fun _ _ _ _ => none, fun _ _ _ => none, fun _ _ _ => none, fun _ _ _ => none) (fun _ R => (f_X16_check_o R, f_X20_check_o R, f_X22_check_o R, f_X23_check_o R, f_X24_check_o R, f_X25_check_o R, f_X26_check_o R, f_X27_check_o R, f_X28_check_o R, f_X29_check_o R)) n
noncomputable def f_X16_check (n : Nat) : Nat → Nat → HP → Rs Unit := (r_S5 n).1
noncomputable def f_X20_check (n : Nat) : Nat → Nat → HP → Rs Unit := (r_S5 n).2.1
noncomputable def f_X22_check (n : Nat) : Nat → Nat → HP → Rs Unit := (r_S5 n).2.2.1
noncomputable def f_X23_check (n : Nat) : Nat → Nat → HP → Rs Unit := (r_S5 n).2.2.2.1
noncomputable def f_X24_check (n : Nat) : Nat → Nat → HP → Rs Unit := (r_S5 n).2.2.2.2.1
noncomputable def f_X25_check (n : Nat) : Nat → Nat → HP → Rs Unit := (r_S5 n).2.2.2.2.2.1
noncomputable def f_X26_check (n : Nat) : Nat → Nat → Int32 → HP → Rs Nat := (r_S5 n).2.2.2.2.2.2.1
noncomputable def f_X27_check (n : Nat) : Nat → Nat → HP → Rs Unit := (r_S5 n).2.2.2.2.2.2.2.1
noncomputable def f_X28_check (n : Nat) : Nat → Nat → HP → Rs Unit := (r_S5 n).2.2.2.2.2.2.2.2.1
noncomputable def f_X29_check (n : Nat) : Nat → Nat → HP → Rs Unit := (r_S5 n).2.2.2.2.2.2.2.2.2
noncomputable def f_X43_check (a0 : Nat) (a1 : Nat) (a2 : Int32) (a3 : Nat) (h : HP) : Rs Unit :=
  ldMI ksNode 184 a1 h fun x1 =>
  if x1 ≤ (30 : Int32) then
  (bd (dsp (kc h a1) [(16, f_X16_check 200 a1 a3), (17, f_X17_check a1 a3), (18, f_X18_check a1 a3), (19, f_X19_check a1 a3), (20, f_X20_check 200 a1 a3), (21, f_X21_check a1 a3), (22, f_X22_check 200 a1 a3), (23, f_X23_check 200 a1 a3), (24, f_X24_check 200 a1 a3), (25, f_X25_check 200 a1 a3), (27, f_X27_check 200 a1 a3), (28, f_X28_check 200 a1 a3), (29, f_X29_check 200 a1 a3)] h) (fun _ h2 =>
  rok () h2))
  else
  (if kc h a3 = 32 then
  bd (f_X32_wrong a3 a2 h) (fun x3 h4 =>
  if kc h4 x3 = 69 then rex h4 else none)
  else none)
noncomputable def b_X43_settle_l4 (v0 : Nat) (v1 : Nat) (ih : Int32 → Int32 → HP → Rs (Int32 ⊕ Int32 ⊕ Int32)) (a2 : Int32) (a3 : Int32) (h : HP) : Rs (Int32 ⊕ Int32 ⊕ Int32) :=
  ldR 42 328 v0 h fun x1 =>
  lsSize x1 h fun x2 =>
  if x2 ≤ a3 then
  (rok (Sum.inr (Sum.inr a2)) h)
  else
  (ldR 42 331 v0 h fun x3 =>
  lsGet x3 a3 h fun x4 =>
  castR [16, 17, 18, 19, 20, 21, 22, 23, 24, 25, 27, 28, 29] x4 h (
  ldMI ksNode 184 x4 h fun x5 =>
  if x5 ≤ (30 : Int32) then
  (lt3 (a2 + 1) fun x6 =>
  ldR 42 330 v0 h fun x7 =>
  lsGet x7 a3 h fun x8 =>
  castR [26] x8 h (
  ldR 42 329 v0 h fun x9 =>
  lsGet x9 a3 h fun x10 =>
  castR [73] x10 h (
  ivGet x10 h fun x11 =>
  if kc h x8 = 26 then
  bd (f_X26_check 200 x8 v1 x11 h) (fun x12 h13 =>
  ldR 32 237 v1 h13 fun x14 =>
  ldR 42 328 v0 h13 fun x15 =>
  lsGet x15 a3 h13 fun x16 =>
  castR [71] x16 h13 (
  if kc h13 x14 = 3 then
  bd (f_X2_named x14 x16 h13) (fun x17 h18 =>
  if x17 = 0 then
  (ldR 42 328 v0 h18 fun x19 =>
  lsGet x19 a3 h18 fun x20 =>
  castR [71] x20 h18 (
  if kc h18 v1 = 32 then
  bd (f_X32_find v1 x20 h18) (fun x21 h22 =>
  if x21 < 0 then
  (ldR 42 328 v0 h22 fun x23 =>
  lsGet x23 a3 h22 fun x24 =>
  castR [71] x24 h22 (
  if kc h22 v1 = 32 then
  bd (f_X32_push v1 x24 x12 h22) (fun x25 h26 =>
  lt3 (a3 + 1) fun x27 =>
  ih x6 x27 h26)
  else none))
  else
  (rok (Sum.inr (Sum.inl a3)) h22))
  else none))
  else
  (rok (Sum.inr (Sum.inl a3)) h18))
  else none))
  else none)))
  else
  (rok (Sum.inl a2) h)))
noncomputable def f_X43_settle_l4 (v0 : Nat) (v1 : Nat) (n : Nat) : Int32 → Int32 → HP → Rs (Int32 ⊕ Int32 ⊕ Int32) := @Nat.rec (fun _ => Int32 → Int32 → HP → Rs (Int32 ⊕ Int32 ⊕ Int32)) (fun _ _ _ => none) (fun _ ih => b_X43_settle_l4 v0 v1 ih) n
noncomputable def f_X43_settle_b126 (a0 : Nat) (a1 : Nat) (a3 : Int32) (h : HP) : Rs Unit :=
  ldR 42 329 a0 h fun x1 =>
  lsGet x1 a3 h fun x2 =>
  castR [73] x2 h (
  ivGet x2 h fun x3 =>
  if kc h a1 = 32 then
  bd (f_X32_wrong a1 x3 h) (fun x4 h5 =>
  if kc h5 x4 = 69 then rex h5 else none)
  else none)
noncomputable def b_X43_settle_l333 (v0 : Nat) (v1 : Nat) (ih : Int32 → Int32 → HP → Rs Unit) (a2 : Int32) (a3 : Int32) (h : HP) : Rs Unit :=
  ldR 42 332 v0 h fun x1 =>
  lsSize x1 h fun x2 =>
  if x2 ≤ a3 then
  (rok () h)
  else
  (ldR 42 332 v0 h fun x3 =>
  lsGet x3 a3 h fun x4 =>
  castR [16, 17, 18, 19, 20, 21, 22, 23, 24, 25, 27, 28, 29] x4 h (
  ldR 42 333 v0 h fun x5 =>
  lsGet x5 a2 h fun x6 =>
  castR [73] x6 h (
  ivGet x6 h fun x7 =>
  if kc h v0 = 42 then
  bd (f_X43_check v0 x4 x7 v1 h) (fun _ h8 =>
  lt3 (a2 + 1) fun x9 =>
  lt3 (a3 + 1) fun x10 =>
  ih x9 x10 h8)
  else none)))
noncomputable def f_X43_settle_l333 (v0 : Nat) (v1 : Nat) (n : Nat) : Int32 → Int32 → HP → Rs Unit := @Nat.rec (fun _ => Int32 → Int32 → HP → Rs Unit) (fun _ _ _ => none) (fun _ ih => b_X43_settle_l333 v0 v1 ih) n
noncomputable def f_X43_settle_b331 (a0 : Nat) (a1 : Nat) (a2 : Int32) (h : HP) : Rs Unit :=
  bd (f_X43_settle_l333 a0 a1 NN a2 (0 : Int32) h) (fun x1 h2 => ldI 32 242 a1 h2 fun x3 =>
  stI 42 337 a0 x3 h2 fun h4 =>
  rok () h4)
noncomputable def f_X43_settle_b304 (a0 : Nat) (a1 : Nat) (a2 : Int32) (s0 : Int32) (h : HP) : Rs Unit :=
  if s0 = 0 then
  (ldR 42 333 a0 h fun x2 =>
  lsGet x2 a2 h fun x3 =>
  castR [73] x3 h (
  ivGet x3 h fun x4 =>
  if kc h a1 = 32 then
  bd (f_X32_wrong a1 x4 h) (fun x5 h6 =>
  if kc h6 x5 = 69 then rex h6 else none)
  else none))
  else
  (lt3 (a2 + 1) fun x1 =>
  f_X43_settle_b331  a0 a1 x1 h)
noncomputable def f_X43_settle_b303 (a0 : Nat) (a1 : Nat) (a2 : Int32) (h : HP) : Rs Unit :=
  f_X43_settle_b304  a0 a1 a2 (0 : Int32) h
noncomputable def f_X43_settle_b299 (a0 : Nat) (a1 : Nat) (a2 : Int32) (h : HP) : Rs Unit :=
  f_X43_settle_b304  a0 a1 a2 (1 : Int32) h
noncomputable def f_X43_settle_b231 (a0 : Nat) (a1 : Nat) (a2 : Int32) (h : HP) : Rs Unit :=
  ldR 42 335 a0 h fun x1 =>
  if x1 = 0 then
  (f_X43_settle_b331  a0 a1 a2 h)
  else
  (ldR 42 335 a0 h fun x2 =>
  ldR 42 333 a0 h fun x3 =>
  lsGet x3 a2 h fun x4 =>
  castR [73] x4 h (
  ivGet x4 h fun x5 =>
  if kc h a0 = 42 then
  bd (f_X43_check a0 x2 x5 a1 h) (fun _ h6 =>
  ldR 42 335 a0 h6 fun x7 =>
  ldMR ksNode 183 x7 h6 fun x8 =>
  if x8 = 0 then
  (f_X43_settle_b303  a0 a1 a2 h6)
  else
  (ldR 42 335 a0 h6 fun x9 =>
  ldMR ksNode 183 x9 h6 fun x10 =>
  if kc h6 x10 = 4 then
  bd (f_X3_isPlain x10 h6) (fun x11 h12 =>
  if x11 = 0 then
  (ldR 42 335 a0 h12 fun x13 =>
  ldMR ksNode 183 x13 h12 fun x14 =>
  ldI 4 31 x14 h12 fun x15 =>
  if x15 = (9 : Int32) then
  (f_X43_settle_b299  a0 a1 a2 h12)
  else
  (f_X43_settle_b303  a0 a1 a2 h12))
  else
  (f_X43_settle_b299  a0 a1 a2 h12))
  else none))
  else none))
noncomputable def f_X43_settle (a0 : Nat) (a1 : Nat) (h : HP) : Rs Unit :=
  bd (f_X43_settle_l4 a0 a1 NN (0 : Int32) (0 : Int32) h) (Sum.elim (fun x1 => fun h2 => ldR 42 333 a0 h2 fun x3 =>
  lsGet x3 x1 h2 fun x4 =>
  castR [73] x4 h2 (
  ivGet x4 h2 fun x5 =>
  if kc h2 a1 = 32 then
  bd (f_X32_wrong a1 x5 h2) (fun x6 h7 =>
  if kc h7 x6 = 69 then rex h7 else none)
  else none)) (Sum.elim (fun x8 => fun h9 => f_X43_settle_b126  a0 a1 x8 h9) (fun x10 => fun h11 => ldR 42 334 a0 h11 fun x12 =>
  if x12 = 0 then
  (f_X43_settle_b231  a0 a1 x10 h11)
  else
  (ldR 42 334 a0 h11 fun x13 =>
  ldR 42 333 a0 h11 fun x14 =>
  lsGet x14 x10 h11 fun x15 =>
  castR [73] x15 h11 (
  ivGet x15 h11 fun x16 =>
  if kc h11 a0 = 42 then
  bd (f_X43_check a0 x13 x16 a1 h11) (fun _ h17 =>
  ldR 42 334 a0 h17 fun x18 =>
  if kc h17 x18 ∈ [16, 17, 18, 19, 20, 21, 22, 23, 24, 25, 27, 28, 29] then
  bd (f_X15_isBoolean x18 h17) (fun x19 h20 =>
  if x19 = 0 then
  (ldR 42 333 a0 h20 fun x22 =>
  lsGet x22 x10 h20 fun x23 =>
  castR [73] x23 h20 (
  ivGet x23 h20 fun x24 =>
  if kc h20 a1 = 32 then
  bd (f_X32_wrong a1 x24 h20) (fun x25 h26 =>
  if kc h26 x25 = 69 then rex h26 else none)
  else none))
  else
  (lt3 (x10 + 1) fun x21 =>
  f_X43_settle_b231  a0 a1 x21 h20))
  else none)
  else none)))))
noncomputable def f_X9_init (a0 : Nat) (a1 : Nat) (a2 : Int32) (a3 : Nat) (h : HP) : Rs Unit :=
  if a0 = 0 then none else (
  stR 10 154 a0 1 h fun h1 =>
  stR 10 148 a0 a1 h1 fun h2 =>
  stI 10 149 a0 a2 h2 fun h3 =>
  stR 10 150 a0 a3 h3 fun h4 =>
  rok () h4)
noncomputable def b_X0_asked_l14 (v0 : Nat) (v1 : Int32) (v2 : Nat) (ih : Int32 → HP → Rs Unit) (a3 : Int32) (h : HP) : Rs Unit :=
  ldI 1 2 v0 h fun x1 =>
  if x1 ≤ a3 then
  (rok () h)
  else
  (ldR 1 1 v0 h fun x2 =>
  aldI 1 x2 a3 h fun x3 =>
  astI 1 v2 a3 (vp_nar .byte x3) h fun h4 =>
  lt3 (a3 + 1) fun x5 =>
  ih x5 h4)
noncomputable def f_X0_asked_l14 (v0 : Nat) (v1 : Int32) (v2 : Nat) (n : Nat) : Int32 → HP → Rs Unit := @Nat.rec (fun _ => Int32 → HP → Rs Unit) (fun _ _ => none) (fun _ ih => b_X0_asked_l14 v0 v1 v2 ih) n
noncomputable def f_X0_asked (a0 : Nat) (a1 : Int32) (h : HP) : Rs Int32 :=
  stI 1 16 a0 (-1 : Int32) h fun h1 =>
  ldI 1 2 a0 h1 fun x2 =>
  nwA 261 x2 h1 fun p3 h4 =>
  bd (f_X0_asked_l14 a0 a1 p3 NN (0 : Int32) h4) (fun x5 h6 => nwO 11 5 h6 fun p7 h8 =>
  nwO 10 8 h8 fun p9 h10 =>
  ldI 1 2 a0 h10 fun x11 =>
  ldR 1 3 a0 h10 fun x12 =>
  if kc h10 p9 = 10 then
  bd (f_X9_init p9 p3 x11 x12 h10) (fun _ h13 =>
  ldR 1 3 a0 h13 fun x14 =>
  ldR 1 13 a0 h13 fun x15 =>
  if kc h13 p7 = 11 then
  bd (f_X10_init p7 p9 x14 x15 h13) (fun _ h16 =>
  ldR 1 12 a0 h16 fun x17 =>
  if kc h16 x17 = 42 then
  bdc (f_X43_read x17 p7 h16) (fun _ h18 =>
  ldR 1 4 a0 h18 fun x25 =>
  if kc h18 p7 ∈ [11, 12] then
  bdc (f_X10_resolve p7 x25 (0 : Int32) h18) (fun _ h26 =>
  ldR 1 12 a0 h26 fun x33 =>
  nwO 32 6 h26 fun p34 h35 =>
  ldR 1 4 a0 h35 fun x36 =>
  ldR 1 3 a0 h35 fun x37 =>
  if kc h35 p34 = 32 then
  bdc (f_X32_init p34 x36 0 x37 h35) (fun _ h38 =>
  if kc h38 x33 = 42 then
  bdc (f_X43_settle x33 p34 h38) (fun _ h45 =>
  ldMR ksParser 159 p7 h45 fun x52 =>
  if kc h45 a0 = 1 then
  bd (f_X0_makeTexts a0 x52 h45) (fun x53 h54 =>
  if x53 = 0 then
  (rok (-12 : Int32) h54)
  else
  (ldR 1 12 a0 h54 fun x55 =>
  if kc h54 x55 = 42 then
  bdc (f_X43_ask x55 a1 h54) (fun x56 h57 =>
  ldR 1 8 a0 h57 fun x65 =>
  ldI 37 290 x65 h57 fun x66 =>
  stI 1 23 a0 x66 h57 fun h67 =>
  rok x56 h67) (fun h58 =>
  ldR 1 3 a0 h58 fun x59 =>
  ldI 2 28 x59 h58 fun x60 =>
  lt3 (-x60) fun x61 =>
  ldR 1 8 a0 h58 fun x62 =>
  ldI 37 290 x62 h58 fun x63 =>
  stI 1 23 a0 x63 h58 fun h64 =>
  rok x61 h64)
  else none))
  else none) (fun h46 =>
  ldR 1 3 a0 h46 fun x47 =>
  ldI 2 29 x47 h46 fun x48 =>
  stI 1 16 a0 x48 h46 fun h49 =>
  ldR 1 3 a0 h49 fun x50 =>
  ldI 2 28 x50 h49 fun x51 =>
  rok ((-20 : Int32) - x51) h49)
  else none) (fun h39 =>
  ldR 1 3 a0 h39 fun x40 =>
  ldI 2 29 x40 h39 fun x41 =>
  stI 1 16 a0 x41 h39 fun h42 =>
  ldR 1 3 a0 h42 fun x43 =>
  ldI 2 28 x43 h42 fun x44 =>
  rok ((-20 : Int32) - x44) h42)
  else none) (fun h27 =>
  ldR 1 3 a0 h27 fun x28 =>
  ldI 2 29 x28 h27 fun x29 =>
  stI 1 16 a0 x29 h27 fun h30 =>
  ldR 1 3 a0 h30 fun x31 =>
  ldI 2 28 x31 h30 fun x32 =>
  rok ((-20 : Int32) - x32) h30)
  else none) (fun h19 =>
  ldR 1 3 a0 h19 fun x20 =>
  ldI 2 29 x20 h19 fun x21 =>
  stI 1 16 a0 x21 h19 fun h22 =>
  ldR 1 3 a0 h22 fun x23 =>
  ldI 2 28 x23 h22 fun x24 =>
  rok ((-20 : Int32) - x24) h22)
  else none)
  else none)
  else none)
noncomputable def f_X0_ask_b31 (a0 : Nat) (h : HP) : Rs Int32 :=
  stI 1 2 a0 (0 : Int32) h fun h1 =>
  rok (-1 : Int32) h1
noncomputable def f_X0_ask (a0 : Nat) (a1 : Int32) (h : HP) : Rs Int32 :=
  stI 1 23 a0 (0 : Int32) h fun h1 =>
  stI 1 16 a0 (-1 : Int32) h1 fun h2 =>
  if kc h2 a0 = 1 then
  bd (f_X0_hasView a0 h2) (fun x3 h4 =>
  if x3 = 0 then
  (rok (-13 : Int32) h4)
  else
  (if a1 < 0 then
  (f_X0_ask_b31  a0 h4)
  else
  (if a1 ≤ (100000 : Int32) then
  (if kc h4 a0 = 1 then
  bd (f_X0_asked a0 a1 h4) (fun x5 h6 =>
  stI 1 2 a0 (0 : Int32) h6 fun h7 =>
  rok x5 h7)
  else none)
  else
  (f_X0_ask_b31  a0 h4))))
  else none
noncomputable def f_X39_at (a0 : Nat) (a1 : Int32) (h : HP) : Rs Int32 :=
  if a1 < 0 then
  (rok (-1 : Int32) h)
  else
  (ldR 38 294 a0 h fun x1 =>
  ldI 39 308 x1 h fun x2 =>
  if x2 ≤ a1 then
  (rok (-1 : Int32) h)
  else
  (ldR 38 294 a0 h fun x3 =>
  ldR 39 307 x3 h fun x4 =>
  aldI 1 x4 a1 h fun x5 =>
  rok (x5 &&& (255 : Int32)) h))
noncomputable def f_X0_at (a0 : Nat) (a1 : Int32) (h : HP) : Rs Int32 :=
  if kc h a0 = 1 then
  bd (f_X0_isShut a0 h) (fun x1 h2 =>
  if x1 = 0 then
  (ldR 1 9 a0 h2 fun x3 =>
  if kc h2 x3 = 38 then
  bd (f_X39_at x3 a1 h2) (fun x4 h5 =>
  rok x4 h5)
  else none)
  else
  (rok (-1 : Int32) h2))
  else none
noncomputable def b_X36_begin_l13 (v0 : Nat) (v3 : Nat) (v4 : Int32) (ih : Int32 → HP → Rs Unit) (a5 : Int32) (h : HP) : Rs Unit :=
  if (4000 : Int32) < a5 then
  (rok () h)
  else
  (ldR 35 266 v0 h fun x1 =>
  astO 7 60 x1 a5 0 h fun h2 =>
  ldR 35 267 v0 h2 fun x3 =>
  astI 2 x3 a5 (vp_nar .boolean (0 : Int32)) h2 fun h4 =>
  ldR 35 268 v0 h4 fun x5 =>
  astI 2 x5 a5 (vp_nar .boolean (0 : Int32)) h4 fun h6 =>
  lt3 (a5 + 1) fun x7 =>
  ih x7 h6)
noncomputable def f_X36_begin_l13 (v0 : Nat) (v3 : Nat) (v4 : Int32) (n : Nat) : Int32 → HP → Rs Unit := @Nat.rec (fun _ => Int32 → HP → Rs Unit) (fun _ _ => none) (fun _ ih => b_X36_begin_l13 v0 v3 v4 ih) n
noncomputable def b_X36_begin_l54 (v0 : Nat) (v3 : Nat) (v4 : Int32) (ih : Int32 → HP → Rs Unit) (a5 : Int32) (h : HP) : Rs Unit :=
  ldR 35 269 v0 h fun x1 =>
  alen x1 h fun x2 =>
  if x2 ≤ a5 then
  (rok () h)
  else
  (ldR 35 269 v0 h fun x3 =>
  astI 2 x3 a5 (vp_nar .boolean (0 : Int32)) h fun h4 =>
  lt3 (a5 + 1) fun x5 =>
  ih x5 h4)
noncomputable def f_X36_begin_l54 (v0 : Nat) (v3 : Nat) (v4 : Int32) (n : Nat) : Int32 → HP → Rs Unit := @Nat.rec (fun _ => Int32 → HP → Rs Unit) (fun _ _ => none) (fun _ ih => b_X36_begin_l54 v0 v3 v4 ih) n
noncomputable def b_X36_begin_l81 (v0 : Nat) (v3 : Nat) (v4 : Int32) (ih : Int32 → HP → Rs Unit) (a5 : Int32) (h : HP) : Rs Unit :=
  if (16 : Int32) ≤ a5 then
  (rok () h)
  else
  (ldR 35 270 v0 h fun x1 =>
  aldI 0 v3 (v4 + a5) h fun x2 =>
  astI 0 x1 a5 x2 h fun h3 =>
  ldR 35 271 v0 h3 fun x4 =>
  astI 2 x4 a5 (vp_nar .boolean (0 : Int32)) h3 fun h5 =>
  ldR 35 272 v0 h5 fun x6 =>
  astI 2 x6 a5 (vp_nar .boolean (0 : Int32)) h5 fun h7 =>
  lt3 (a5 + 1) fun x8 =>
  ih x8 h7)
noncomputable def f_X36_begin_l81 (v0 : Nat) (v3 : Nat) (v4 : Int32) (n : Nat) : Int32 → HP → Rs Unit := @Nat.rec (fun _ => Int32 → HP → Rs Unit) (fun _ _ => none) (fun _ ih => b_X36_begin_l81 v0 v3 v4 ih) n
noncomputable def f_X36_begin (a0 : Nat) (a1 : Int32) (a2 : Int32) (a3 : Nat) (a4 : Int32) (h : HP) : Rs Unit :=
  stI 35 264 a0 a1 h fun h1 =>
  stI 35 265 a0 a2 h1 fun h2 =>
  bd (f_X36_begin_l13 a0 a3 a4 NN (0 : Int32) h2) (fun x3 h4 => bd (f_X36_begin_l54 a0 a3 a4 NN (0 : Int32) h4) (fun x5 h6 => bd (f_X36_begin_l81 a0 a3 a4 NN (0 : Int32) h6) (fun x7 h8 => rok () h8)))
noncomputable def b_X35_begin_l2 (v0 : Nat) (ih : Int32 → HP → Rs Int32) (a1 : Int32) (h : HP) : Rs Int32 :=
  if (8 : Int32) ≤ a1 then
  (rok a1 h)
  else
  (ldR 34 253 v0 h fun x1 =>
  aldR 5 x1 a1 h fun x2 =>
  ldI 35 264 x2 h fun x3 =>
  if x3 ≤ 0 then
  (rok a1 h)
  else
  (lt3 (a1 + 1) fun x4 =>
  ih x4 h))
noncomputable def f_X35_begin_l2 (v0 : Nat) (n : Nat) : Int32 → HP → Rs Int32 := @Nat.rec (fun _ => Int32 → HP → Rs Int32) (fun _ _ => none) (fun _ ih => b_X35_begin_l2 v0 ih) n
noncomputable def f_X35_begin_b26 (a0 : Nat) (a1 : Int32) (h : HP) : Rs Int32 :=
  if a1 = (8 : Int32) then
  (rok (0 : Int32) h)
  else
  (ldI 34 254 a0 h fun x1 =>
  stI 34 254 a0 (x1 + (1 : Int32)) h fun h2 =>
  ldR 34 253 a0 h2 fun x3 =>
  aldR 5 x3 a1 h2 fun x4 =>
  ldI 34 254 a0 h2 fun x5 =>
  ldI 34 256 a0 h2 fun x6 =>
  ldR 34 257 a0 h2 fun x7 =>
  ldI 34 256 a0 h2 fun x8 =>
  if kc h2 x4 = 35 then
  bd (f_X36_begin x4 x5 x6 x7 ((16 : Int32) * x8) h2) (fun _ h9 =>
  ldR 34 253 a0 h9 fun x10 =>
  aldR 5 x10 a1 h9 fun x11 =>
  stR 34 259 a0 x11 h9 fun h12 =>
  stI 34 260 a0 (-1 : Int32) h12 fun h13 =>
  ldI 34 254 a0 h13 fun x14 =>
  rok x14 h13)
  else none)
noncomputable def f_X35_begin (a0 : Nat) (h : HP) : Rs Int32 :=
  bd (f_X35_begin_l2 a0 NN (0 : Int32) h) (fun x1 h2 => f_X35_begin_b26  a0 x1 h2)
noncomputable def f_X0_begin (a0 : Nat) (h : HP) : Rs Int32 :=
  if kc h a0 = 1 then
  bd (f_X0_isShut a0 h) (fun x1 h2 =>
  if x1 = 0 then
  (ldR 1 7 a0 h2 fun x3 =>
  if kc h2 x3 = 34 then
  bd (f_X35_begin x3 h2) (fun x4 h5 =>
  if x4 = 0 then
  (rok (-12 : Int32) h5)
  else
  (rok x4 h5))
  else none)
  else
  (rok (-13 : Int32) h2))
  else none
noncomputable def f_X0_fitsIn (a0 : Nat) (a1 : Int32) (a2 : Int64) (a4 : Nat) (h : HP) : Rs Int32 :=
  if (8 : Int32) ≤ a1 then
  (if kc h a4 = 4 then
  bd (f_X3_isPlain a4 h) (fun x1 h2 =>
  if x1 = 0 then
  (if (lg_cmp a2 (0 : Int64)) = 0 then
  (rok (1 : Int32) h2)
  else
  (ldR 1 7 a0 h2 fun x3 =>
  if kc h2 x3 = 34 then
  bd (f_X35_kindAt x3 (Int64.toInt32 a2) h2) (fun x4 h5 =>
  if kc h5 x4 = 4 then
  bd (f_X3_isBelow 100 x4 a4 h5) (fun x6 h7 =>
  if x6 = 0 then
  (rok (0 : Int32) h7)
  else
  (rok (1 : Int32) h7))
  else none)
  else none))
  else
  (rok (0 : Int32) h2))
  else none)
  else
  (if kc h a4 = 4 then
  bd (f_X3_isPlain a4 h) (fun x8 h9 =>
  if x8 = 0 then
  (rok (0 : Int32) h9)
  else
  (bd (f_X34_isBits a1 a2 h9) (fun x10 h11 =>
  if x10 = 0 then
  (rok (0 : Int32) h11)
  else
  (ldR 1 4 a0 h11 fun x12 =>
  if kc h11 x12 = 3 then
  bd (f_X2_get x12 a1 h11) (fun x13 h14 =>
  if kc h14 x13 = 4 then
  bd (f_X3_fits x13 a4 h14) (fun x15 h16 =>
  if x15 = 0 then
  (rok (0 : Int32) h16)
  else
  (rok (1 : Int32) h16))
  else none)
  else none))))
  else none)
noncomputable def f_X0_isDead (a0 : Nat) (a1 : Int64) (h : HP) : Rs Int32 :=
  if (lg_cmp a1 (0 : Int64)) = 0 then
  (rok (0 : Int32) h)
  else
  (if (lg_cmp a1 (0 : Int64)) ≤ 0 then
  (rok (1 : Int32) h)
  else
  (if 0 < (lg_cmp a1 (4000 : Int64)) then
  (rok (1 : Int32) h)
  else
  (ldR 1 7 a0 h fun x1 =>
  if kc h x1 = 34 then
  bd (f_X35_isAlive x1 (Int64.toInt32 a1) h) (fun x2 h3 =>
  if x2 = 0 then
  (rok (1 : Int32) h3)
  else
  (rok (0 : Int32) h3))
  else none)))
noncomputable def f_X0_hasDeadArgument_l2b36 (v0 : Nat) (ih : Int32 → HP → Rs (Unit ⊕ Unit)) (a1 : Int32) (h : HP) : Rs (Unit ⊕ Unit) :=
  lt3 (a1 + 1) fun x1 =>
  ih x1 h
noncomputable def b_X0_hasDeadArgument_l2 (v0 : Nat) (ih : Int32 → HP → Rs (Unit ⊕ Unit)) (a1 : Int32) (h : HP) : Rs (Unit ⊕ Unit) :=
  ldI 1 20 v0 h fun x1 =>
  if x1 ≤ a1 then
  (rok (Sum.inr ()) h)
  else
  (ldR 1 18 v0 h fun x2 =>
  aldI 0 x2 a1 h fun x3 =>
  if x3 = (8 : Int32) then
  (ldR 1 19 v0 h fun x4 =>
  aldJ 3 x4 a1 h fun x5 =>
  if kc h v0 = 1 then
  bd (f_X0_isDead v0 x5 h) (fun x6 h7 =>
  if x6 = 0 then
  (f_X0_hasDeadArgument_l2b36 v0 ih a1 h7)
  else
  (rok (Sum.inl ()) h7))
  else none)
  else
  (f_X0_hasDeadArgument_l2b36 v0 ih a1 h))
noncomputable def f_X0_hasDeadArgument_l2 (v0 : Nat) (n : Nat) : Int32 → HP → Rs (Unit ⊕ Unit) := @Nat.rec (fun _ => Int32 → HP → Rs (Unit ⊕ Unit)) (fun _ _ => none) (fun _ ih => b_X0_hasDeadArgument_l2 v0 ih) n
noncomputable def f_X0_hasDeadArgument (a0 : Nat) (h : HP) : Rs Int32 :=
  bd (f_X0_hasDeadArgument_l2 a0 NN (0 : Int32) h) (Sum.elim (fun x1 => fun h2 => rok (1 : Int32) h2) (fun x3 => fun h4 => rok (0 : Int32) h4))
noncomputable def f_X0_widened (a0 : Nat) (a1 : Int32) (a2 : Int64) (a4 : Nat) (h : HP) : Rs Int64 :=
  if (8 : Int32) ≤ a1 then
  (rok a2 h)
  else
  (ldI 4 31 a4 h fun x1 =>
  bd (f_X34_convert a1 x1 a2 h) (fun x2 h3 =>
  rok x2 h3))
noncomputable def b_X0_called_l93 (v0 : Nat) (v1 : Int32) (v2 : Int32) (v4 : Nat) (ih : Int32 → HP → Rs (Unit ⊕ Unit)) (a5 : Int32) (h : HP) : Rs (Unit ⊕ Unit) :=
  ldI 1 20 v0 h fun x1 =>
  if x1 ≤ a5 then
  (rok (Sum.inr ()) h)
  else
  (ldR 1 18 v0 h fun x2 =>
  aldI 0 x2 a5 h fun x3 =>
  ldR 1 19 v0 h fun x4 =>
  aldJ 3 x4 a5 h fun x5 =>
  ldR 30 230 v4 h fun x6 =>
  lsGet x6 a5 h fun x7 =>
  castR [4] x7 h (
  if kc h v0 = 1 then
  bd (f_X0_fitsIn v0 x3 x5 x7 h) (fun x8 h9 =>
  if x8 = 0 then
  (rok (Sum.inl ()) h9)
  else
  (lt3 (a5 + 1) fun x10 =>
  ih x10 h9))
  else none))
noncomputable def f_X0_called_l93 (v0 : Nat) (v1 : Int32) (v2 : Int32) (v4 : Nat) (n : Nat) : Int32 → HP → Rs (Unit ⊕ Unit) := @Nat.rec (fun _ => Int32 → HP → Rs (Unit ⊕ Unit)) (fun _ _ => none) (fun _ ih => b_X0_called_l93 v0 v1 v2 v4 ih) n
noncomputable def b_X0_called_l159 (v0 : Nat) (v1 : Int32) (v4 : Nat) (ih : Int32 → HP → Rs Unit) (a5 : Int32) (h : HP) : Rs Unit :=
  ldI 1 20 v0 h fun x1 =>
  if x1 ≤ a5 then
  (rok () h)
  else
  (ldR 1 8 v0 h fun x2 =>
  ldR 1 18 v0 h fun x3 =>
  aldI 0 x3 a5 h fun x4 =>
  ldR 1 19 v0 h fun x5 =>
  aldJ 3 x5 a5 h fun x6 =>
  ldR 30 230 v4 h fun x7 =>
  lsGet x7 a5 h fun x8 =>
  castR [4] x8 h (
  if kc h v0 = 1 then
  bd (f_X0_widened v0 x4 x6 x8 h) (fun x9 h10 =>
  if kc h10 x2 = 37 then
  bd (f_X38_put x2 a5 x9 h10) (fun _ h11 =>
  lt3 (a5 + 1) fun x12 =>
  ih x12 h11)
  else none)
  else none))
noncomputable def f_X0_called_l159 (v0 : Nat) (v1 : Int32) (v4 : Nat) (n : Nat) : Int32 → HP → Rs Unit := @Nat.rec (fun _ => Int32 → HP → Rs Unit) (fun _ _ => none) (fun _ ih => b_X0_called_l159 v0 v1 v4 ih) n
noncomputable def f_X0_called_b55 (a0 : Nat) (a1 : Int32) (a2 : Int32) (s0 : Nat) (h : HP) : Rs Int32 :=
  if a2 < 0 then
  (rok (1 : Int32) h)
  else
  (if (100000 : Int32) < a2 then
  (rok (1 : Int32) h)
  else
  (if s0 = 0 then
  (rok (1 : Int32) h)
  else
  (ldR 30 230 s0 h fun x1 =>
  lsSize x1 h fun x2 =>
  ldI 1 20 a0 h fun x3 =>
  if x2 = x3 then
  (bd (f_X0_called_l93 a0 a1 a2 s0 NN (0 : Int32) h) (Sum.elim (fun x4 => fun h5 => rok (1 : Int32) h5) (fun x6 => fun h7 => ldR 1 8 a0 h7 fun x8 =>
  ldI 1 20 a0 h7 fun x9 =>
  if kc h7 x8 = 37 then
  bd (f_X38_begin x8 a2 x9 h7) (fun _ h10 =>
  bd (f_X0_called_l159 a0 a1 s0 NN (0 : Int32) h10) (fun x11 h12 => ldR 1 8 a0 h12 fun x13 =>
  if kc h12 x13 = 37 then
  bdc (f_X38_call 960 x13 a1 s0 (0 : Int32) h12) (fun x14 h15 =>
  stJ 1 22 a0 x14 h15 fun h22 =>
  ldR 1 8 a0 h22 fun x23 =>
  ldI 37 290 x23 h22 fun x24 =>
  stI 1 23 a0 x24 h22 fun h25 =>
  rok (0 : Int32) h25) (fun h16 =>
  ldR 1 3 a0 h16 fun x17 =>
  ldI 2 28 x17 h16 fun x18 =>
  ldR 1 8 a0 h16 fun x19 =>
  ldI 37 290 x19 h16 fun x20 =>
  stI 1 23 a0 x20 h16 fun h21 =>
  rok x18 h21)
  else none))
  else none)))
  else
  (rok (1 : Int32) h))))
noncomputable def f_X0_called (a0 : Nat) (a1 : Int32) (a2 : Int32) (a3 : Nat) (h : HP) : Rs Int32 :=
  if kc h a0 = 1 then
  bd (f_X0_isDead a0 (Int32.toInt64 a1) h) (fun x1 h2 =>
  if x1 = 0 then
  (if kc h2 a0 = 1 then
  bd (f_X0_hasDeadArgument a0 h2) (fun x3 h4 =>
  if x3 = 0 then
  (if a1 = 0 then
  (rok (3 : Int32) h4)
  else
  (ldR 1 7 a0 h4 fun x5 =>
  if kc h4 x5 = 34 then
  bd (f_X35_kindAt x5 a1 h4) (fun x6 h7 =>
  if kc h7 x6 = 4 then
  bd (f_X3_isClassLike x6 h7) (fun x8 h9 =>
  if x8 = 0 then
  (f_X0_called_b55  a0 a1 a2 0 h9)
  else
  (ldR 1 7 a0 h9 fun x10 =>
  if kc h9 x10 = 34 then
  bd (f_X35_kindAt x10 a1 h9) (fun x11 h12 =>
  if kc h12 x11 = 4 then
  bd (f_X3_taken x11 a3 h12) (fun x13 h14 =>
  f_X0_called_b55  a0 a1 a2 x13 h14)
  else none)
  else none))
  else none)
  else none))
  else
  (rok (14 : Int32) h4))
  else none)
  else
  (rok (14 : Int32) h2))
  else none
noncomputable def b_X0_textOf_l11 (v0 : Nat) (v1 : Int32) (v2 : Nat) (ih : Int32 → HP → Rs Unit) (a3 : Int32) (h : HP) : Rs Unit :=
  if v1 ≤ a3 then
  (rok () h)
  else
  (ldR 1 1 v0 h fun x1 =>
  aldI 1 x1 a3 h fun x2 =>
  sbApC v2 (UInt32.toInt32 (Int32.toUInt32 (x2 &&& (255 : Int32)) % 65536)) h fun h3 =>
  lt3 (a3 + 1) fun x4 =>
  ih x4 h3)
noncomputable def f_X0_textOf_l11 (v0 : Nat) (v1 : Int32) (v2 : Nat) (n : Nat) : Int32 → HP → Rs Unit := @Nat.rec (fun _ => Int32 → HP → Rs Unit) (fun _ _ => none) (fun _ ih => b_X0_textOf_l11 v0 v1 v2 ih) n
noncomputable def f_X0_textOf (a0 : Nat) (a1 : Int32) (h : HP) : Rs Nat :=
  nwC 72 4 h fun p1 h2 =>
  sbInitN p1 a1 h2 fun h3 =>
  bd (f_X0_textOf_l11 a0 a1 p1 NN (0 : Int32) h3) (fun x4 h5 => sbStr p1 h5 fun x6 h7 =>
  rok x6 h7)
noncomputable def f_X0_trayText (a0 : Nat) (h : HP) : Rs Nat :=
  ldI 1 2 a0 h fun x1 =>
  if kc h a0 = 1 then
  bd (f_X0_textOf a0 x1 h) (fun x2 h3 =>
  rok x2 h3)
  else none
noncomputable def f_X0_call (a0 : Nat) (a1 : Int32) (a2 : Int32) (h : HP) : Rs Int32 :=
  stJ 1 22 a0 (0 : Int64) h fun h1 =>
  stI 1 23 a0 (0 : Int32) h1 fun h2 =>
  if kc h2 a0 = 1 then
  bd (f_X0_hasView a0 h2) (fun x3 h4 =>
  if x3 = 0 then
  (rok (-13 : Int32) h4)
  else
  (if kc h4 a0 = 1 then
  bd (f_X0_trayText a0 h4) (fun x5 h6 =>
  if kc h6 a0 = 1 then
  bd (f_X0_called a0 a1 a2 x5 h6) (fun x7 h8 =>
  lt3 (-x7) fun x9 =>
  stI 1 2 a0 (0 : Int32) h8 fun h10 =>
  stI 1 20 a0 (0 : Int32) h10 fun h11 =>
  rok x9 h11)
  else none)
  else none))
  else none
noncomputable def f_X0_refusal (a0 : Nat) (a1 : Int32) (h : HP) : Rs Int32 :=
  if kc h a0 = 1 then
  bd (f_X0_hasView a0 h) (fun x1 h2 =>
  if x1 = 0 then
  (rok (13 : Int32) h2)
  else
  (if kc h2 a0 = 1 then
  bd (f_X0_isDead a0 (Int32.toInt64 a1) h2) (fun x3 h4 =>
  if x3 = 0 then
  (if a1 = 0 then
  (rok (3 : Int32) h4)
  else
  (rok (0 : Int32) h4))
  else
  (rok (14 : Int32) h4))
  else none))
  else none
noncomputable def f_X0_partRefusal_b53 (a0 : Nat) (a1 : Int32) (a2 : Int32) (a3 : Int32) (s0 : Int32) (h : HP) : Rs Int32 :=
  if s0 = 0 then
  (rok (1 : Int32) h)
  else
  (if a2 < 0 then
  (if a3 = 0 then
  (rok (14 : Int32) h)
  else
  (rok (2 : Int32) h))
  else
  (ldR 1 7 a0 h fun x1 =>
  if kc h x1 = 34 then
  bd (f_X35_sizeOf x1 a1 h) (fun x2 h3 =>
  if x2 ≤ a2 then
  (if a3 = 0 then
  (rok (14 : Int32) h3)
  else
  (rok (2 : Int32) h3))
  else
  (rok (0 : Int32) h3))
  else none))
noncomputable def f_X0_partRefusal (a0 : Nat) (a1 : Int32) (a2 : Int32) (a3 : Int32) (h : HP) : Rs Int32 :=
  if kc h a0 = 1 then
  bd (f_X0_refusal a0 a1 h) (fun x1 h2 =>
  if x1 ≤ 0 then
  (ldR 1 7 a0 h2 fun x3 =>
  if kc h2 x3 = 34 then
  bd (f_X35_kindAt x3 a1 h2) (fun x4 h5 =>
  if a3 = 0 then
  (if kc h5 x4 = 4 then
  bd (f_X3_isClassLike x4 h5) (fun x6 h7 =>
  f_X0_partRefusal_b53  a0 a1 a2 a3 x6 h7)
  else none)
  else
  (ldR 4 32 x4 h5 fun x8 =>
  eqS x8 907
  (f_X0_partRefusal_b53  a0 a1 a2 a3 (1 : Int32) h5)
  (f_X0_partRefusal_b53  a0 a1 a2 a3 (0 : Int32) h5)))
  else none)
  else
  (rok x1 h2))
  else none
noncomputable def f_X0_change_b117 (a0 : Nat) (a1 : Int32) (a2 : Int32) (a3 : Int32) (a4 : Int64) (a8 : Int32) (a9 : Nat) (s0 : Nat) (h : HP) : Rs Int32 :=
  if (8 : Int32) < a3 then
  (rok (1 : Int32) h)
  else
  (if kc h a0 = 1 then
  bd (f_X0_fitsIn a0 a3 a4 s0 h) (fun x1 h2 =>
  if x1 = 0 then
  (rok (1 : Int32) h2)
  else
  (if a8 ≤ 0 then
  (ldR 36 274 a9 h2 fun x3 =>
  ldR 4 32 x3 h2 fun x4 =>
  eqS x4 905
  (rok (5 : Int32) h2)
  (ldR 1 7 a0 h2 fun x5 =>
  if kc h2 x5 = 34 then
  bdc (f_X35_change x5 a1 h2) (fun x6 h7 =>
  if kc h7 a0 = 1 then
  bdc (f_X0_widened a0 a3 a4 s0 h7) (fun x11 h12 =>
  astJ 3 x6 a2 x11 h12 fun h16 =>
  rok (0 : Int32) h16) (fun h13 =>
  ldR 1 3 a0 h13 fun x14 =>
  ldI 2 28 x14 h13 fun x15 =>
  rok x15 h13)
  else none) (fun h8 =>
  ldR 1 3 a0 h8 fun x9 =>
  ldI 2 28 x9 h8 fun x10 =>
  rok x10 h8)
  else none))
  else
  (rok a8 h2)))
  else none)
noncomputable def f_X0_change_b84 (a0 : Nat) (a1 : Int32) (a2 : Int32) (a3 : Int32) (a4 : Int64) (a6 : Int32) (a8 : Int32) (h : HP) : Rs Int32 :=
  ldR 1 7 a0 h fun x1 =>
  ldR 34 249 x1 h fun x2 =>
  aldR 8 x2 a1 h fun x3 =>
  if a6 = 0 then
  (if kc h x3 = 36 then
  bd (f_X37_kindOf x3 a2 h) (fun x4 h5 =>
  f_X0_change_b117  a0 a1 a2 a3 a4 a8 x3 x4 h5)
  else none)
  else
  (ldR 36 274 x3 h fun x6 =>
  ldR 4 34 x6 h fun x7 =>
  f_X0_change_b117  a0 a1 a2 a3 a4 a8 x3 x7 h)
noncomputable def f_X0_change_b60 (a0 : Nat) (a1 : Int32) (a2 : Int32) (a3 : Int32) (a4 : Int64) (a6 : Int32) (h : HP) : Rs Int32 :=
  if kc h a0 = 1 then
  bd (f_X0_partRefusal a0 a1 a2 a6 h) (fun x1 h2 =>
  if x1 ≤ 0 then
  (f_X0_change_b84  a0 a1 a2 a3 a4 a6 x1 h2)
  else
  (if x1 = (2 : Int32) then
  (f_X0_change_b84  a0 a1 a2 a3 a4 a6 x1 h2)
  else
  (rok x1 h2)))
  else none
noncomputable def f_X0_change_b21 (a0 : Nat) (a1 : Int32) (a2 : Int32) (a3 : Int32) (a4 : Int64) (a6 : Int32) (s0 : Int32) (h : HP) : Rs Int32 :=
  if kc h a0 = 1 then
  bd (f_X0_isDead a0 (Int32.toInt64 a1) h) (fun x1 h2 =>
  if x1 = 0 then
  (ldR 1 4 a0 h2 fun x3 =>
  if kc h2 x3 = 3 then
  bd (f_X2_has x3 a3 h2) (fun x4 h5 =>
  if x4 = 0 then
  (rok (14 : Int32) h5)
  else
  (if s0 = 0 then
  (f_X0_change_b60  a0 a1 a2 a3 a4 a6 h5)
  else
  (if kc h5 a0 = 1 then
  bd (f_X0_isDead a0 a4 h5) (fun x6 h7 =>
  if x6 = 0 then
  (f_X0_change_b60  a0 a1 a2 a3 a4 a6 h7)
  else
  (rok (14 : Int32) h7))
  else none)))
  else none)
  else
  (rok (14 : Int32) h2))
  else none
noncomputable def f_X0_change (a0 : Nat) (a1 : Int32) (a2 : Int32) (a3 : Int32) (a4 : Int64) (a6 : Int32) (h : HP) : Rs Int32 :=
  if kc h a0 = 1 then
  bd (f_X0_hasAct a0 h) (fun x1 h2 =>
  if x1 = 0 then
  (rok (13 : Int32) h2)
  else
  (if a3 = (8 : Int32) then
  (f_X0_change_b21  a0 a1 a2 a3 a4 a6 (1 : Int32) h2)
  else
  (f_X0_change_b21  a0 a1 a2 a3 a4 a6 (0 : Int32) h2)))
  else none
noncomputable def f_X0_clash (a0 : Nat) (h : HP) : Rs Int32 :=
  ldI 1 17 a0 h fun x1 =>
  rok x1 h
noncomputable def b_X0_cloned_l117 (v4 : Int32) (v5 : Nat) (v6 : Nat) (v7 : Nat) (ih : Int32 → HP → Rs Unit) (a8 : Int32) (h : HP) : Rs Unit :=
  if v4 ≤ a8 then
  (rok () h)
  else
  (aldJ 3 v5 a8 h fun x1 =>
  astJ 3 v7 a8 x1 h fun h2 =>
  lt3 (a8 + 1) fun x3 =>
  ih x3 h2)
noncomputable def f_X0_cloned_l117 (v4 : Int32) (v5 : Nat) (v6 : Nat) (v7 : Nat) (n : Nat) : Int32 → HP → Rs Unit := @Nat.rec (fun _ => Int32 → HP → Rs Unit) (fun _ _ => none) (fun _ ih => b_X0_cloned_l117 v4 v5 v6 v7 ih) n
noncomputable def f_X0_cloned (a0 : Nat) (a1 : Int32) (h : HP) : Rs Int32 :=
  if kc h a0 = 1 then
  bd (f_X0_hasAct a0 h) (fun x1 h2 =>
  if x1 = 0 then
  (rok (-13 : Int32) h2)
  else
  (if kc h2 a0 = 1 then
  bd (f_X0_refusal a0 a1 h2) (fun x3 h4 =>
  if x3 ≤ 0 then
  (ldR 1 7 a0 h4 fun x5 =>
  if kc h4 x5 = 34 then
  bd (f_X35_kindAt x5 a1 h4) (fun x6 h7 =>
  ldR 4 32 x6 h7 fun x8 =>
  eqS x8 907
  (ldR 1 7 a0 h7 fun x9 =>
  if kc h7 x9 = 34 then
  bd (f_X35_sizeOf x9 a1 h7) (fun x10 h11 =>
  ldR 1 7 a0 h11 fun x12 =>
  if kc h11 x12 = 34 then
  bd (f_X35_hasRoom x12 (1 : Int32) x10 h11) (fun x13 h14 =>
  if x13 = 0 then
  (rok (-12 : Int32) h14)
  else
  (ldR 1 7 a0 h14 fun x15 =>
  if kc h14 x15 = 34 then
  bd (f_X35_noteRead x15 a1 h14) (fun _ h16 =>
  ldR 1 7 a0 h16 fun x17 =>
  if kc h16 x17 = 34 then
  bd (f_X35_values x17 a1 h16) (fun x18 h19 =>
  ldR 1 7 a0 h19 fun x20 =>
  if kc h19 x20 = 34 then
  bd (f_X35_make x20 x6 x10 h19) (fun x21 h22 =>
  ldR 1 7 a0 h22 fun x23 =>
  ldI 36 273 x21 h22 fun x24 =>
  if kc h22 x23 = 34 then
  bd (f_X35_change x23 x24 h22) (fun x25 h26 =>
  bd (f_X0_cloned_l117 x10 x18 x21 x25 NN (0 : Int32) h26) (fun x27 h28 => ldI 36 273 x21 h28 fun x29 =>
  rok x29 h28))
  else none)
  else none)
  else none)
  else none))
  else none)
  else none)
  (rok (-1 : Int32) h7))
  else none)
  else
  (rok (-x3) h4))
  else none))
  else none
noncomputable def f_X0_code (a0 : Nat) (h : HP) : Rs Int32 :=
  ldI 1 21 a0 h fun x1 =>
  rok x1 h
noncomputable def f_X0_constant (a0 : Nat) (a1 : Int32) (a2 : Int32) (h : HP) : Rs Int32 :=
  if kc h a0 = 1 then
  bd (f_X0_isShut a0 h) (fun x1 h2 =>
  if x1 = 0 then
  (ldR 1 4 a0 h2 fun x3 =>
  if kc h2 x3 = 3 then
  bd (f_X2_has x3 a1 h2) (fun x4 h5 =>
  if x4 = 0 then
  (rok (-14 : Int32) h5)
  else
  (ldR 1 4 a0 h5 fun x6 =>
  if kc h5 x6 = 3 then
  bd (f_X2_get x6 a1 h5) (fun x7 h8 =>
  ldR 4 32 x7 h8 fun x9 =>
  eqS x9 906
  (if a2 < 0 then
  (rok (-2 : Int32) h8)
  else
  (ldR 4 46 x7 h8 fun x10 =>
  lsSize x10 h8 fun x11 =>
  if x11 ≤ a2 then
  (rok (-2 : Int32) h8)
  else
  (ldI 4 47 x7 h8 fun x12 =>
  rok (x12 + a2) h8)))
  (rok (-1 : Int32) h8))
  else none))
  else none)
  else
  (rok (-13 : Int32) h2))
  else none
noncomputable def f_X0_copied_l89b141 (v0 : Nat) (v2 : Int32) (v4 : Int32) (v5 : Int32) (v6 : Nat) (v7 : Nat) (v8 : Nat) (ih : Int32 → HP → Rs (Unit ⊕ Unit)) (a9 : Int32) (a10 : Int64) (h : HP) : Rs (Unit ⊕ Unit) :=
  astJ 3 v7 (v4 + a9) a10 h fun h1 =>
  lt3 (a9 + 1) fun x2 =>
  ih x2 h1
noncomputable def b_X0_copied_l89 (v0 : Nat) (v2 : Int32) (v4 : Int32) (v5 : Int32) (v6 : Nat) (v7 : Nat) (v8 : Nat) (ih : Int32 → HP → Rs (Unit ⊕ Unit)) (a9 : Int32) (h : HP) : Rs (Unit ⊕ Unit) :=
  if v5 ≤ a9 then
  (rok (Sum.inr ()) h)
  else
  (aldJ 3 v8 (v2 + a9) h fun x1 =>
  if kc h v6 = 4 then
  bd (f_X3_isPlain v6 h) (fun x2 h3 =>
  if x2 = 0 then
  (if (lg_cmp x1 (0 : Int64)) = 0 then
  (f_X0_copied_l89b141 v0 v2 v4 v5 v6 v7 v8 ih a9 x1 h3)
  else
  (ldR 1 7 v0 h3 fun x4 =>
  if kc h3 x4 = 34 then
  bd (f_X35_kindAt x4 (Int64.toInt32 x1) h3) (fun x5 h6 =>
  if kc h6 x5 = 4 then
  bd (f_X3_isBelow 100 x5 v6 h6) (fun x7 h8 =>
  if x7 = 0 then
  (rok (Sum.inl ()) h8)
  else
  (f_X0_copied_l89b141 v0 v2 v4 v5 v6 v7 v8 ih a9 x1 h8))
  else none)
  else none))
  else
  (f_X0_copied_l89b141 v0 v2 v4 v5 v6 v7 v8 ih a9 x1 h3))
  else none)
noncomputable def f_X0_copied_l89 (v0 : Nat) (v2 : Int32) (v4 : Int32) (v5 : Int32) (v6 : Nat) (v7 : Nat) (v8 : Nat) (n : Nat) : Int32 → HP → Rs (Unit ⊕ Unit) := @Nat.rec (fun _ => Int32 → HP → Rs (Unit ⊕ Unit)) (fun _ _ => none) (fun _ ih => b_X0_copied_l89 v0 v2 v4 v5 v6 v7 v8 ih) n
noncomputable def f_X0_copied_b86 (a0 : Nat) (a2 : Int32) (a4 : Int32) (a5 : Int32) (a6 : Nat) (a7 : Nat) (a8 : Nat) (h : HP) : Rs Int32 :=
  bd (f_X0_copied_l89 a0 a2 a4 a5 a6 a7 a8 NN (0 : Int32) h) (Sum.elim (fun x1 => fun h2 => rok (6 : Int32) h2) (fun x3 => fun h4 => rok (0 : Int32) h4))
noncomputable def b_X0_copied_l58 (v2 : Int32) (v4 : Int32) (v7 : Nat) (v8 : Nat) (ih : Int32 → HP → Rs Unit) (a9 : Int32) (h : HP) : Rs Unit :=
  if a9 < 0 then
  (rok () h)
  else
  (aldJ 3 v8 (v2 + a9) h fun x1 =>
  astJ 3 v7 (v4 + a9) x1 h fun h2 =>
  lt3 (a9 + (-1)) fun x3 =>
  ih x3 h2)
noncomputable def f_X0_copied_l58 (v2 : Int32) (v4 : Int32) (v7 : Nat) (v8 : Nat) (n : Nat) : Int32 → HP → Rs Unit := @Nat.rec (fun _ => Int32 → HP → Rs Unit) (fun _ _ => none) (fun _ ih => b_X0_copied_l58 v2 v4 v7 v8 ih) n
noncomputable def f_X0_copied (a0 : Nat) (a1 : Int32) (a2 : Int32) (a3 : Int32) (a4 : Int32) (a5 : Int32) (h : HP) : Rs Int32 :=
  ldR 1 7 a0 h fun x1 =>
  if kc h x1 = 34 then
  bd (f_X35_kindAt x1 a3 h) (fun x2 h3 =>
  ldR 4 34 x2 h3 fun x4 =>
  ldR 1 7 a0 h3 fun x5 =>
  if kc h3 x5 = 34 then
  bd (f_X35_change x5 a3 h3) (fun x6 h7 =>
  ldR 1 7 a0 h7 fun x8 =>
  if kc h7 x8 = 34 then
  bd (f_X35_noteRead x8 a1 h7) (fun _ h9 =>
  ldR 1 7 a0 h9 fun x10 =>
  if kc h9 x10 = 34 then
  bd (f_X35_values x10 a1 h9) (fun x11 h12 =>
  if a1 = a3 then
  (if a4 ≤ a2 then
  (f_X0_copied_b86  a0 a2 a4 a5 x4 x6 x11 h12)
  else
  (lt3 (a5 - (1 : Int32)) fun x13 =>
  bd (f_X0_copied_l58 a2 a4 x6 x11 NN x13 h12) (fun x14 h15 => rok (0 : Int32) h15)))
  else
  (f_X0_copied_b86  a0 a2 a4 a5 x4 x6 x11 h12))
  else none)
  else none)
  else none)
  else none
noncomputable def f_X0_copy_b133 (a0 : Nat) (a1 : Int32) (a2 : Int32) (a3 : Int32) (a4 : Int32) (a5 : Int32) (h : HP) : Rs Int32 :=
  if a5 < 0 then
  (rok (-2 : Int32) h)
  else
  (if a2 < 0 then
  (rok (-2 : Int32) h)
  else
  (if a4 < 0 then
  (rok (-2 : Int32) h)
  else
  (ldR 1 7 a0 h fun x1 =>
  if kc h x1 = 34 then
  bd (f_X35_sizeOf x1 a1 h) (fun x2 h3 =>
  if (x2 - a5) < a2 then
  (rok (-2 : Int32) h3)
  else
  (ldR 1 7 a0 h3 fun x4 =>
  if kc h3 x4 = 34 then
  bd (f_X35_sizeOf x4 a3 h3) (fun x5 h6 =>
  if a4 ≤ (x5 - a5) then
  (if a5 = 0 then
  (rok (0 : Int32) h6)
  else
  (if kc h6 a0 = 1 then
  bdc (f_X0_copied a0 a1 a2 a3 a4 a5 h6) (fun x7 h8 =>
  rok (-x7) h8) (fun h9 =>
  ldR 1 3 a0 h9 fun x10 =>
  ldI 2 28 x10 h9 fun x11 =>
  rok (-x11) h9)
  else none))
  else
  (rok (-2 : Int32) h6))
  else none))
  else none)))
noncomputable def f_X0_copy_b118 (a0 : Nat) (a1 : Int32) (a2 : Int32) (a3 : Int32) (a4 : Int32) (a5 : Int32) (a6 : Nat) (a7 : Nat) (h : HP) : Rs Int32 :=
  ldR 4 34 a6 h fun x1 =>
  ldR 4 34 a7 h fun x2 =>
  eqR h x1 x2
  (f_X0_copy_b133  a0 a1 a2 a3 a4 a5 h)
  (rok (-1 : Int32) h)
noncomputable def f_X0_copy_b89 (a0 : Nat) (a1 : Int32) (a2 : Int32) (a3 : Int32) (a4 : Int32) (a5 : Int32) (a6 : Nat) (a7 : Nat) (s0 : Int32) (h : HP) : Rs Int32 :=
  if s0 = 0 then
  (rok (-1 : Int32) h)
  else
  (ldR 4 34 a6 h fun x1 =>
  if kc h x1 = 4 then
  bd (f_X3_isPlain x1 h) (fun x2 h3 =>
  if x2 = 0 then
  (ldR 4 34 a7 h3 fun x4 =>
  if kc h3 x4 = 4 then
  bd (f_X3_isPlain x4 h3) (fun x5 h6 =>
  if x5 = 0 then
  (f_X0_copy_b133  a0 a1 a2 a3 a4 a5 h6)
  else
  (f_X0_copy_b118  a0 a1 a2 a3 a4 a5 a6 a7 h6))
  else none)
  else
  (f_X0_copy_b118  a0 a1 a2 a3 a4 a5 a6 a7 h3))
  else none)
noncomputable def f_X0_copy_b88 (a0 : Nat) (a1 : Int32) (a2 : Int32) (a3 : Int32) (a4 : Int32) (a5 : Int32) (a6 : Nat) (a7 : Nat) (h : HP) : Rs Int32 :=
  f_X0_copy_b89  a0 a1 a2 a3 a4 a5 a6 a7 (0 : Int32) h
noncomputable def f_X0_copy (a0 : Nat) (a1 : Int32) (a2 : Int32) (a3 : Int32) (a4 : Int32) (a5 : Int32) (h : HP) : Rs Int32 :=
  if kc h a0 = 1 then
  bd (f_X0_hasAct a0 h) (fun x1 h2 =>
  if x1 = 0 then
  (rok (-13 : Int32) h2)
  else
  (if kc h2 a0 = 1 then
  bd (f_X0_isDead a0 (Int32.toInt64 a1) h2) (fun x3 h4 =>
  if x3 = 0 then
  (if kc h4 a0 = 1 then
  bd (f_X0_isDead a0 (Int32.toInt64 a3) h4) (fun x5 h6 =>
  if x5 = 0 then
  (if a1 = 0 then
  (rok (-3 : Int32) h6)
  else
  (if a3 = 0 then
  (rok (-3 : Int32) h6)
  else
  (ldR 1 7 a0 h6 fun x7 =>
  if kc h6 x7 = 34 then
  bd (f_X35_kindAt x7 a1 h6) (fun x8 h9 =>
  ldR 1 7 a0 h9 fun x10 =>
  if kc h9 x10 = 34 then
  bd (f_X35_kindAt x10 a3 h9) (fun x11 h12 =>
  ldR 4 32 x8 h12 fun x13 =>
  eqS x13 907
  (ldR 4 32 x11 h12 fun x14 =>
  eqS x14 907
  (f_X0_copy_b89  a0 a1 a2 a3 a4 a5 x8 x11 (1 : Int32) h12)
  (f_X0_copy_b88  a0 a1 a2 a3 a4 a5 x8 x11 h12))
  (f_X0_copy_b88  a0 a1 a2 a3 a4 a5 x8 x11 h12))
  else none)
  else none)))
  else
  (rok (-14 : Int32) h6))
  else none)
  else
  (rok (-14 : Int32) h4))
  else none))
  else none
noncomputable def b_X2_cut_l0 (v0 : Nat) (v1 : Int32) (ih : HP → Rs Unit) (h : HP) : Rs Unit :=
  ldR 3 30 v0 h fun x1 =>
  lsSize x1 h fun x2 =>
  if x2 ≤ v1 then
  (rok () h)
  else
  (ldR 3 30 v0 h fun x3 =>
  ldR 3 30 v0 h fun x4 =>
  lsSize x4 h fun x5 =>
  lsRem x3 (x5 - (1 : Int32)) h fun x6 h7 =>
  castR [4] x6 h7 (
  ldR 4 34 x6 h7 fun x8 =>
  stR 4 37 x8 0 h7 fun h9 =>
  ih  h9))
noncomputable def f_X2_cut_l0 (v0 : Nat) (v1 : Int32) (n : Nat) : HP → Rs Unit := @Nat.rec (fun _ => HP → Rs Unit) (fun _ => none) (fun _ ih => b_X2_cut_l0 v0 v1 ih) n
noncomputable def f_X2_cut (a0 : Nat) (a1 : Int32) (h : HP) : Rs Unit :=
  ldR 3 30 a0 h fun x1 =>
  lsSize x1 h fun x2 =>
  if x2 ≤ a1 then
  (rok () h)
  else
  (ldR 3 30 a0 h fun x3 =>
  ldR 3 30 a0 h fun x4 =>
  lsSize x4 h fun x5 =>
  lsRem x3 (x5 - (1 : Int32)) h fun x6 h7 =>
  castR [4] x6 h7 (
  ldR 4 34 x6 h7 fun x8 =>
  stR 4 37 x8 0 h7 fun h9 =>
  bd (f_X2_cut_l0 a0 a1 NN h9) (fun x10 h11 => rok () h11)))
noncomputable def b_X35_clear_l2 (v0 : Nat) (v1 : Int32) (ih : Int32 → HP → Rs Unit) (a2 : Int32) (h : HP) : Rs Unit :=
  if (4000 : Int32) < a2 then
  (rok () h)
  else
  (ldR 34 249 v0 h fun x1 =>
  astO 8 36 x1 a2 0 h fun h2 =>
  lt3 (a2 + 1) fun x3 =>
  ih x3 h2)
noncomputable def f_X35_clear_l2 (v0 : Nat) (v1 : Int32) (n : Nat) : Int32 → HP → Rs Unit := @Nat.rec (fun _ => Int32 → HP → Rs Unit) (fun _ _ => none) (fun _ ih => b_X35_clear_l2 v0 v1 ih) n
noncomputable def b_X35_clear_l59 (v0 : Nat) (ih : Int32 → HP → Rs Unit) (a2 : Int32) (h : HP) : Rs Unit :=
  if (8 : Int32) ≤ a2 then
  (rok () h)
  else
  (ldR 34 253 v0 h fun x1 =>
  aldR 5 x1 a2 h fun x2 =>
  stI 35 264 x2 (0 : Int32) h fun h3 =>
  lt3 (a2 + 1) fun x4 =>
  ih x4 h3)
noncomputable def f_X35_clear_l59 (v0 : Nat) (n : Nat) : Int32 → HP → Rs Unit := @Nat.rec (fun _ => Int32 → HP → Rs Unit) (fun _ _ => none) (fun _ ih => b_X35_clear_l59 v0 ih) n
noncomputable def b_X35_clear_l83 (v0 : Nat) (ih : Int32 → HP → Rs Unit) (a2 : Int32) (h : HP) : Rs Unit :=
  ldR 34 257 v0 h fun x1 =>
  alen x1 h fun x2 =>
  if x2 ≤ a2 then
  (rok () h)
  else
  (ldR 34 257 v0 h fun x3 =>
  astI 0 x3 a2 (0 : Int32) h fun h4 =>
  lt3 (a2 + 1) fun x5 =>
  ih x5 h4)
noncomputable def f_X35_clear_l83 (v0 : Nat) (n : Nat) : Int32 → HP → Rs Unit := @Nat.rec (fun _ => Int32 → HP → Rs Unit) (fun _ _ => none) (fun _ ih => b_X35_clear_l83 v0 ih) n
noncomputable def b_X35_clear_l107 (v0 : Nat) (ih : Int32 → HP → Rs Unit) (a2 : Int32) (h : HP) : Rs Unit :=
  if (16 : Int32) ≤ a2 then
  (rok () h)
  else
  (ldR 34 258 v0 h fun x1 =>
  astI 0 x1 a2 (0 : Int32) h fun h2 =>
  ldR 34 263 v0 h2 fun x3 =>
  astI 0 x3 a2 (0 : Int32) h2 fun h4 =>
  lt3 (a2 + 1) fun x5 =>
  ih x5 h4)
noncomputable def f_X35_clear_l107 (v0 : Nat) (n : Nat) : Int32 → HP → Rs Unit := @Nat.rec (fun _ => Int32 → HP → Rs Unit) (fun _ _ => none) (fun _ ih => b_X35_clear_l107 v0 ih) n
noncomputable def f_X35_clear (a0 : Nat) (a1 : Int32) (h : HP) : Rs Unit :=
  bd (f_X35_clear_l2 a0 a1 NN a1 h) (fun x1 h2 => stI 34 250 a0 a1 h2 fun h3 =>
  stI 34 251 a0 (0 : Int32) h3 fun h4 =>
  stI 34 255 a0 (0 : Int32) h4 fun h5 =>
  stI 34 256 a0 (0 : Int32) h5 fun h6 =>
  stR 34 259 a0 0 h6 fun h7 =>
  stI 34 260 a0 (-1 : Int32) h7 fun h8 =>
  stI 34 254 a0 (0 : Int32) h8 fun h9 =>
  bd (f_X35_clear_l59 a0 NN (0 : Int32) h9) (fun x10 h11 => bd (f_X35_clear_l83 a0 NN (0 : Int32) h11) (fun x12 h13 => bd (f_X35_clear_l107 a0 NN (0 : Int32) h13) (fun x14 h15 => rok () h15))))
noncomputable def f_X39_clear (a0 : Nat) (h : HP) : Rs Unit :=
  ldR 38 294 a0 h fun x1 =>
  stI 39 308 x1 (0 : Int32) h fun h2 =>
  stI 38 303 a0 (0 : Int32) h2 fun h3 =>
  rok () h3
noncomputable def f_X42_crash (a0 : Nat) (a1 : Int32) (h : HP) : Rs Unit :=
  ldR 41 321 a0 h fun x1 =>
  ldI 39 308 x1 h fun x2 =>
  if x2 ≤ 0 then
  (rok () h)
  else
  (ldR 41 321 a0 h fun x3 =>
  ldR 41 321 a0 h fun x4 =>
  ldI 39 308 x4 h fun x5 =>
  ldI 41 323 a0 h fun x6 =>
  stI 39 308 x3 (Int64.toInt32 (mnJ (Int32.toInt64 x5) ((Int32.toInt64 x6) + (Int32.toInt64 a1)))) h fun h7 =>
  rok () h7)
noncomputable def f_X43_clear (a0 : Nat) (h : HP) : Rs Unit :=
  stI 42 344 a0 (0 : Int32) h fun h1 =>
  stI 42 345 a0 (0 : Int32) h1 fun h2 =>
  rok () h2
noncomputable def f_X0_crash (a0 : Nat) (a1 : Int32) (h : HP) : Rs Int32 :=
  if kc h a0 = 1 then
  bd (f_X0_isShut a0 h) (fun x1 h2 =>
  if x1 = 0 then
  (if 0 ≤ a1 then
  (stI 1 14 a0 (1 : Int32) h2 fun h3 =>
  ldR 1 11 a0 h3 fun x4 =>
  if kc h3 x4 = 41 then
  bd (f_X42_crash x4 a1 h3) (fun _ h5 =>
  ldR 1 7 a0 h5 fun x6 =>
  ldI 1 6 a0 h5 fun x7 =>
  if kc h5 x6 = 34 then
  bd (f_X35_clear x6 x7 h5) (fun _ h8 =>
  ldR 1 4 a0 h8 fun x9 =>
  ldI 1 5 a0 h8 fun x10 =>
  if kc h8 x9 = 3 then
  bd (f_X2_cut x9 x10 h8) (fun _ h11 =>
  ldR 1 9 a0 h11 fun x12 =>
  if kc h11 x12 = 38 then
  bd (f_X39_clear x12 h11) (fun _ h13 =>
  ldR 1 12 a0 h13 fun x14 =>
  if kc h13 x14 = 42 then
  bd (f_X43_clear x14 h13) (fun _ h15 =>
  stI 1 20 a0 (0 : Int32) h15 fun h16 =>
  stJ 1 22 a0 (0 : Int64) h16 fun h17 =>
  stI 1 21 a0 (0 : Int32) h17 fun h18 =>
  stI 1 23 a0 (0 : Int32) h18 fun h19 =>
  stI 1 26 a0 (0 : Int32) h19 fun h20 =>
  stI 1 17 a0 (-1 : Int32) h20 fun h21 =>
  stI 1 16 a0 (-1 : Int32) h21 fun h22 =>
  rok (1 : Int32) h22)
  else none)
  else none)
  else none)
  else none)
  else none)
  else
  (rok (0 : Int32) h2))
  else
  (rok (0 : Int32) h2))
  else none
noncomputable def f_X0_scan_l25b104 (v0 : Nat) (v3 : Nat) (ih : HP → Rs (Unit ⊕ Unit)) (h : HP) : Rs (Unit ⊕ Unit) :=
  ih  h
noncomputable def f_X0_scan_l25b73 (v0 : Nat) (v3 : Nat) (ih : HP → Rs (Unit ⊕ Unit)) (s0 : Int32) (h : HP) : Rs (Unit ⊕ Unit) :=
  if kc h v3 = 10 then
  bdc (f_X9_next v3 h) (fun _ h1 =>
  if s0 = 0 then
  (f_X0_scan_l25b104 v0 v3 ih h1)
  else
  (ldI 10 151 v3 h1 fun x3 =>
  if x3 = (1 : Int32) then
  (ldR 1 13 v0 h1 fun x4 =>
  ldR 10 154 v3 h1 fun x5 =>
  lsAdd x4 x5 h1 fun h6 =>
  f_X0_scan_l25b104 v0 v3 ih h6)
  else
  (f_X0_scan_l25b104 v0 v3 ih h1))) (fun h2 =>
  rok (Sum.inr ()) h2)
  else none
noncomputable def f_X0_scan_l25b68 (v0 : Nat) (v3 : Nat) (ih : HP → Rs (Unit ⊕ Unit)) (h : HP) : Rs (Unit ⊕ Unit) :=
  f_X0_scan_l25b73 v0 v3 ih (1 : Int32) h
noncomputable def b_X0_scan_l25 (v0 : Nat) (v3 : Nat) (ih : HP → Rs (Unit ⊕ Unit)) (h : HP) : Rs (Unit ⊕ Unit) :=
  ldI 10 151 v3 h fun x1 =>
  if x1 = 0 then
  (rok (Sum.inl ()) h)
  else
  (if kc h v3 = 10 then
  bdc (f_X9_is v3 43 h) (fun x2 h3 =>
  if x2 = 0 then
  (if kc h3 v3 = 10 then
  bdc (f_X9_is v3 59 h3) (fun x5 h6 =>
  if x5 = 0 then
  (if kc h6 v3 = 10 then
  bdc (f_X9_is v3 48 h6) (fun x8 h9 =>
  if x8 = 0 then
  (if kc h9 v3 = 10 then
  bdc (f_X9_is v3 65 h9) (fun x11 h12 =>
  if x11 = 0 then
  (f_X0_scan_l25b73 v0 v3 ih (0 : Int32) h12)
  else
  (f_X0_scan_l25b68 v0 v3 ih h12)) (fun h13 =>
  rok (Sum.inr ()) h13)
  else none)
  else
  (f_X0_scan_l25b68 v0 v3 ih h9)) (fun h10 =>
  rok (Sum.inr ()) h10)
  else none)
  else
  (f_X0_scan_l25b68 v0 v3 ih h6)) (fun h7 =>
  rok (Sum.inr ()) h7)
  else none)
  else
  (f_X0_scan_l25b68 v0 v3 ih h3)) (fun h4 =>
  rok (Sum.inr ()) h4)
  else none)
noncomputable def f_X0_scan_l25 (v0 : Nat) (v3 : Nat) (n : Nat) : HP → Rs (Unit ⊕ Unit) := @Nat.rec (fun _ => HP → Rs (Unit ⊕ Unit)) (fun _ => none) (fun _ ih => b_X0_scan_l25 v0 v3 ih) n
noncomputable def f_X0_scan (a0 : Nat) (a1 : Nat) (a2 : Int32) (h : HP) : Rs Unit :=
  ldR 1 13 a0 h fun x1 =>
  lsClr x1 h fun h2 =>
  nwO 10 8 h2 fun p3 h4 =>
  ldR 1 3 a0 h4 fun x5 =>
  if kc h4 p3 = 10 then
  bd (f_X9_init p3 a1 a2 x5 h4) (fun _ h6 =>
  if kc h6 p3 = 10 then
  bdc (f_X9_next p3 h6) (fun _ h7 =>
  bd (f_X0_scan_l25 a0 p3 NN h7) (Sum.elim (fun x10 => fun h11 => rok () h11) (fun x12 => fun h13 => stI 1 16 a0 (-1 : Int32) h13 fun h14 =>
  rok () h14))) (fun h8 =>
  stI 1 16 a0 (-1 : Int32) h8 fun h9 =>
  rok () h9)
  else none)
  else none
noncomputable def f_X11_init (a0 : Nat) (a1 : Nat) (a2 : Nat) (a3 : Nat) (a4 : Nat) (h : HP) : Rs Unit :=
  if kc h a0 = 12 then
  bd (f_X10_init a0 a1 a2 a3 h) (fun _ h1 =>
  nwC 108 3 h1 fun p2 h3 =>
  lsInitN p2 (8 : Int32) h3 fun h4 =>
  stR 12 162 a0 p2 h4 fun h5 =>
  stR 12 161 a0 a4 h5 fun h6 =>
  rok () h6)
  else none
noncomputable def f_X12_init (a0 : Nat) (a1 : Nat) (h : HP) : Rs Unit :=
  if a0 = 0 then none else (
  stR 13 164 a0 1 h fun h1 =>
  stI 13 165 a0 (-1 : Int32) h1 fun h2 =>
  nwC 112 3 h2 fun p3 h4 =>
  lsInitN p3 (2 : Int32) h4 fun h5 =>
  stR 13 166 a0 p3 h5 fun h6 =>
  nwC 111 3 h6 fun p7 h8 =>
  lsInitN p7 (2 : Int32) h8 fun h9 =>
  stR 13 167 a0 p7 h9 fun h10 =>
  nwC 110 3 h10 fun p11 h12 =>
  lsInitN p11 (8 : Int32) h12 fun h13 =>
  stR 13 168 a0 p11 h13 fun h14 =>
  nwC 109 3 h14 fun p15 h16 =>
  lsInitN p15 (4 : Int32) h16 fun h17 =>
  stR 13 169 a0 p15 h17 fun h18 =>
  stR 13 163 a0 a1 h18 fun h19 =>
  rok () h19)
noncomputable def f_X2_add (a0 : Nat) (a1 : Nat) (a2 : Nat) (h : HP) : Rs Nat :=
  nwO 4 18 h fun p1 h2 =>
  ldR 3 30 a0 h2 fun x3 =>
  lsSize x3 h2 fun x4 =>
  if kc h2 p1 = 4 then
  bd (f_X3_init p1 x4 a1 a2 0 h2) (fun _ h5 =>
  ldR 3 30 a0 h5 fun x6 =>
  lsAdd x6 p1 h5 fun h7 =>
  rok p1 h7)
  else none
noncomputable def f_X11_begin (a0 : Nat) (a1 : Nat) (a2 : Int32) (h : HP) : Rs Nat :=
  ldR 12 156 a0 h fun x1 =>
  ldI 10 152 x1 h fun x2 =>
  ldR 12 156 a0 h fun x3 =>
  if kc h x3 = 10 then
  bd (f_X9_name x3 h) (fun x4 h5 =>
  nwO 13 7 h5 fun p6 h7 =>
  ldR 12 161 a0 h7 fun x8 =>
  if kc h7 x8 = 3 then
  bd (f_X2_add x8 a1 x4 h7) (fun x9 h10 =>
  if kc h10 p6 = 13 then
  bd (f_X12_init p6 x9 h10) (fun _ h11 =>
  ldR 13 163 p6 h11 fun x12 =>
  stI 4 48 x12 x2 h11 fun h13 =>
  ldR 13 163 p6 h13 fun x14 =>
  stZ 4 38 x14 a2 h13 fun h15 =>
  ldR 12 162 a0 h15 fun x16 =>
  lsAdd x16 p6 h15 fun h17 =>
  rok p6 h17)
  else none)
  else none)
  else none
noncomputable def f_X14_init (a0 : Nat) (a1 : Nat) (a2 : Nat) (a3 : Int32) (a4 : Nat) (h : HP) : Rs Unit :=
  if a0 = 0 then none else (
  nwC 114 3 h fun p1 h2 =>
  lsInitN p1 (4 : Int32) h2 fun h3 =>
  stR 15 178 a0 p1 h3 fun h4 =>
  nwC 113 3 h4 fun p5 h6 =>
  lsInitN p5 (4 : Int32) h6 fun h7 =>
  stR 15 179 a0 p5 h7 fun h8 =>
  stR 15 174 a0 a1 h8 fun h9 =>
  stR 15 175 a0 a2 h9 fun h10 =>
  stI 15 176 a0 a3 h10 fun h11 =>
  stR 15 177 a0 a4 h11 fun h12 =>
  rok () h12)
noncomputable def f_X30_init (a0 : Nat) (a1 : Nat) (a2 : Nat) (a3 : Int32) (a4 : Int32) (a5 : Int32) (h : HP) : Rs Unit :=
  if a0 = 0 then none else (
  nwC 116 3 h fun p1 h2 =>
  lsInitN p1 (4 : Int32) h2 fun h3 =>
  stR 30 230 a0 p1 h3 fun h4 =>
  nwC 115 3 h4 fun p5 h6 =>
  lsInitN p5 (4 : Int32) h6 fun h7 =>
  stR 30 231 a0 p5 h7 fun h8 =>
  stR 30 224 a0 a1 h8 fun h9 =>
  stR 30 225 a0 a2 h9 fun h10 =>
  stI 30 226 a0 a3 h10 fun h11 =>
  stI 30 227 a0 a4 h11 fun h12 =>
  stI 30 228 a0 a5 h12 fun h13 =>
  rok () h13)
noncomputable def b_X11_member_l268 (v0 : Nat) (v1 : Nat) (v3 : Int32) (v4 : Int32) (v5 : Int32) (v7 : Nat) (v8 : Int32) (v9 : Nat) (v11 : Nat) (v12 : Nat) (v13 : Nat) (ih : Int32 → HP → Rs (Unit ⊕ Unit)) (a14 : Int32) (h : HP) : Rs (Unit ⊕ Unit) :=
  if a14 = 0 then
  (rok (Sum.inr ()) h)
  else
  (lsSize v11 h fun x1 =>
  if x1 = (8 : Int32) then
  (rok (Sum.inl ()) h)
  else
  (if kc h v0 ∈ [12] then
  bd (f_X10_type v0 h) (fun x2 h3 =>
  lsAdd v11 x2 h3 fun h4 =>
  ldR 12 156 v0 h4 fun x5 =>
  ldI 10 152 x5 h4 fun x6 =>
  ivOf x6 h4 fun x7 h8 =>
  lsAdd v13 x7 h8 fun h9 =>
  ldR 12 156 v0 h9 fun x10 =>
  if kc h9 x10 = 10 then
  bd (f_X9_name x10 h9) (fun x11 h12 =>
  lsAdd v12 x11 h12 fun h13 =>
  ldR 12 156 v0 h13 fun x14 =>
  if kc h13 x14 = 10 then
  bd (f_X9_accept x14 13 h13) (fun x15 h16 =>
  ih x15 h16)
  else none)
  else none)
  else none))
noncomputable def f_X11_member_l268 (v0 : Nat) (v1 : Nat) (v3 : Int32) (v4 : Int32) (v5 : Int32) (v7 : Nat) (v8 : Int32) (v9 : Nat) (v11 : Nat) (v12 : Nat) (v13 : Nat) (n : Nat) : Int32 → HP → Rs (Unit ⊕ Unit) := @Nat.rec (fun _ => Int32 → HP → Rs (Unit ⊕ Unit)) (fun _ _ => none) (fun _ ih => b_X11_member_l268 v0 v1 v3 v4 v5 v7 v8 v9 v11 v12 v13 ih) n
noncomputable def b_X11_member_l484 (v11 : Nat) (v12 : Nat) (v13 : Nat) (v17 : Nat) (v18 : Nat) (ih : Int32 → HP → Rs Unit) (a19 : Int32) (h : HP) : Rs Unit :=
  lsSize v11 h fun x1 =>
  if x1 ≤ a19 then
  (rok () h)
  else
  (ldR 15 178 v18 h fun x2 =>
  lsGet v11 a19 h fun x3 =>
  castR [14] x3 h (
  lsAdd x2 x3 h fun h4 =>
  ldR 15 179 v18 h4 fun x5 =>
  lsGet v13 a19 h4 fun x6 =>
  castR [73] x6 h4 (
  lsAdd x5 x6 h4 fun h7 =>
  ldR 30 231 v17 h7 fun x8 =>
  lsGet v12 a19 h7 fun x9 =>
  castR [71] x9 h7 (
  lsAdd x8 x9 h7 fun h10 =>
  lt3 (a19 + 1) fun x11 =>
  ih x11 h10))))
noncomputable def f_X11_member_l484 (v11 : Nat) (v12 : Nat) (v13 : Nat) (v17 : Nat) (v18 : Nat) (n : Nat) : Int32 → HP → Rs Unit := @Nat.rec (fun _ => Int32 → HP → Rs Unit) (fun _ _ => none) (fun _ ih => b_X11_member_l484 v11 v12 v13 v17 v18 ih) n
noncomputable def f_X11_member_b423 (a1 : Nat) (a3 : Int32) (a4 : Int32) (a5 : Int32) (a7 : Nat) (a8 : Int32) (a9 : Nat) (a11 : Nat) (a12 : Nat) (a13 : Nat) (a15 : Int32) (a16 : Nat) (h : HP) : Rs Nat :=
  nwO 30 10 h fun p1 h2 =>
  ldR 13 163 a1 h2 fun x3 =>
  if kc h2 p1 = 30 then
  bd (f_X30_init p1 a9 x3 a3 a8 a15 h2) (fun _ h4 =>
  stR 30 232 p1 a16 h4 fun h5 =>
  nwO 15 8 h5 fun p6 h7 =>
  if kc h7 p6 = 15 then
  bd (f_X14_init p6 a7 a9 a8 p1 h7) (fun _ h8 =>
  stZ 15 180 p6 a4 h8 fun h9 =>
  stZ 15 181 p6 a5 h9 fun h10 =>
  bd (f_X11_member_l484 a11 a12 a13 p1 p6 NN (0 : Int32) h10) (fun x11 h12 => rok p6 h12))
  else none)
  else none
noncomputable def f_X11_member_b266 (a0 : Nat) (a1 : Nat) (a3 : Int32) (a4 : Int32) (a5 : Int32) (a7 : Nat) (a8 : Int32) (a9 : Nat) (a11 : Nat) (a12 : Nat) (a13 : Nat) (s0 : Int32) (h : HP) : Rs Nat :=
  bd (f_X11_member_l268 a0 a1 a3 a4 a5 a7 a8 a9 a11 a12 a13 NN s0 h) (Sum.elim (fun x1 => fun h2 => ldR 12 156 a0 h2 fun x3 =>
  if kc h2 x3 = 10 then
  bd (f_X9_wrong x3 h2) (fun x4 h5 =>
  if kc h5 x4 = 69 then rex h5 else none)
  else none) (fun x6 => fun h7 => ldR 12 156 a0 h7 fun x8 =>
  if kc h7 x8 = 10 then
  bd (f_X9_expect x8 10 h7) (fun _ h9 =>
  ldR 12 156 a0 h9 fun x10 =>
  if kc h9 x10 = 10 then
  bd (f_X9_accept x10 18 h9) (fun x11 h12 =>
  if x11 = 0 then
  (ldR 12 156 a0 h12 fun x13 =>
  if kc h12 x13 = 10 then
  bd (f_X9_expect x13 72 h12) (fun _ h14 =>
  ldR 12 156 a0 h14 fun x15 =>
  ldI 10 152 x15 h14 fun x16 =>
  ldR 12 156 a0 h14 fun x17 =>
  if kc h14 x17 = 10 then
  bd (f_X9_expect x17 66 h14) (fun _ h18 =>
  if kc h18 a0 ∈ [12] then
  bd (f_X10_expression 520 a0 (1 : Int32) h18) (fun x19 h20 =>
  ldR 12 156 a0 h20 fun x21 =>
  if kc h20 x21 = 10 then
  bd (f_X9_expect x21 18 h20) (fun _ h22 =>
  ldR 12 156 a0 h22 fun x23 =>
  if kc h22 x23 = 10 then
  bd (f_X9_expect x23 76 h22) (fun _ h24 =>
  f_X11_member_b423  a1 a3 a4 a5 a7 a8 a9 a11 a12 a13 x16 x19 h24)
  else none)
  else none)
  else none)
  else none)
  else none)
  else
  (f_X11_member_b423  a1 a3 a4 a5 a7 a8 a9 a11 a12 a13 (-1 : Int32) 0 h12))
  else none)
  else none))
noncomputable def f_X11_member_b176 (a0 : Nat) (a1 : Nat) (a2 : Int32) (a3 : Int32) (a4 : Int32) (a5 : Int32) (a7 : Nat) (a8 : Int32) (a9 : Nat) (h : HP) : Rs Nat :=
  ldR 12 156 a0 h fun x1 =>
  if kc h x1 = 10 then
  bd (f_X9_is x1 9 h) (fun x2 h3 =>
  if x2 = 0 then
  (ldR 12 156 a0 h3 fun x21 =>
  if kc h3 x21 = 10 then
  bd (f_X9_wrong x21 h3) (fun x22 h23 =>
  if kc h23 x22 = 69 then rex h23 else none)
  else none)
  else
  (if a2 = (20 : Int32) then
  (ldR 12 157 a0 h3 fun x18 =>
  if kc h3 x18 = 2 then
  bd (f_X1_at x18 (1 : Int32) a3 h3) (fun x19 h20 =>
  if kc h20 x19 = 69 then rex h20 else none)
  else none)
  else
  (ldR 12 156 a0 h3 fun x4 =>
  if kc h3 x4 = 10 then
  bd (f_X9_next x4 h3) (fun _ h5 =>
  nwC 119 3 h5 fun p6 h7 =>
  lsInitN p6 (4 : Int32) h7 fun h8 =>
  nwC 118 3 h8 fun p9 h10 =>
  lsInitN p9 (4 : Int32) h10 fun h11 =>
  nwC 117 3 h11 fun p12 h13 =>
  lsInitN p12 (4 : Int32) h13 fun h14 =>
  ldR 12 156 a0 h14 fun x15 =>
  if kc h14 x15 = 10 then
  bd (f_X9_is x15 10 h14) (fun x16 h17 =>
  if x16 = 0 then
  (f_X11_member_b266  a0 a1 a3 a4 a5 a7 a8 a9 p6 p9 p12 (1 : Int32) h17)
  else
  (f_X11_member_b266  a0 a1 a3 a4 a5 a7 a8 a9 p6 p9 p12 (0 : Int32) h17))
  else none)
  else none)))
  else none
noncomputable def f_X11_member_b142 (a0 : Nat) (a1 : Nat) (a2 : Int32) (a3 : Int32) (a4 : Int32) (a5 : Int32) (a7 : Nat) (a8 : Int32) (a9 : Nat) (s0 : Int32) (h : HP) : Rs Nat :=
  if s0 = 0 then
  (f_X11_member_b176  a0 a1 a2 a3 a4 a5 a7 a8 a9 h)
  else
  (ldR 12 156 a0 h fun x1 =>
  if kc h x1 = 10 then
  bd (f_X9_accept x1 18 h) (fun x2 h3 =>
  if x2 = 0 then
  (f_X11_member_b176  a0 a1 a2 a3 a4 a5 a7 a8 a9 h3)
  else
  (nwO 15 8 h3 fun p4 h5 =>
  if kc h5 p4 = 15 then
  bd (f_X14_init p4 a7 a9 a8 0 h5) (fun _ h6 =>
  rok p4 h6)
  else none))
  else none)
noncomputable def f_X11_member_b141 (a0 : Nat) (a1 : Nat) (a2 : Int32) (a3 : Int32) (a4 : Int32) (a5 : Int32) (a7 : Nat) (a8 : Int32) (a9 : Nat) (h : HP) : Rs Nat :=
  f_X11_member_b142  a0 a1 a2 a3 a4 a5 a7 a8 a9 (0 : Int32) h
noncomputable def f_X11_member_b90 (a0 : Nat) (a1 : Nat) (a2 : Int32) (a3 : Int32) (a4 : Int32) (a5 : Int32) (h : HP) : Rs Nat :=
  if kc h a0 ∈ [12] then
  bd (f_X10_type a0 h) (fun x1 h2 =>
  ldR 12 156 a0 h2 fun x3 =>
  ldI 10 152 x3 h2 fun x4 =>
  ldR 12 156 a0 h2 fun x5 =>
  if kc h2 x5 = 10 then
  bd (f_X9_name x5 h2) (fun x6 h7 =>
  if a4 = 0 then
  (if a5 = 0 then
  (ldR 13 163 a1 h7 fun x8 =>
  ldR 4 32 x8 h7 fun x9 =>
  eqS x9 903
  (f_X11_member_b142  a0 a1 a2 a3 a4 a5 x1 x4 x6 (1 : Int32) h7)
  (f_X11_member_b141  a0 a1 a2 a3 a4 a5 x1 x4 x6 h7))
  else
  (f_X11_member_b141  a0 a1 a2 a3 a4 a5 x1 x4 x6 h7))
  else
  (f_X11_member_b141  a0 a1 a2 a3 a4 a5 x1 x4 x6 h7))
  else none)
  else none
noncomputable def f_X11_member_b83 (a0 : Nat) (a1 : Nat) (a2 : Int32) (a3 : Int32) (a4 : Int32) (a5 : Int32) (h : HP) : Rs Nat :=
  ldR 12 156 a0 h fun x1 =>
  if kc h x1 = 10 then
  bd (f_X9_next x1 h) (fun _ h2 =>
  f_X11_member_b90  a0 a1 a2 a3 a4 a5 h2)
  else none
noncomputable def f_X11_member_b73 (a0 : Nat) (a1 : Nat) (a2 : Int32) (a3 : Int32) (a4 : Int32) (a5 : Int32) (h : HP) : Rs Nat :=
  if a4 = 0 then
  (if a5 = 0 then
  (f_X11_member_b90  a0 a1 a2 a3 a4 a5 h)
  else
  (f_X11_member_b83  a0 a1 a2 a3 a4 a5 h))
  else
  (f_X11_member_b83  a0 a1 a2 a3 a4 a5 h)
noncomputable def f_X11_member_b50 (a0 : Nat) (a1 : Nat) (a2 : Int32) (a3 : Int32) (a4 : Int32) (a5 : Int32) (s0 : Int32) (h : HP) : Rs Nat :=
  if s0 = 0 then
  (f_X11_member_b73  a0 a1 a2 a3 a4 a5 h)
  else
  (if a2 = (20 : Int32) then
  (ldR 12 157 a0 h fun x1 =>
  if kc h x1 = 2 then
  bd (f_X1_at x1 (1 : Int32) a3 h) (fun x2 h3 =>
  if kc h3 x2 = 69 then rex h3 else none)
  else none)
  else
  (f_X11_member_b73  a0 a1 a2 a3 a4 a5 h))
noncomputable def f_X11_member_b45 (a0 : Nat) (a1 : Nat) (a2 : Int32) (a3 : Int32) (a4 : Int32) (a5 : Int32) (h : HP) : Rs Nat :=
  f_X11_member_b50  a0 a1 a2 a3 a4 a5 (1 : Int32) h
noncomputable def f_X11_member (a0 : Nat) (a1 : Nat) (a2 : Int32) (a3 : Int32) (h : HP) : Rs Nat :=
  ldR 12 156 a0 h fun x1 =>
  if kc h x1 = 10 then
  bd (f_X9_is x1 36 h) (fun x2 h3 =>
  ldR 12 156 a0 h3 fun x4 =>
  if kc h3 x4 = 10 then
  bd (f_X9_is x4 45 h3) (fun x5 h6 =>
  if x2 = 0 then
  (if x5 = 0 then
  (ldR 13 163 a1 h6 fun x7 =>
  ldR 4 32 x7 h6 fun x8 =>
  eqS x8 903
  (f_X11_member_b50  a0 a1 a2 a3 x2 x5 (0 : Int32) h6)
  (f_X11_member_b45  a0 a1 a2 a3 x2 x5 h6))
  else
  (f_X11_member_b45  a0 a1 a2 a3 x2 x5 h6))
  else
  (f_X11_member_b45  a0 a1 a2 a3 x2 x5 h6))
  else none)
  else none
noncomputable def f_X11_body_l11b61 (v0 : Nat) (v1 : Nat) (ih : Int32 → HP → Rs Unit) (a2 : Int32) (h : HP) : Rs Unit :=
  ih a2 h
noncomputable def b_X11_body_l11 (v0 : Nat) (v1 : Nat) (ih : Int32 → HP → Rs Unit) (a2 : Int32) (h : HP) : Rs Unit :=
  ldR 12 156 v0 h fun x1 =>
  if kc h x1 = 10 then
  bd (f_X9_is x1 76 h) (fun x2 h3 =>
  if x2 = 0 then
  (ldR 12 156 v0 h3 fun x4 =>
  ldI 10 152 x4 h3 fun x5 =>
  if kc h3 v0 = 12 then
  bd (f_X11_member v0 v1 a2 x5 h3) (fun x6 h7 =>
  ldR 13 168 v1 h7 fun x8 =>
  lsAdd x8 x6 h7 fun h9 =>
  ldR 15 177 x6 h9 fun x10 =>
  if x10 = 0 then
  (f_X11_body_l11b61 v0 v1 ih a2 h9)
  else
  (lt3 (a2 + 1) fun x11 =>
  f_X11_body_l11b61 v0 v1 ih x11 h9))
  else none)
  else
  (rok () h3))
  else none
noncomputable def f_X11_body_l11 (v0 : Nat) (v1 : Nat) (n : Nat) : Int32 → HP → Rs Unit := @Nat.rec (fun _ => Int32 → HP → Rs Unit) (fun _ _ => none) (fun _ ih => b_X11_body_l11 v0 v1 ih) n
noncomputable def f_X11_body (a0 : Nat) (a1 : Nat) (h : HP) : Rs Unit :=
  ldR 12 156 a0 h fun x1 =>
  if kc h x1 = 10 then
  bd (f_X9_expect x1 72 h) (fun _ h2 =>
  bd (f_X11_body_l11 a0 a1 NN (0 : Int32) h2) (fun x3 h4 => ldR 12 156 a0 h4 fun x5 =>
  if kc h4 x5 = 10 then
  bd (f_X9_next x5 h4) (fun _ h6 =>
  rok () h6)
  else none))
  else none
noncomputable def b_X11_components_l27 (v0 : Nat) (v1 : Nat) (ih : Int32 → HP → Rs Unit) (a2 : Int32) (h : HP) : Rs Unit :=
  if a2 = 0 then
  (rok () h)
  else
  (if kc h v0 ∈ [12] then
  bd (f_X10_type v0 h) (fun x1 h2 =>
  ldR 12 156 v0 h2 fun x3 =>
  ldI 10 152 x3 h2 fun x4 =>
  ldR 13 168 v1 h2 fun x5 =>
  nwO 15 8 h2 fun p6 h7 =>
  ldR 12 156 v0 h7 fun x8 =>
  if kc h7 x8 = 10 then
  bd (f_X9_name x8 h7) (fun x9 h10 =>
  if kc h10 p6 = 15 then
  bd (f_X14_init p6 x1 x9 x4 0 h10) (fun _ h11 =>
  lsAdd x5 p6 h11 fun h12 =>
  ldR 12 156 v0 h12 fun x13 =>
  if kc h12 x13 = 10 then
  bd (f_X9_accept x13 13 h12) (fun x14 h15 =>
  ih x14 h15)
  else none)
  else none)
  else none)
  else none)
noncomputable def f_X11_components_l27 (v0 : Nat) (v1 : Nat) (n : Nat) : Int32 → HP → Rs Unit := @Nat.rec (fun _ => Int32 → HP → Rs Unit) (fun _ _ => none) (fun _ ih => b_X11_components_l27 v0 v1 ih) n
noncomputable def f_X11_components_b26 (a0 : Nat) (a1 : Nat) (s0 : Int32) (h : HP) : Rs Unit :=
  bd (f_X11_components_l27 a0 a1 NN s0 h) (fun x1 h2 => ldR 12 156 a0 h2 fun x3 =>
  if kc h2 x3 = 10 then
  bd (f_X9_expect x3 10 h2) (fun _ h4 =>
  rok () h4)
  else none)
noncomputable def f_X11_components (a0 : Nat) (a1 : Nat) (h : HP) : Rs Unit :=
  ldR 12 156 a0 h fun x1 =>
  if kc h x1 = 10 then
  bd (f_X9_expect x1 9 h) (fun _ h2 =>
  ldR 12 156 a0 h2 fun x3 =>
  if kc h2 x3 = 10 then
  bd (f_X9_is x3 10 h2) (fun x4 h5 =>
  if x4 = 0 then
  (f_X11_components_b26  a0 a1 (1 : Int32) h5)
  else
  (f_X11_components_b26  a0 a1 (0 : Int32) h5))
  else none)
  else none
noncomputable def b_X11_enumeration_l9 (v0 : Nat) (v1 : Nat) (ih : HP → Rs (Unit ⊕ Unit)) (h : HP) : Rs (Unit ⊕ Unit) :=
  ldR 13 169 v1 h fun x1 =>
  lsSize x1 h fun x2 =>
  if x2 = (40 : Int32) then
  (rok (Sum.inl ()) h)
  else
  (ldR 13 169 v1 h fun x3 =>
  ldR 12 156 v0 h fun x4 =>
  ldI 10 152 x4 h fun x5 =>
  ivOf x5 h fun x6 h7 =>
  lsAdd x3 x6 h7 fun h8 =>
  ldR 13 163 v1 h8 fun x9 =>
  ldR 4 46 x9 h8 fun x10 =>
  ldR 12 156 v0 h8 fun x11 =>
  if kc h8 x11 = 10 then
  bd (f_X9_name x11 h8) (fun x12 h13 =>
  lsAdd x10 x12 h13 fun h14 =>
  ldR 12 156 v0 h14 fun x15 =>
  if kc h14 x15 = 10 then
  bd (f_X9_accept x15 13 h14) (fun x16 h17 =>
  if x16 = 0 then
  (rok (Sum.inr ()) h17)
  else
  (ih  h17))
  else none)
  else none)
noncomputable def f_X11_enumeration_l9 (v0 : Nat) (v1 : Nat) (n : Nat) : HP → Rs (Unit ⊕ Unit) := @Nat.rec (fun _ => HP → Rs (Unit ⊕ Unit)) (fun _ => none) (fun _ ih => b_X11_enumeration_l9 v0 v1 ih) n
noncomputable def f_X11_enumeration (a0 : Nat) (a1 : Nat) (h : HP) : Rs Unit :=
  ldR 12 156 a0 h fun x1 =>
  if kc h x1 = 10 then
  bd (f_X9_expect x1 72 h) (fun _ h2 =>
  bd (f_X11_enumeration_l9 a0 a1 NN h2) (Sum.elim (fun x3 => fun h4 => ldR 12 156 a0 h4 fun x5 =>
  if kc h4 x5 = 10 then
  bd (f_X9_wrong x5 h4) (fun x6 h7 =>
  if kc h7 x6 = 69 then rex h7 else none)
  else none) (fun x8 => fun h9 => ldR 12 156 a0 h9 fun x10 =>
  if kc h9 x10 = 10 then
  bd (f_X9_expect x10 76 h9) (fun _ h11 =>
  rok () h11)
  else none)))
  else none
noncomputable def b_X11_faces_l0 (v0 : Nat) (v1 : Nat) (ih : HP → Rs Unit) (h : HP) : Rs Unit :=
  ldR 13 167 v1 h fun x1 =>
  ldR 12 156 v0 h fun x2 =>
  ldI 10 152 x2 h fun x3 =>
  ivOf x3 h fun x4 h5 =>
  lsAdd x1 x4 h5 fun h6 =>
  ldR 13 166 v1 h6 fun x7 =>
  ldR 12 156 v0 h6 fun x8 =>
  if kc h6 x8 = 10 then
  bd (f_X9_name x8 h6) (fun x9 h10 =>
  lsAdd x7 x9 h10 fun h11 =>
  ldR 12 156 v0 h11 fun x12 =>
  if kc h11 x12 = 10 then
  bd (f_X9_accept x12 13 h11) (fun x13 h14 =>
  if x13 = 0 then
  (rok () h14)
  else
  (ih  h14))
  else none)
  else none
noncomputable def f_X11_faces_l0 (v0 : Nat) (v1 : Nat) (n : Nat) : HP → Rs Unit := @Nat.rec (fun _ => HP → Rs Unit) (fun _ => none) (fun _ ih => b_X11_faces_l0 v0 v1 ih) n
noncomputable def f_X11_faces (a0 : Nat) (a1 : Nat) (h : HP) : Rs Unit :=
  ldR 13 167 a1 h fun x1 =>
  ldR 12 156 a0 h fun x2 =>
  ldI 10 152 x2 h fun x3 =>
  ivOf x3 h fun x4 h5 =>
  lsAdd x1 x4 h5 fun h6 =>
  ldR 13 166 a1 h6 fun x7 =>
  ldR 12 156 a0 h6 fun x8 =>
  if kc h6 x8 = 10 then
  bd (f_X9_name x8 h6) (fun x9 h10 =>
  lsAdd x7 x9 h10 fun h11 =>
  ldR 12 156 a0 h11 fun x12 =>
  if kc h11 x12 = 10 then
  bd (f_X9_accept x12 13 h11) (fun x13 h14 =>
  if x13 = 0 then
  (rok () h14)
  else
  (bd (f_X11_faces_l0 a0 a1 NN h14) (fun x15 h16 => rok () h16)))
  else none)
  else none
noncomputable def f_X11_declaration_b186 (a0 : Nat) (a2 : Nat) (h : HP) : Rs Unit :=
  ldR 12 156 a0 h fun x1 =>
  if kc h x1 = 10 then
  bd (f_X9_accept x1 55 h) (fun x2 h3 =>
  if x2 = 0 then
  (if kc h3 a0 = 12 then
  bd (f_X11_body a0 a2 h3) (fun _ h4 =>
  rok () h4)
  else none)
  else
  (if kc h3 a0 = 12 then
  bd (f_X11_faces a0 a2 h3) (fun _ h5 =>
  if kc h5 a0 = 12 then
  bd (f_X11_body a0 a2 h5) (fun _ h6 =>
  rok () h6)
  else none)
  else none))
  else none
noncomputable def f_X11_declaration (a0 : Nat) (h : HP) : Rs Unit :=
  ldR 12 156 a0 h fun x1 =>
  if kc h x1 = 10 then
  bd (f_X9_accept x1 59 h) (fun x2 h3 =>
  if x2 = 0 then
  (ldR 12 156 a0 h3 fun x4 =>
  if kc h3 x4 = 10 then
  bd (f_X9_accept x4 48 h3) (fun x5 h6 =>
  if x5 = 0 then
  (ldR 12 156 a0 h6 fun x7 =>
  if kc h6 x7 = 10 then
  bd (f_X9_accept x7 65 h6) (fun x8 h9 =>
  if x8 = 0 then
  (ldR 12 156 a0 h9 fun x10 =>
  if kc h9 x10 = 10 then
  bd (f_X9_accept x10 36 h9) (fun x11 h12 =>
  ldR 12 156 a0 h12 fun x13 =>
  if kc h12 x13 = 10 then
  bd (f_X9_expect x13 43 h12) (fun _ h14 =>
  if kc h14 a0 = 12 then
  bd (f_X11_begin a0 903 x11 h14) (fun x15 h16 =>
  ldR 12 156 a0 h16 fun x17 =>
  if kc h16 x17 = 10 then
  bd (f_X9_accept x17 50 h16) (fun x18 h19 =>
  if x18 = 0 then
  (f_X11_declaration_b186  a0 x15 h19)
  else
  (ldR 12 156 a0 h19 fun x20 =>
  ldI 10 152 x20 h19 fun x21 =>
  stI 13 165 x15 x21 h19 fun h22 =>
  ldR 12 156 a0 h22 fun x23 =>
  if kc h22 x23 = 10 then
  bd (f_X9_name x23 h22) (fun x24 h25 =>
  stR 13 164 x15 x24 h25 fun h26 =>
  f_X11_declaration_b186  a0 x15 h26)
  else none))
  else none)
  else none)
  else none)
  else none)
  else
  (if kc h9 a0 = 12 then
  bd (f_X11_begin a0 905 (0 : Int32) h9) (fun x27 h28 =>
  if kc h28 a0 = 12 then
  bd (f_X11_components a0 x27 h28) (fun _ h29 =>
  ldR 12 156 a0 h29 fun x30 =>
  if kc h29 x30 = 10 then
  bd (f_X9_accept x30 55 h29) (fun x31 h32 =>
  if x31 = 0 then
  (if kc h32 a0 = 12 then
  bd (f_X11_body a0 x27 h32) (fun _ h33 =>
  rok () h33)
  else none)
  else
  (if kc h32 a0 = 12 then
  bd (f_X11_faces a0 x27 h32) (fun _ h34 =>
  if kc h34 a0 = 12 then
  bd (f_X11_body a0 x27 h34) (fun _ h35 =>
  rok () h35)
  else none)
  else none))
  else none)
  else none)
  else none))
  else none)
  else
  (if kc h6 a0 = 12 then
  bd (f_X11_begin a0 906 (0 : Int32) h6) (fun x36 h37 =>
  if kc h37 a0 = 12 then
  bd (f_X11_enumeration a0 x36 h37) (fun _ h38 =>
  rok () h38)
  else none)
  else none))
  else none)
  else
  (if kc h3 a0 = 12 then
  bd (f_X11_begin a0 904 (1 : Int32) h3) (fun x39 h40 =>
  ldR 12 156 a0 h40 fun x41 =>
  if kc h40 x41 = 10 then
  bd (f_X9_accept x41 50 h40) (fun x42 h43 =>
  if x42 = 0 then
  (if kc h43 a0 = 12 then
  bd (f_X11_body a0 x39 h43) (fun _ h44 =>
  rok () h44)
  else none)
  else
  (if kc h43 a0 = 12 then
  bd (f_X11_faces a0 x39 h43) (fun _ h45 =>
  if kc h45 a0 = 12 then
  bd (f_X11_body a0 x39 h45) (fun _ h46 =>
  rok () h46)
  else none)
  else none))
  else none)
  else none))
  else none
noncomputable def b_X11_read_l7 (v0 : Nat) (ih : HP → Rs (Unit ⊕ Unit)) (h : HP) : Rs (Unit ⊕ Unit) :=
  ldR 12 156 v0 h fun x1 =>
  ldI 10 151 x1 h fun x2 =>
  if x2 = 0 then
  (rok (Sum.inr ()) h)
  else
  (ldR 12 162 v0 h fun x3 =>
  lsSize x3 h fun x4 =>
  if x4 = (60 : Int32) then
  (rok (Sum.inl ()) h)
  else
  (if kc h v0 = 12 then
  bd (f_X11_declaration v0 h) (fun _ h5 =>
  ih  h5)
  else none))
noncomputable def f_X11_read_l7 (v0 : Nat) (n : Nat) : HP → Rs (Unit ⊕ Unit) := @Nat.rec (fun _ => HP → Rs (Unit ⊕ Unit)) (fun _ => none) (fun _ ih => b_X11_read_l7 v0 ih) n
noncomputable def f_X11_read (a0 : Nat) (h : HP) : Rs Unit :=
  ldR 12 156 a0 h fun x1 =>
  if kc h x1 = 10 then
  bd (f_X9_next x1 h) (fun _ h2 =>
  bd (f_X11_read_l7 a0 NN h2) (Sum.elim (fun x3 => fun h4 => ldR 12 156 a0 h4 fun x5 =>
  if kc h4 x5 = 10 then
  bd (f_X9_wrong x5 h4) (fun x6 h7 =>
  if kc h7 x6 = 69 then rex h7 else none)
  else none) (fun x8 => fun h9 => rok () h9)))
  else none
noncomputable def f_X11_wrong (a0 : Nat) (a1 : Int32) (h : HP) : Rs Nat :=
  ldR 12 157 a0 h fun x1 =>
  if kc h x1 = 2 then
  bd (f_X1_at x1 (2 : Int32) a1 h) (fun x2 h3 =>
  rok x2 h3)
  else none
noncomputable def b_X11_bodies_l77 (v0 : Nat) (v1 : Nat) (v2 : Int32) (v3 : Nat) (v4 : Nat) (ih : Int32 → HP → Rs Unit) (a5 : Int32) (h : HP) : Rs Unit :=
  ldR 30 230 v3 h fun x1 =>
  lsSize x1 h fun x2 =>
  if x2 ≤ a5 then
  (rok () h)
  else
  (ldR 30 231 v3 h fun x3 =>
  lsGet x3 a5 h fun x4 =>
  castR [71] x4 h (
  ldR 30 230 v3 h fun x5 =>
  lsGet x5 a5 h fun x6 =>
  castR [4] x6 h (
  if kc h v4 = 32 then
  bd (f_X32_push v4 x4 x6 h) (fun x7 h8 =>
  lt3 (a5 + 1) fun x9 =>
  ih x9 h8)
  else none)))
noncomputable def f_X11_bodies_l77 (v0 : Nat) (v1 : Nat) (v2 : Int32) (v3 : Nat) (v4 : Nat) (n : Nat) : Int32 → HP → Rs Unit := @Nat.rec (fun _ => Int32 → HP → Rs Unit) (fun _ _ => none) (fun _ ih => b_X11_bodies_l77 v0 v1 v2 v3 v4 ih) n
noncomputable def f_X11_bodies_l2b166 (v0 : Nat) (v1 : Nat) (ih : Int32 → HP → Rs (Nat ⊕ Nat ⊕ Unit)) (a2 : Int32) (h : HP) : Rs (Nat ⊕ Nat ⊕ Unit) :=
  lt3 (a2 + 1) fun x1 =>
  ih x1 h
noncomputable def b_X11_bodies_l2 (v0 : Nat) (v1 : Nat) (ih : Int32 → HP → Rs (Nat ⊕ Nat ⊕ Unit)) (a2 : Int32) (h : HP) : Rs (Nat ⊕ Nat ⊕ Unit) :=
  ldR 4 45 v1 h fun x1 =>
  lsSize x1 h fun x2 =>
  if x2 ≤ a2 then
  (rok (Sum.inr (Sum.inr ())) h)
  else
  (ldR 4 45 v1 h fun x3 =>
  lsGet x3 a2 h fun x4 =>
  castR [30] x4 h (
  if kc h x4 = 30 then
  bd (f_X30_hasBody x4 h) (fun x5 h6 =>
  if x5 = 0 then
  (f_X11_bodies_l2b166 v0 v1 ih a2 h6)
  else
  (ldR 30 232 x4 h6 fun x7 =>
  ldMI ksNode 184 x7 h6 fun x8 =>
  if x8 ≤ (30 : Int32) then
  (nwO 32 6 h6 fun p9 h10 =>
  ldR 12 161 v0 h10 fun x11 =>
  ldR 12 157 v0 h10 fun x12 =>
  if kc h10 p9 = 32 then
  bd (f_X32_init p9 x11 v1 x12 h10) (fun _ h13 =>
  bd (f_X11_bodies_l77 v0 v1 a2 x4 p9 NN (0 : Int32) h13) (fun x14 h15 => ldR 30 232 x4 h15 fun x16 =>
  bd (dsp (kc h15 x16) [(16, f_X16_check 200 x16 p9), (17, f_X17_check x16 p9), (18, f_X18_check x16 p9), (19, f_X19_check x16 p9), (20, f_X20_check 200 x16 p9), (21, f_X21_check x16 p9), (22, f_X22_check 200 x16 p9), (23, f_X23_check 200 x16 p9), (24, f_X24_check 200 x16 p9), (25, f_X25_check 200 x16 p9), (27, f_X27_check 200 x16 p9), (28, f_X28_check 200 x16 p9), (29, f_X29_check 200 x16 p9)] h15) (fun _ h17 =>
  ldR 30 232 x4 h17 fun x18 =>
  ldR 30 229 x4 h17 fun x19 =>
  if kc h17 x18 ∈ [16, 17, 18, 19, 20, 21, 22, 23, 24, 25, 27, 28, 29] then
  bd (f_X15_fits x18 x19 h17) (fun x20 h21 =>
  if x20 = 0 then
  (rok (Sum.inr (Sum.inl x4)) h21)
  else
  (ldI 32 242 p9 h21 fun x22 =>
  stI 30 233 x4 x22 h21 fun h23 =>
  f_X11_bodies_l2b166 v0 v1 ih a2 h23))
  else none)))
  else none)
  else
  (rok (Sum.inl x4) h6)))
  else none))
noncomputable def f_X11_bodies_l2 (v0 : Nat) (v1 : Nat) (n : Nat) : Int32 → HP → Rs (Nat ⊕ Nat ⊕ Unit) := @Nat.rec (fun _ => Int32 → HP → Rs (Nat ⊕ Nat ⊕ Unit)) (fun _ _ => none) (fun _ ih => b_X11_bodies_l2 v0 v1 ih) n
noncomputable def f_X11_bodies (a0 : Nat) (a1 : Nat) (h : HP) : Rs Unit :=
  bd (f_X11_bodies_l2 a0 a1 NN (0 : Int32) h) (Sum.elim (fun x1 => fun h2 => ldI 30 228 x1 h2 fun x3 =>
  if kc h2 a0 = 12 then
  bd (f_X11_wrong a0 x3 h2) (fun x4 h5 =>
  if kc h5 x4 = 69 then rex h5 else none)
  else none) (Sum.elim (fun x6 => fun h7 => ldI 30 228 x6 h7 fun x8 =>
  if kc h7 a0 = 12 then
  bd (f_X11_wrong a0 x8 h7) (fun x9 h10 =>
  if kc h10 x9 = 69 then rex h10 else none)
  else none) (fun x11 => fun h12 => rok () h12)))
noncomputable def f_X2_size (a0 : Nat) (h : HP) : Rs Int32 :=
  ldR 3 30 a0 h fun x1 =>
  lsSize x1 h fun x2 =>
  rok x2 h
noncomputable def b_X11_close_l66 (v0 : Nat) (v1 : Int32) (v2 : Int32) (v3 : Nat) (ih : Int32 → HP → Rs Unit) (a4 : Int32) (h : HP) : Rs Unit :=
  ldR 4 41 v3 h fun x1 =>
  lsSize x1 h fun x2 =>
  if x2 ≤ a4 then
  (rok () h)
  else
  (ldR 4 42 v3 h fun x3 =>
  ldR 4 41 v3 h fun x4 =>
  lsGet x4 a4 h fun x5 =>
  castR [4] x5 h (
  ldI 4 31 x5 h fun x6 =>
  astI 2 x3 x6 (vp_nar .boolean (1 : Int32)) h fun h7 =>
  lt3 (a4 + 1) fun x8 =>
  ih x8 h7))
noncomputable def f_X11_close_l66 (v0 : Nat) (v1 : Int32) (v2 : Int32) (v3 : Nat) (n : Nat) : Int32 → HP → Rs Unit := @Nat.rec (fun _ => Int32 → HP → Rs Unit) (fun _ _ => none) (fun _ ih => b_X11_close_l66 v0 v1 v2 v3 ih) n
noncomputable def f_X11_close_l10b63 (v0 : Nat) (v1 : Int32) (ih : Int32 → HP → Rs Unit) (a2 : Int32) (a3 : Nat) (h : HP) : Rs Unit :=
  bd (f_X11_close_l66 v0 v1 a2 a3 NN (0 : Int32) h) (fun x1 h2 => lt3 (a2 + 1) fun x3 =>
  ih x3 h2)
noncomputable def b_X11_close_l10 (v0 : Nat) (v1 : Int32) (ih : Int32 → HP → Rs Unit) (a2 : Int32) (h : HP) : Rs Unit :=
  ldR 12 162 v0 h fun x1 =>
  lsSize x1 h fun x2 =>
  if x2 ≤ a2 then
  (rok () h)
  else
  (ldR 12 162 v0 h fun x3 =>
  lsGet x3 a2 h fun x4 =>
  castR [13] x4 h (
  ldR 13 163 x4 h fun x5 =>
  nwA 282 v1 h fun p6 h7 =>
  stR 4 42 x5 p6 h7 fun h8 =>
  ldR 4 40 x5 h8 fun x9 =>
  if x9 = 0 then
  (f_X11_close_l10b63 v0 v1 ih a2 x5 h8)
  else
  (ldR 4 42 x5 h8 fun x10 =>
  ldR 4 40 x5 h8 fun x11 =>
  ldI 4 31 x11 h8 fun x12 =>
  astI 2 x10 x12 (vp_nar .boolean (1 : Int32)) h8 fun h13 =>
  f_X11_close_l10b63 v0 v1 ih a2 x5 h13)))
noncomputable def f_X11_close_l10 (v0 : Nat) (v1 : Int32) (n : Nat) : Int32 → HP → Rs Unit := @Nat.rec (fun _ => Int32 → HP → Rs Unit) (fun _ _ => none) (fun _ ih => b_X11_close_l10 v0 v1 ih) n
noncomputable def f_X11_close_l174b226 (v0 : Nat) (v1 : Int32) (v2 : Int32) (v3 : Nat) (v4 : Int32) (v5 : Nat) (ih : Int32 → HP → Rs Unit) (a6 : Int32) (s0 : Nat) (s1 : Int32) (s2 : Int32) (h : HP) : Rs Unit :=
  astI 2 s0 s1 (vp_nar .boolean s2) h fun h1 =>
  lt3 (a6 + 1) fun x2 =>
  ih x2 h1
noncomputable def f_X11_close_l174b221 (v0 : Nat) (v1 : Int32) (v2 : Int32) (v3 : Nat) (v4 : Int32) (v5 : Nat) (ih : Int32 → HP → Rs Unit) (a6 : Int32) (s0 : Nat) (s1 : Int32) (h : HP) : Rs Unit :=
  f_X11_close_l174b226 v0 v1 v2 v3 v4 v5 ih a6 s0 s1 (1 : Int32) h
noncomputable def b_X11_close_l174 (v0 : Nat) (v1 : Int32) (v2 : Int32) (v3 : Nat) (v4 : Int32) (v5 : Nat) (ih : Int32 → HP → Rs Unit) (a6 : Int32) (h : HP) : Rs Unit :=
  if v1 ≤ a6 then
  (rok () h)
  else
  (ldR 4 42 v5 h fun x1 =>
  ldI 4 31 v3 h fun x2 =>
  aldI 2 x1 x2 h fun x3 =>
  if x3 = 0 then
  (rok () h)
  else
  (ldR 4 42 v5 h fun x4 =>
  ldR 4 42 v5 h fun x5 =>
  aldI 2 x5 a6 h fun x6 =>
  if x6 = 0 then
  (ldR 4 42 v3 h fun x7 =>
  aldI 2 x7 a6 h fun x8 =>
  if x8 = 0 then
  (f_X11_close_l174b226 v0 v1 v2 v3 v4 v5 ih a6 x4 a6 (0 : Int32) h)
  else
  (f_X11_close_l174b221 v0 v1 v2 v3 v4 v5 ih a6 x4 a6 h))
  else
  (f_X11_close_l174b221 v0 v1 v2 v3 v4 v5 ih a6 x4 a6 h)))
noncomputable def f_X11_close_l174 (v0 : Nat) (v1 : Int32) (v2 : Int32) (v3 : Nat) (v4 : Int32) (v5 : Nat) (n : Nat) : Int32 → HP → Rs Unit := @Nat.rec (fun _ => Int32 → HP → Rs Unit) (fun _ _ => none) (fun _ ih => b_X11_close_l174 v0 v1 v2 v3 v4 v5 ih) n
noncomputable def f_X11_close_l142b233 (v0 : Nat) (v1 : Int32) (v2 : Int32) (v3 : Nat) (ih : Int32 → HP → Rs Unit) (a4 : Int32) (h : HP) : Rs Unit :=
  lt3 (a4 + 1) fun x1 =>
  ih x1 h
noncomputable def b_X11_close_l142 (v0 : Nat) (v1 : Int32) (v2 : Int32) (v3 : Nat) (ih : Int32 → HP → Rs Unit) (a4 : Int32) (h : HP) : Rs Unit :=
  ldR 12 162 v0 h fun x1 =>
  lsSize x1 h fun x2 =>
  if x2 ≤ a4 then
  (rok () h)
  else
  (ldR 12 162 v0 h fun x3 =>
  lsGet x3 a4 h fun x4 =>
  castR [13] x4 h (
  ldR 13 163 x4 h fun x5 =>
  bd (f_X11_close_l174 v0 v1 v2 v3 a4 x5 NN (0 : Int32) h) (fun x6 h7 => f_X11_close_l142b233 v0 v1 v2 v3 ih a4 h7)))
noncomputable def f_X11_close_l142 (v0 : Nat) (v1 : Int32) (v2 : Int32) (v3 : Nat) (n : Nat) : Int32 → HP → Rs Unit := @Nat.rec (fun _ => Int32 → HP → Rs Unit) (fun _ _ => none) (fun _ ih => b_X11_close_l142 v0 v1 v2 v3 ih) n
noncomputable def b_X11_close_l113 (v0 : Nat) (v1 : Int32) (ih : Int32 → HP → Rs Unit) (a2 : Int32) (h : HP) : Rs Unit :=
  ldR 12 162 v0 h fun x1 =>
  lsSize x1 h fun x2 =>
  if x2 ≤ a2 then
  (rok () h)
  else
  (ldR 12 162 v0 h fun x3 =>
  lsGet x3 a2 h fun x4 =>
  castR [13] x4 h (
  ldR 13 163 x4 h fun x5 =>
  bd (f_X11_close_l142 v0 v1 a2 x5 NN (0 : Int32) h) (fun x6 h7 => lt3 (a2 + 1) fun x8 =>
  ih x8 h7)))
noncomputable def f_X11_close_l113 (v0 : Nat) (v1 : Int32) (n : Nat) : Int32 → HP → Rs Unit := @Nat.rec (fun _ => Int32 → HP → Rs Unit) (fun _ _ => none) (fun _ ih => b_X11_close_l113 v0 v1 ih) n
noncomputable def f_X11_close_l276b327 (v0 : Nat) (v1 : Int32) (v2 : Int32) (v3 : Nat) (ih : Int32 → HP → Rs Unit) (a4 : Int32) (h : HP) : Rs Unit :=
  lt3 (a4 + 1) fun x1 =>
  ih x1 h
noncomputable def b_X11_close_l276 (v0 : Nat) (v1 : Int32) (v2 : Int32) (v3 : Nat) (ih : Int32 → HP → Rs Unit) (a4 : Int32) (h : HP) : Rs Unit :=
  if v1 ≤ a4 then
  (rok () h)
  else
  (ldR 4 42 v3 h fun x1 =>
  aldI 2 x1 a4 h fun x2 =>
  if x2 = 0 then
  (f_X11_close_l276b327 v0 v1 v2 v3 ih a4 h)
  else
  (ldR 12 161 v0 h fun x3 =>
  if kc h x3 = 3 then
  bd (f_X2_get x3 a4 h) (fun x4 h5 =>
  ldR 4 32 x4 h5 fun x6 =>
  eqS x6 904
  (ldR 4 43 v3 h5 fun x7 =>
  ldR 12 161 v0 h5 fun x8 =>
  if kc h5 x8 = 3 then
  bd (f_X2_get x8 a4 h5) (fun x9 h10 =>
  lsAdd x7 x9 h10 fun h11 =>
  f_X11_close_l276b327 v0 v1 v2 v3 ih a4 h11)
  else none)
  (f_X11_close_l276b327 v0 v1 v2 v3 ih a4 h5))
  else none))
noncomputable def f_X11_close_l276 (v0 : Nat) (v1 : Int32) (v2 : Int32) (v3 : Nat) (n : Nat) : Int32 → HP → Rs Unit := @Nat.rec (fun _ => Int32 → HP → Rs Unit) (fun _ _ => none) (fun _ ih => b_X11_close_l276 v0 v1 v2 v3 ih) n
noncomputable def b_X11_close_l247 (v0 : Nat) (v1 : Int32) (ih : Int32 → HP → Rs Unit) (a2 : Int32) (h : HP) : Rs Unit :=
  ldR 12 162 v0 h fun x1 =>
  lsSize x1 h fun x2 =>
  if x2 ≤ a2 then
  (rok () h)
  else
  (ldR 12 162 v0 h fun x3 =>
  lsGet x3 a2 h fun x4 =>
  castR [13] x4 h (
  ldR 13 163 x4 h fun x5 =>
  bd (f_X11_close_l276 v0 v1 a2 x5 NN (0 : Int32) h) (fun x6 h7 => lt3 (a2 + 1) fun x8 =>
  ih x8 h7)))
noncomputable def f_X11_close_l247 (v0 : Nat) (v1 : Int32) (n : Nat) : Int32 → HP → Rs Unit := @Nat.rec (fun _ => Int32 → HP → Rs Unit) (fun _ _ => none) (fun _ ih => b_X11_close_l247 v0 v1 ih) n
noncomputable def f_X11_close (a0 : Nat) (h : HP) : Rs Unit :=
  ldR 12 161 a0 h fun x1 =>
  if kc h x1 = 3 then
  bd (f_X2_size x1 h) (fun x2 h3 =>
  bd (f_X11_close_l10 a0 x2 NN (0 : Int32) h3) (fun x4 h5 => bd (f_X11_close_l113 a0 x2 NN (0 : Int32) h5) (fun x6 h7 => bd (f_X11_close_l247 a0 x2 NN (0 : Int32) h7) (fun x8 h9 => rok () h9))))
  else none
noncomputable def b_X11_complete_l28 (v0 : Nat) (v1 : Nat) (v2 : Int32) (ih : Int32 → HP → Rs (Unit ⊕ Unit)) (a3 : Int32) (h : HP) : Rs (Unit ⊕ Unit) :=
  ldR 4 42 v1 h fun x1 =>
  aldI 2 x1 v2 h fun x2 =>
  if x2 = 0 then
  (rok (Sum.inr ()) h)
  else
  (ldR 12 161 v0 h fun x3 =>
  if kc h x3 = 3 then
  bd (f_X2_get x3 v2 h) (fun x4 h5 =>
  ldR 4 45 x4 h5 fun x6 =>
  lsSize x6 h5 fun x7 =>
  if x7 ≤ a3 then
  (rok (Sum.inr ()) h5)
  else
  (ldR 12 161 v0 h5 fun x8 =>
  if kc h5 x8 = 3 then
  bd (f_X2_get x8 v2 h5) (fun x9 h10 =>
  ldR 4 45 x9 h10 fun x11 =>
  lsGet x11 a3 h10 fun x12 =>
  castR [30] x12 h10 (
  ldR 30 224 x12 h10 fun x13 =>
  if kc h10 v1 = 4 then
  bd (f_X3_taken v1 x13 h10) (fun x14 h15 =>
  if x14 = 0 then
  (rok (Sum.inl ()) h15)
  else
  (lt3 (a3 + 1) fun x16 =>
  ih x16 h15))
  else none))
  else none))
  else none)
noncomputable def f_X11_complete_l28 (v0 : Nat) (v1 : Nat) (v2 : Int32) (n : Nat) : Int32 → HP → Rs (Unit ⊕ Unit) := @Nat.rec (fun _ => Int32 → HP → Rs (Unit ⊕ Unit)) (fun _ _ => none) (fun _ ih => b_X11_complete_l28 v0 v1 v2 ih) n
noncomputable def f_X11_complete_l17b98 (v0 : Nat) (v1 : Nat) (ih : Int32 → HP → Rs (Unit ⊕ Unit)) (a2 : Int32) (h : HP) : Rs (Unit ⊕ Unit) :=
  lt3 (a2 + 1) fun x1 =>
  ih x1 h
noncomputable def b_X11_complete_l17 (v0 : Nat) (v1 : Nat) (ih : Int32 → HP → Rs (Unit ⊕ Unit)) (a2 : Int32) (h : HP) : Rs (Unit ⊕ Unit) :=
  ldR 4 42 v1 h fun x1 =>
  alen x1 h fun x2 =>
  if x2 ≤ a2 then
  (rok (Sum.inr ()) h)
  else
  (bd (f_X11_complete_l28 v0 v1 a2 NN (0 : Int32) h) (Sum.elim (fun x3 => fun h4 => rok (Sum.inl ()) h4) (fun x5 => fun h6 => f_X11_complete_l17b98 v0 v1 ih a2 h6)))
noncomputable def f_X11_complete_l17 (v0 : Nat) (v1 : Nat) (n : Nat) : Int32 → HP → Rs (Unit ⊕ Unit) := @Nat.rec (fun _ => Int32 → HP → Rs (Unit ⊕ Unit)) (fun _ _ => none) (fun _ ih => b_X11_complete_l17 v0 v1 ih) n
noncomputable def f_X11_complete (a0 : Nat) (a1 : Nat) (h : HP) : Rs Unit :=
  if kc h a1 = 4 then
  bd (f_X3_isClassLike a1 h) (fun x1 h2 =>
  if x1 = 0 then
  (rok () h2)
  else
  (ldI 4 38 a1 h2 fun x3 =>
  if x3 = 0 then
  (bd (f_X11_complete_l17 a0 a1 NN (0 : Int32) h2) (Sum.elim (fun x4 => fun h5 => ldI 4 48 a1 h5 fun x6 =>
  if kc h5 a0 = 12 then
  bd (f_X11_wrong a0 x6 h5) (fun x7 h8 =>
  if kc h8 x7 = 69 then rex h8 else none)
  else none) (fun x9 => fun h10 => rok () h10)))
  else
  (rok () h2)))
  else none
noncomputable def f_X11_of (a0 : Nat) (a1 : Nat) (h : HP) : Rs Nat :=
  ldR 12 162 a0 h fun x1 =>
  ldI 4 31 a1 h fun x2 =>
  lsGet x1 ((x2 - (9 : Int32)) - (1 : Int32)) h fun x3 =>
  castR [13] x3 h (
  rok x3 h)
noncomputable def f_X31_init (a0 : Nat) (a1 : Nat) (a2 : Nat) (a3 : Int32) (h : HP) : Rs Unit :=
  if a0 = 0 then none else (
  stR 31 234 a0 a1 h fun h1 =>
  stR 31 235 a0 a2 h1 fun h2 =>
  stI 31 236 a0 a3 h2 fun h3 =>
  rok () h3)
abbrev TY_S6 : Type := (Nat → Nat → HP → Rs Unit)
noncomputable def b_X11_layOut_l67 (R : TY_S6) (v1 : Nat) (v2 : Nat) (ih : Int32 → HP → Rs Unit) (a3 : Int32) (h : HP) : Rs Unit :=
  ldR 13 163 v1 h fun x1 =>
  ldR 4 40 x1 h fun x2 =>
  if x2 = 0 then
  (rok () h)
  else
  (ldR 13 163 v1 h fun x3 =>
  ldR 4 40 x3 h fun x4 =>
  ldR 4 44 x4 h fun x5 =>
  lsSize x5 h fun x6 =>
  if x6 ≤ a3 then
  (rok () h)
  else
  (ldR 13 163 v1 h fun x7 =>
  ldR 4 40 x7 h fun x8 =>
  ldR 4 44 x8 h fun x9 =>
  lsGet x9 a3 h fun x10 =>
  castR [31] x10 h (
  lsAdd v2 x10 h fun h11 =>
  lt3 (a3 + 1) fun x12 =>
  ih x12 h11)))
noncomputable def f_X11_layOut_l67 (R : TY_S6) (v1 : Nat) (v2 : Nat) (n : Nat) : Int32 → HP → Rs Unit := @Nat.rec (fun _ => Int32 → HP → Rs Unit) (fun _ _ => none) (fun _ ih => b_X11_layOut_l67 R v1 v2 ih) n
noncomputable def f_X11_layOut_l124b185 (R : TY_S6) (v1 : Nat) (v2 : Nat) (ih : Int32 → HP → Rs Unit) (a3 : Int32) (h : HP) : Rs Unit :=
  lt3 (a3 + 1) fun x1 =>
  ih x1 h
noncomputable def b_X11_layOut_l124 (R : TY_S6) (v1 : Nat) (v2 : Nat) (ih : Int32 → HP → Rs Unit) (a3 : Int32) (h : HP) : Rs Unit :=
  ldR 13 168 v1 h fun x1 =>
  lsSize x1 h fun x2 =>
  if x2 ≤ a3 then
  (rok () h)
  else
  (ldR 13 168 v1 h fun x3 =>
  lsGet x3 a3 h fun x4 =>
  castR [15] x4 h (
  ldR 15 177 x4 h fun x5 =>
  if x5 = 0 then
  (nwO 31 3 h fun p6 h7 =>
  ldR 15 175 x4 h7 fun x8 =>
  ldR 15 174 x4 h7 fun x9 =>
  ldR 14 173 x9 h7 fun x10 =>
  lsSize v2 h7 fun x11 =>
  if kc h7 p6 = 31 then
  bd (f_X31_init p6 x8 x10 x11 h7) (fun _ h12 =>
  lsAdd v2 p6 h12 fun h13 =>
  f_X11_layOut_l124b185 R v1 v2 ih a3 h13)
  else none)
  else
  (f_X11_layOut_l124b185 R v1 v2 ih a3 h)))
noncomputable def f_X11_layOut_l124 (R : TY_S6) (v1 : Nat) (v2 : Nat) (n : Nat) : Int32 → HP → Rs Unit := @Nat.rec (fun _ => Int32 → HP → Rs Unit) (fun _ _ => none) (fun _ ih => b_X11_layOut_l124 R v1 v2 ih) n
noncomputable def f_X11_layOut_b122 (R : TY_S6) (a1 : Nat) (a2 : Nat) (h : HP) : Rs Unit :=
  bd (f_X11_layOut_l124 R a1 a2 NN (0 : Int32) h) (fun x1 h2 => rok () h2)
noncomputable def f_X11_layOut_b38 (R : TY_S6) (a1 : Nat) (h : HP) : Rs Unit :=
  ldR 13 163 a1 h fun x1 =>
  ldI 4 39 x1 h fun x2 =>
  if x2 = 0 then
  (ldR 13 163 a1 h fun x3 =>
  stI 4 39 x3 (1 : Int32) h fun h4 =>
  ldR 13 163 a1 h4 fun x5 =>
  ldR 4 44 x5 h4 fun x6 =>
  bd (f_X11_layOut_l67 R a1 x6 NN (0 : Int32) h4) (fun x7 h8 => f_X11_layOut_b122 R  a1 x6 h8))
  else
  (rok () h)
noncomputable def f_X11_layOut_o (R : TY_S6) (a0 : Nat) (a1 : Nat) (h : HP) : Rs Unit :=
  ldR 13 163 a1 h fun x1 =>
  ldR 4 40 x1 h fun x2 =>
  if x2 = 0 then
  (f_X11_layOut_b38 R  a1 h)
  else
  (ldR 13 163 a1 h fun x3 =>
  ldR 4 40 x3 h fun x4 =>
  ldI 4 39 x4 h fun x5 =>
  if x5 = 0 then
  (ldR 13 163 a1 h fun x6 =>
  ldR 4 40 x6 h fun x7 =>
  if kc h a0 = 12 then
  bd (f_X11_of a0 x7 h) (fun x8 h9 =>
  if kc h9 a0 = 12 then
  bd (R a0 x8 h9) (fun _ h10 =>
  f_X11_layOut_b38 R  a1 h10)
  else none)
  else none)
  else
  (f_X11_layOut_b38 R  a1 h))
noncomputable def r_S6 (n : Nat) : TY_S6 := @Nat.rec (fun _ => TY_S6) (fun _ _ _ => none) (fun _ R => (f_X11_layOut_o R)) n
noncomputable def f_X11_layOut (n : Nat) : Nat → Nat → HP → Rs Unit := (r_S6 n)
noncomputable def f_X11_before_l27b81 (v0 : Nat) (v2 : Nat) (v4 : Nat) (v5 : Nat) (ih : Int32 → Int32 → HP → Rs (Unit ⊕ Int32)) (a3 : Int32) (a6 : Int32) (h : HP) : Rs (Unit ⊕ Int32) :=
  lt3 (a6 + 1) fun x1 =>
  ih a3 x1 h
noncomputable def b_X11_before_l27 (v0 : Nat) (v2 : Nat) (v4 : Nat) (v5 : Nat) (ih : Int32 → Int32 → HP → Rs (Unit ⊕ Int32)) (a3 : Int32) (a6 : Int32) (h : HP) : Rs (Unit ⊕ Int32) :=
  lsSize v5 h fun x1 =>
  if x1 ≤ a6 then
  (rok (Sum.inr a3) h)
  else
  (lsGet v5 a6 h fun x2 =>
  castR [15] x2 h (
  ldR 15 177 x2 h fun x3 =>
  if x3 = 0 then
  (lsGet v5 a6 h fun x4 =>
  castR [15] x4 h (
  ldR 15 175 x4 h fun x5 =>
  txEq x5 v2 h fun x6 =>
  if x6 = 0 then
  (lt3 (a3 + 1) fun x7 =>
  f_X11_before_l27b81 v0 v2 v4 v5 ih x7 a6 h)
  else
  (rok (Sum.inl ()) h)))
  else
  (f_X11_before_l27b81 v0 v2 v4 v5 ih a3 a6 h)))
noncomputable def f_X11_before_l27 (v0 : Nat) (v2 : Nat) (v4 : Nat) (v5 : Nat) (n : Nat) : Int32 → Int32 → HP → Rs (Unit ⊕ Int32) := @Nat.rec (fun _ => Int32 → Int32 → HP → Rs (Unit ⊕ Int32)) (fun _ _ _ => none) (fun _ ih => b_X11_before_l27 v0 v2 v4 v5 ih) n
noncomputable def b_X11_before_l8 (v0 : Nat) (v2 : Nat) (ih : Int32 → Nat → HP → Rs (Unit ⊕ Int32)) (a3 : Int32) (a4 : Nat) (h : HP) : Rs (Unit ⊕ Int32) :=
  if a4 = 0 then
  (rok (Sum.inr a3) h)
  else
  (if kc h v0 = 12 then
  bd (f_X11_of v0 a4 h) (fun x1 h2 =>
  ldR 13 168 x1 h2 fun x3 =>
  bd (f_X11_before_l27 v0 v2 a4 x3 NN a3 (0 : Int32) h2) (Sum.elim (fun x4 => fun h5 => rok (Sum.inl ()) h5) (fun x6 => fun h7 => ldR 4 40 a4 h7 fun x8 =>
  ih x6 x8 h7)))
  else none)
noncomputable def f_X11_before_l8 (v0 : Nat) (v2 : Nat) (n : Nat) : Int32 → Nat → HP → Rs (Unit ⊕ Int32) := @Nat.rec (fun _ => Int32 → Nat → HP → Rs (Unit ⊕ Int32)) (fun _ _ _ => none) (fun _ ih => b_X11_before_l8 v0 v2 ih) n
noncomputable def f_X11_before (a0 : Nat) (a1 : Nat) (a2 : Nat) (h : HP) : Rs Int32 :=
  ldR 4 40 a1 h fun x1 =>
  bd (f_X11_before_l8 a0 a2 NN (0 : Int32) x1 h) (Sum.elim (fun x2 => fun h3 => rok (-1 : Int32) h3) (fun x4 => fun h5 => rok x4 h5))
noncomputable def f_X11_method_l108b146 (v0 : Nat) (v1 : Nat) (v2 : Nat) (v4 : Nat) (v5 : Int32) (v6 : Nat) (ih : Int32 → Int32 → HP → Rs Int32) (a8 : Int32) (s0 : Int32) (h : HP) : Rs Int32 :=
  lt3 (a8 + 1) fun x1 =>
  ih s0 x1 h
noncomputable def f_X11_method_l108b145 (v0 : Nat) (v1 : Nat) (v2 : Nat) (v4 : Nat) (v5 : Int32) (v6 : Nat) (ih : Int32 → Int32 → HP → Rs Int32) (a8 : Int32) (h : HP) : Rs Int32 :=
  f_X11_method_l108b146 v0 v1 v2 v4 v5 v6 ih a8 (0 : Int32) h
noncomputable def b_X11_method_l108 (v0 : Nat) (v1 : Nat) (v2 : Nat) (v4 : Nat) (v5 : Int32) (v6 : Nat) (ih : Int32 → Int32 → HP → Rs Int32) (a7 : Int32) (a8 : Int32) (h : HP) : Rs Int32 :=
  if v5 ≤ a8 then
  (rok a7 h)
  else
  (if a7 = 0 then
  (f_X11_method_l108b145 v0 v1 v2 v4 v5 v6 ih a8 h)
  else
  (ldR 30 231 v4 h fun x1 =>
  lsGet x1 a8 h fun x2 =>
  castR [71] x2 h (
  txEq x2 v6 h fun x3 =>
  if x3 = 0 then
  (f_X11_method_l108b146 v0 v1 v2 v4 v5 v6 ih a8 (1 : Int32) h)
  else
  (f_X11_method_l108b145 v0 v1 v2 v4 v5 v6 ih a8 h))))
noncomputable def f_X11_method_l108 (v0 : Nat) (v1 : Nat) (v2 : Nat) (v4 : Nat) (v5 : Int32) (v6 : Nat) (n : Nat) : Int32 → Int32 → HP → Rs Int32 := @Nat.rec (fun _ => Int32 → Int32 → HP → Rs Int32) (fun _ _ _ => none) (fun _ ih => b_X11_method_l108 v0 v1 v2 v4 v5 v6 ih) n
noncomputable def f_X11_method_l21b103 (v0 : Nat) (v1 : Nat) (v2 : Nat) (v4 : Nat) (ih : Int32 → HP → Rs (Int32 ⊕ Int32 ⊕ Unit)) (a5 : Int32) (a6 : Nat) (s0 : Int32) (h : HP) : Rs (Int32 ⊕ Int32 ⊕ Unit) :=
  bd (f_X11_method_l108 v0 v1 v2 v4 a5 a6 NN s0 (0 : Int32) h) (fun x1 h2 => if x1 = 0 then
  (rok (Sum.inr (Sum.inl a5)) h2)
  else
  (ldR 30 230 v4 h2 fun x3 =>
  ldR 15 178 v2 h2 fun x4 =>
  lsGet x4 a5 h2 fun x5 =>
  castR [14] x5 h2 (
  ldR 14 173 x5 h2 fun x6 =>
  lsAdd x3 x6 h2 fun h7 =>
  lt3 (a5 + 1) fun x8 =>
  ih x8 h7)))
noncomputable def b_X11_method_l21 (v0 : Nat) (v1 : Nat) (v2 : Nat) (v4 : Nat) (ih : Int32 → HP → Rs (Int32 ⊕ Int32 ⊕ Unit)) (a5 : Int32) (h : HP) : Rs (Int32 ⊕ Int32 ⊕ Unit) :=
  ldR 15 178 v2 h fun x1 =>
  lsSize x1 h fun x2 =>
  if x2 ≤ a5 then
  (rok (Sum.inr (Sum.inr ())) h)
  else
  (ldR 15 178 v2 h fun x3 =>
  lsGet x3 a5 h fun x4 =>
  castR [14] x4 h (
  ldR 14 173 x4 h fun x5 =>
  if x5 = 0 then
  (rok (Sum.inl a5) h)
  else
  (ldR 30 231 v4 h fun x6 =>
  lsGet x6 a5 h fun x7 =>
  castR [71] x7 h (
  ldR 12 161 v0 h fun x8 =>
  if kc h x8 = 3 then
  bd (f_X2_named x8 x7 h) (fun x9 h10 =>
  if x9 = 0 then
  (f_X11_method_l21b103 v0 v1 v2 v4 ih a5 x7 (1 : Int32) h10)
  else
  (f_X11_method_l21b103 v0 v1 v2 v4 ih a5 x7 (0 : Int32) h10))
  else none))))
noncomputable def f_X11_method_l21 (v0 : Nat) (v1 : Nat) (v2 : Nat) (v4 : Nat) (n : Nat) : Int32 → HP → Rs (Int32 ⊕ Int32 ⊕ Unit) := @Nat.rec (fun _ => Int32 → HP → Rs (Int32 ⊕ Int32 ⊕ Unit)) (fun _ _ => none) (fun _ ih => b_X11_method_l21 v0 v1 v2 v4 ih) n
noncomputable def f_X11_method_b334 (a0 : Nat) (a1 : Nat) (a4 : Nat) (s0 : Int32) (h : HP) : Rs Unit :=
  if s0 = 0 then
  (ldI 30 226 a4 h fun x4 =>
  if kc h a0 = 12 then
  bd (f_X11_wrong a0 x4 h) (fun x5 h6 =>
  if kc h6 x5 = 69 then rex h6 else none)
  else none)
  else
  (ldR 13 163 a1 h fun x1 =>
  ldR 4 45 x1 h fun x2 =>
  lsAdd x2 a4 h fun h3 =>
  rok () h3)
noncomputable def f_X11_method_b333 (a0 : Nat) (a1 : Nat) (a4 : Nat) (h : HP) : Rs Unit :=
  f_X11_method_b334  a0 a1 a4 (0 : Int32) h
noncomputable def f_X11_method_b329 (a0 : Nat) (a1 : Nat) (a4 : Nat) (h : HP) : Rs Unit :=
  f_X11_method_b334  a0 a1 a4 (1 : Int32) h
noncomputable def f_X11_method_b309 (a0 : Nat) (a1 : Nat) (a2 : Nat) (a4 : Nat) (s0 : Int32) (s1 : Int32) (h : HP) : Rs Unit :=
  if s0 = s1 then
  (ldI 15 180 a2 h fun x1 =>
  if x1 = 0 then
  (f_X11_method_b329  a0 a1 a4 h)
  else
  (ldR 13 163 a1 h fun x2 =>
  ldI 4 38 x2 h fun x3 =>
  if x3 = 0 then
  (f_X11_method_b333  a0 a1 a4 h)
  else
  (f_X11_method_b329  a0 a1 a4 h)))
  else
  (f_X11_method_b333  a0 a1 a4 h)
noncomputable def f_X11_method_b281 (a0 : Nat) (a1 : Nat) (a4 : Nat) (h : HP) : Rs Unit :=
  f_X11_method_b334  a0 a1 a4 (0 : Int32) h
noncomputable def f_X11_method_b251 (a0 : Nat) (a1 : Nat) (a2 : Nat) (a4 : Nat) (s0 : Int32) (h : HP) : Rs Unit :=
  if s0 = 0 then
  (ldI 15 181 a2 h fun x1 =>
  if x1 = 0 then
  (ldI 15 180 a2 h fun x2 =>
  if kc h a4 = 30 then
  bd (f_X30_hasBody a4 h) (fun x3 h4 =>
  if x3 = 0 then
  (f_X11_method_b309  a0 a1 a2 a4 x2 (1 : Int32) h4)
  else
  (f_X11_method_b309  a0 a1 a2 a4 x2 (0 : Int32) h4))
  else none)
  else
  (f_X11_method_b333  a0 a1 a4 h))
  else
  (ldI 15 180 a2 h fun x5 =>
  if x5 = 0 then
  (ldI 15 181 a2 h fun x6 =>
  if kc h a4 = 30 then
  bd (f_X30_hasBody a4 h) (fun x7 h8 =>
  if x6 = x7 then
  (f_X11_method_b334  a0 a1 a4 (1 : Int32) h8)
  else
  (f_X11_method_b281  a0 a1 a4 h8))
  else none)
  else
  (f_X11_method_b281  a0 a1 a4 h))
noncomputable def f_X11_method (a0 : Nat) (a1 : Nat) (a2 : Nat) (a3 : Int32) (h : HP) : Rs Unit :=
  ldR 15 177 a2 h fun x1 =>
  ldR 15 174 a2 h fun x2 =>
  ldR 14 173 x2 h fun x3 =>
  stR 30 229 x1 x3 h fun h4 =>
  bd (f_X11_method_l21 a0 a1 a2 x1 NN (0 : Int32) h4) (Sum.elim (fun x5 => fun h6 => ldR 15 178 a2 h6 fun x7 =>
  lsGet x7 x5 h6 fun x8 =>
  castR [14] x8 h6 (
  ldI 14 171 x8 h6 fun x9 =>
  if kc h6 a0 = 12 then
  bd (f_X11_wrong a0 x9 h6) (fun x10 h11 =>
  if kc h11 x10 = 69 then rex h11 else none)
  else none)) (Sum.elim (fun x12 => fun h13 => ldR 15 179 a2 h13 fun x14 =>
  lsGet x14 x12 h13 fun x15 =>
  castR [73] x15 h13 (
  ivGet x15 h13 fun x16 =>
  if kc h13 a0 = 12 then
  bd (f_X11_wrong a0 x16 h13) (fun x17 h18 =>
  if kc h18 x17 = 69 then rex h18 else none)
  else none)) (fun x19 => fun h20 => ldR 13 163 a1 h20 fun x21 =>
  ldR 30 224 x1 h20 fun x22 =>
  if kc h20 x21 = 4 then
  bd (f_X3_own x21 x22 h20) (fun x23 h24 =>
  if x23 = 0 then
  (ldR 13 163 a1 h24 fun x25 =>
  ldR 4 32 x25 h24 fun x26 =>
  eqS x26 904
  (f_X11_method_b251  a0 a1 a2 x1 (1 : Int32) h24)
  (f_X11_method_b251  a0 a1 a2 x1 (0 : Int32) h24))
  else
  (ldI 15 176 a2 h24 fun x27 =>
  if kc h24 a0 = 12 then
  bd (f_X11_wrong a0 x27 h24) (fun x28 h29 =>
  if kc h29 x28 = 69 then rex h29 else none)
  else none))
  else none)))
noncomputable def f_X11_members_l125b185 (v0 : Nat) (v1 : Nat) (v2 : Int32) (v3 : Int32) (v4 : Nat) (ih : Int32 → Int32 → HP → Rs Int32) (a7 : Int32) (s0 : Int32) (h : HP) : Rs Int32 :=
  lt3 (a7 + 1) fun x1 =>
  ih s0 x1 h
noncomputable def f_X11_members_l125b184 (v0 : Nat) (v1 : Nat) (v2 : Int32) (v3 : Int32) (v4 : Nat) (ih : Int32 → Int32 → HP → Rs Int32) (a7 : Int32) (h : HP) : Rs Int32 :=
  f_X11_members_l125b185 v0 v1 v2 v3 v4 ih a7 (0 : Int32) h
noncomputable def f_X11_members_l125b180 (v0 : Nat) (v1 : Nat) (v2 : Int32) (v3 : Int32) (v4 : Nat) (ih : Int32 → Int32 → HP → Rs Int32) (a7 : Int32) (h : HP) : Rs Int32 :=
  f_X11_members_l125b185 v0 v1 v2 v3 v4 ih a7 (1 : Int32) h
noncomputable def b_X11_members_l125 (v0 : Nat) (v1 : Nat) (v2 : Int32) (v3 : Int32) (v4 : Nat) (ih : Int32 → Int32 → HP → Rs Int32) (a6 : Int32) (a7 : Int32) (h : HP) : Rs Int32 :=
  if v3 ≤ a7 then
  (rok a6 h)
  else
  (if a6 = 0 then
  (f_X11_members_l125b184 v0 v1 v2 v3 v4 ih a7 h)
  else
  (ldR 13 168 v1 h fun x1 =>
  lsGet x1 a7 h fun x2 =>
  castR [15] x2 h (
  ldR 15 177 x2 h fun x3 =>
  if x3 = 0 then
  (ldR 13 168 v1 h fun x4 =>
  lsGet x4 a7 h fun x5 =>
  castR [15] x5 h (
  ldR 15 175 x5 h fun x6 =>
  ldR 15 175 v4 h fun x7 =>
  txEq x6 x7 h fun x8 =>
  if x8 = 0 then
  (f_X11_members_l125b180 v0 v1 v2 v3 v4 ih a7 h)
  else
  (f_X11_members_l125b184 v0 v1 v2 v3 v4 ih a7 h)))
  else
  (f_X11_members_l125b180 v0 v1 v2 v3 v4 ih a7 h))))
noncomputable def f_X11_members_l125 (v0 : Nat) (v1 : Nat) (v2 : Int32) (v3 : Int32) (v4 : Nat) (n : Nat) : Int32 → Int32 → HP → Rs Int32 := @Nat.rec (fun _ => Int32 → Int32 → HP → Rs Int32) (fun _ _ _ => none) (fun _ ih => b_X11_members_l125 v0 v1 v2 v3 v4 ih) n
noncomputable def f_X11_members_l4b211 (v0 : Nat) (v1 : Nat) (ih : Int32 → Int32 → HP → Rs (Nat ⊕ Nat ⊕ Unit)) (a2 : Int32) (a3 : Int32) (h : HP) : Rs (Nat ⊕ Nat ⊕ Unit) :=
  lt3 (a3 + 1) fun x1 =>
  ih a2 x1 h
noncomputable def f_X11_members_l4b120 (v0 : Nat) (v1 : Nat) (ih : Int32 → Int32 → HP → Rs (Nat ⊕ Nat ⊕ Unit)) (a2 : Int32) (a3 : Int32) (a4 : Nat) (s0 : Int32) (h : HP) : Rs (Nat ⊕ Nat ⊕ Unit) :=
  bd (f_X11_members_l125 v0 v1 a2 a3 a4 NN s0 (0 : Int32) h) (fun x1 h2 => if x1 = 0 then
  (rok (Sum.inr (Sum.inl a4)) h2)
  else
  (lt3 (a2 + 1) fun x3 =>
  f_X11_members_l4b211 v0 v1 ih x3 a3 h2))
noncomputable def f_X11_members_l4b119 (v0 : Nat) (v1 : Nat) (ih : Int32 → Int32 → HP → Rs (Nat ⊕ Nat ⊕ Unit)) (a2 : Int32) (a3 : Int32) (a4 : Nat) (h : HP) : Rs (Nat ⊕ Nat ⊕ Unit) :=
  f_X11_members_l4b120 v0 v1 ih a2 a3 a4 (0 : Int32) h
noncomputable def b_X11_members_l4 (v0 : Nat) (v1 : Nat) (ih : Int32 → Int32 → HP → Rs (Nat ⊕ Nat ⊕ Unit)) (a2 : Int32) (a3 : Int32) (h : HP) : Rs (Nat ⊕ Nat ⊕ Unit) :=
  ldR 13 168 v1 h fun x1 =>
  lsSize x1 h fun x2 =>
  if x2 ≤ a3 then
  (rok (Sum.inr (Sum.inr ())) h)
  else
  (ldR 13 168 v1 h fun x3 =>
  lsGet x3 a3 h fun x4 =>
  castR [15] x4 h (
  ldR 15 174 x4 h fun x5 =>
  ldR 14 173 x5 h fun x6 =>
  if x6 = 0 then
  (rok (Sum.inl x4) h)
  else
  (ldR 15 177 x4 h fun x7 =>
  if x7 = 0 then
  (ldR 13 163 v1 h fun x8 =>
  ldR 15 175 x4 h fun x9 =>
  if kc h v0 = 12 then
  bd (f_X11_before v0 x8 x9 h) (fun x10 h11 =>
  if x10 < 0 then
  (f_X11_members_l4b119 v0 v1 ih a2 a3 x4 h11)
  else
  (if (40 : Int32) ≤ (x10 + a2) then
  (f_X11_members_l4b119 v0 v1 ih a2 a3 x4 h11)
  else
  (ldR 12 161 v0 h11 fun x12 =>
  ldR 15 175 x4 h11 fun x13 =>
  if kc h11 x12 = 3 then
  bd (f_X2_named x12 x13 h11) (fun x14 h15 =>
  if x14 = 0 then
  (f_X11_members_l4b120 v0 v1 ih a2 a3 x4 (1 : Int32) h15)
  else
  (f_X11_members_l4b119 v0 v1 ih a2 a3 x4 h15))
  else none)))
  else none)
  else
  (if kc h v0 = 12 then
  bd (f_X11_method v0 v1 x4 a3 h) (fun _ h16 =>
  f_X11_members_l4b211 v0 v1 ih a2 a3 h16)
  else none))))
noncomputable def f_X11_members_l4 (v0 : Nat) (v1 : Nat) (n : Nat) : Int32 → Int32 → HP → Rs (Nat ⊕ Nat ⊕ Unit) := @Nat.rec (fun _ => Int32 → Int32 → HP → Rs (Nat ⊕ Nat ⊕ Unit)) (fun _ _ _ => none) (fun _ ih => b_X11_members_l4 v0 v1 ih) n
noncomputable def b_X11_members_l240 (v0 : Nat) (v1 : Nat) (v3 : Nat) (v4 : Int32) (ih : Int32 → HP → Rs (Unit ⊕ Unit)) (a5 : Int32) (h : HP) : Rs (Unit ⊕ Unit) :=
  if v4 ≤ a5 then
  (rok (Sum.inr ()) h)
  else
  (lsGet v3 a5 h fun x1 =>
  castR [71] x1 h (
  lsGet v3 v4 h fun x2 =>
  txEq x1 x2 h fun x3 =>
  if x3 = 0 then
  (lt3 (a5 + 1) fun x4 =>
  ih x4 h)
  else
  (rok (Sum.inl ()) h)))
noncomputable def f_X11_members_l240 (v0 : Nat) (v1 : Nat) (v3 : Nat) (v4 : Int32) (n : Nat) : Int32 → HP → Rs (Unit ⊕ Unit) := @Nat.rec (fun _ => Int32 → HP → Rs (Unit ⊕ Unit)) (fun _ _ => none) (fun _ ih => b_X11_members_l240 v0 v1 v3 v4 ih) n
noncomputable def b_X11_members_l228 (v0 : Nat) (v1 : Nat) (v3 : Nat) (ih : Int32 → HP → Rs (Int32 ⊕ Unit)) (a4 : Int32) (h : HP) : Rs (Int32 ⊕ Unit) :=
  lsSize v3 h fun x1 =>
  if x1 ≤ a4 then
  (rok (Sum.inr ()) h)
  else
  (bd (f_X11_members_l240 v0 v1 v3 a4 NN (0 : Int32) h) (Sum.elim (fun x2 => fun h3 => rok (Sum.inl a4) h3) (fun x4 => fun h5 => lt3 (a4 + 1) fun x6 =>
  ih x6 h5)))
noncomputable def f_X11_members_l228 (v0 : Nat) (v1 : Nat) (v3 : Nat) (n : Nat) : Int32 → HP → Rs (Int32 ⊕ Unit) := @Nat.rec (fun _ => Int32 → HP → Rs (Int32 ⊕ Unit)) (fun _ _ => none) (fun _ ih => b_X11_members_l228 v0 v1 v3 ih) n
noncomputable def f_X11_members (a0 : Nat) (a1 : Nat) (h : HP) : Rs Unit :=
  bd (f_X11_members_l4 a0 a1 NN (0 : Int32) (0 : Int32) h) (Sum.elim (fun x1 => fun h2 => ldR 15 174 x1 h2 fun x3 =>
  ldI 14 171 x3 h2 fun x4 =>
  if kc h2 a0 = 12 then
  bd (f_X11_wrong a0 x4 h2) (fun x5 h6 =>
  if kc h6 x5 = 69 then rex h6 else none)
  else none) (Sum.elim (fun x7 => fun h8 => ldI 15 176 x7 h8 fun x9 =>
  if kc h8 a0 = 12 then
  bd (f_X11_wrong a0 x9 h8) (fun x10 h11 =>
  if kc h11 x10 = 69 then rex h11 else none)
  else none) (fun x12 => fun h13 => ldR 13 163 a1 h13 fun x14 =>
  ldR 4 46 x14 h13 fun x15 =>
  bd (f_X11_members_l228 a0 a1 x15 NN (0 : Int32) h13) (Sum.elim (fun x16 => fun h17 => ldR 13 169 a1 h17 fun x18 =>
  lsGet x18 x16 h17 fun x19 =>
  castR [73] x19 h17 (
  ivGet x19 h17 fun x20 =>
  if kc h17 a0 = 12 then
  bd (f_X11_wrong a0 x20 h17) (fun x21 h22 =>
  if kc h22 x21 = 69 then rex h22 else none)
  else none)) (fun x23 => fun h24 => rok () h24)))))
noncomputable def b_X30_isLike_l32 (v0 : Nat) (v1 : Nat) (ih : Int32 → HP → Rs (Unit ⊕ Unit)) (a2 : Int32) (h : HP) : Rs (Unit ⊕ Unit) :=
  ldR 30 230 v0 h fun x1 =>
  lsSize x1 h fun x2 =>
  if x2 ≤ a2 then
  (rok (Sum.inr ()) h)
  else
  (ldR 30 230 v0 h fun x3 =>
  lsGet x3 a2 h fun x4 =>
  ldR 30 230 v1 h fun x5 =>
  lsGet x5 a2 h fun x6 =>
  eqR h x4 x6
  (lt3 (a2 + 1) fun x7 =>
  ih x7 h)
  (rok (Sum.inl ()) h))
noncomputable def f_X30_isLike_l32 (v0 : Nat) (v1 : Nat) (n : Nat) : Int32 → HP → Rs (Unit ⊕ Unit) := @Nat.rec (fun _ => Int32 → HP → Rs (Unit ⊕ Unit)) (fun _ _ => none) (fun _ ih => b_X30_isLike_l32 v0 v1 ih) n
noncomputable def f_X30_isLike (a0 : Nat) (a1 : Nat) (h : HP) : Rs Int32 :=
  ldR 30 229 a0 h fun x1 =>
  ldR 30 229 a1 h fun x2 =>
  eqR h x1 x2
  (ldR 30 230 a0 h fun x3 =>
  lsSize x3 h fun x4 =>
  ldR 30 230 a1 h fun x5 =>
  lsSize x5 h fun x6 =>
  if x4 = x6 then
  (bd (f_X30_isLike_l32 a0 a1 NN (0 : Int32) h) (Sum.elim (fun x7 => fun h8 => rok (0 : Int32) h8) (fun x9 => fun h10 => rok (1 : Int32) h10)))
  else
  (rok (0 : Int32) h))
  (rok (0 : Int32) h)
noncomputable def f_X11_overrides_l28b93 (v0 : Nat) (v1 : Nat) (v2 : Int32) (v3 : Nat) (ih : Int32 → HP → Rs (Unit ⊕ Unit)) (a4 : Int32) (h : HP) : Rs (Unit ⊕ Unit) :=
  lt3 (a4 + 1) fun x1 =>
  ih x1 h
noncomputable def f_X11_overrides_l28b68 (v0 : Nat) (v1 : Nat) (v2 : Int32) (v3 : Nat) (ih : Int32 → HP → Rs (Unit ⊕ Unit)) (a4 : Int32) (s0 : Nat) (h : HP) : Rs (Unit ⊕ Unit) :=
  if s0 = 0 then
  (f_X11_overrides_l28b93 v0 v1 v2 v3 ih a4 h)
  else
  (if kc h v3 = 30 then
  bd (f_X30_isLike v3 s0 h) (fun x1 h2 =>
  if x1 = 0 then
  (rok (Sum.inl ()) h2)
  else
  (f_X11_overrides_l28b93 v0 v1 v2 v3 ih a4 h2))
  else none)
noncomputable def b_X11_overrides_l28 (v0 : Nat) (v1 : Nat) (v2 : Int32) (v3 : Nat) (ih : Int32 → HP → Rs (Unit ⊕ Unit)) (a4 : Int32) (h : HP) : Rs (Unit ⊕ Unit) :=
  ldR 4 42 v1 h fun x1 =>
  alen x1 h fun x2 =>
  if x2 ≤ a4 then
  (rok (Sum.inr ()) h)
  else
  (ldR 4 42 v1 h fun x3 =>
  aldI 2 x3 a4 h fun x4 =>
  if x4 = 0 then
  (f_X11_overrides_l28b68 v0 v1 v2 v3 ih a4 0 h)
  else
  (ldR 12 161 v0 h fun x5 =>
  if kc h x5 = 3 then
  bd (f_X2_get x5 a4 h) (fun x6 h7 =>
  ldR 30 224 v3 h7 fun x8 =>
  if kc h7 x6 = 4 then
  bd (f_X3_own x6 x8 h7) (fun x9 h10 =>
  f_X11_overrides_l28b68 v0 v1 v2 v3 ih a4 x9 h10)
  else none)
  else none))
noncomputable def f_X11_overrides_l28 (v0 : Nat) (v1 : Nat) (v2 : Int32) (v3 : Nat) (n : Nat) : Int32 → HP → Rs (Unit ⊕ Unit) := @Nat.rec (fun _ => Int32 → HP → Rs (Unit ⊕ Unit)) (fun _ _ => none) (fun _ ih => b_X11_overrides_l28 v0 v1 v2 v3 ih) n
noncomputable def b_X11_overrides_l2 (v0 : Nat) (v1 : Nat) (ih : Int32 → HP → Rs (Nat ⊕ Unit)) (a2 : Int32) (h : HP) : Rs (Nat ⊕ Unit) :=
  ldR 4 45 v1 h fun x1 =>
  lsSize x1 h fun x2 =>
  if x2 ≤ a2 then
  (rok (Sum.inr ()) h)
  else
  (ldR 4 45 v1 h fun x3 =>
  lsGet x3 a2 h fun x4 =>
  castR [30] x4 h (
  bd (f_X11_overrides_l28 v0 v1 a2 x4 NN (0 : Int32) h) (Sum.elim (fun x5 => fun h6 => rok (Sum.inl x4) h6) (fun x7 => fun h8 => lt3 (a2 + 1) fun x9 =>
  ih x9 h8))))
noncomputable def f_X11_overrides_l2 (v0 : Nat) (v1 : Nat) (n : Nat) : Int32 → HP → Rs (Nat ⊕ Unit) := @Nat.rec (fun _ => Int32 → HP → Rs (Nat ⊕ Unit)) (fun _ _ => none) (fun _ ih => b_X11_overrides_l2 v0 v1 ih) n
noncomputable def f_X11_overrides_l168b231 (v0 : Nat) (v1 : Nat) (v2 : Int32) (v3 : Int32) (v4 : Nat) (ih : Int32 → HP → Rs (Unit ⊕ Unit)) (a5 : Int32) (h : HP) : Rs (Unit ⊕ Unit) :=
  lt3 (a5 + 1) fun x1 =>
  ih x1 h
noncomputable def f_X11_overrides_l168b205 (v0 : Nat) (v1 : Nat) (v2 : Int32) (v3 : Int32) (v4 : Nat) (ih : Int32 → HP → Rs (Unit ⊕ Unit)) (a5 : Int32) (s0 : Nat) (h : HP) : Rs (Unit ⊕ Unit) :=
  if s0 = 0 then
  (f_X11_overrides_l168b231 v0 v1 v2 v3 v4 ih a5 h)
  else
  (if kc h v4 = 30 then
  bd (f_X30_isLike v4 s0 h) (fun x1 h2 =>
  if x1 = 0 then
  (rok (Sum.inl ()) h2)
  else
  (f_X11_overrides_l168b231 v0 v1 v2 v3 v4 ih a5 h2))
  else none)
noncomputable def b_X11_overrides_l168 (v0 : Nat) (v1 : Nat) (v2 : Int32) (v3 : Int32) (v4 : Nat) (ih : Int32 → HP → Rs (Unit ⊕ Unit)) (a5 : Int32) (h : HP) : Rs (Unit ⊕ Unit) :=
  if v2 ≤ a5 then
  (rok (Sum.inr ()) h)
  else
  (ldR 4 42 v1 h fun x1 =>
  aldI 2 x1 a5 h fun x2 =>
  if x2 = 0 then
  (f_X11_overrides_l168b205 v0 v1 v2 v3 v4 ih a5 0 h)
  else
  (ldR 12 161 v0 h fun x3 =>
  if kc h x3 = 3 then
  bd (f_X2_get x3 a5 h) (fun x4 h5 =>
  ldR 30 224 v4 h5 fun x6 =>
  if kc h5 x4 = 4 then
  bd (f_X3_own x4 x6 h5) (fun x7 h8 =>
  f_X11_overrides_l168b205 v0 v1 v2 v3 v4 ih a5 x7 h8)
  else none)
  else none))
noncomputable def f_X11_overrides_l168 (v0 : Nat) (v1 : Nat) (v2 : Int32) (v3 : Int32) (v4 : Nat) (n : Nat) : Int32 → HP → Rs (Unit ⊕ Unit) := @Nat.rec (fun _ => Int32 → HP → Rs (Unit ⊕ Unit)) (fun _ _ => none) (fun _ ih => b_X11_overrides_l168 v0 v1 v2 v3 v4 ih) n
noncomputable def b_X11_overrides_l118 (v0 : Nat) (v1 : Nat) (v2 : Int32) (ih : Int32 → HP → Rs (Unit ⊕ Unit)) (a3 : Int32) (h : HP) : Rs (Unit ⊕ Unit) :=
  ldR 4 42 v1 h fun x1 =>
  aldI 2 x1 v2 h fun x2 =>
  if x2 = 0 then
  (rok (Sum.inr ()) h)
  else
  (ldR 12 161 v0 h fun x3 =>
  if kc h x3 = 3 then
  bd (f_X2_get x3 v2 h) (fun x4 h5 =>
  ldR 4 45 x4 h5 fun x6 =>
  lsSize x6 h5 fun x7 =>
  if x7 ≤ a3 then
  (rok (Sum.inr ()) h5)
  else
  (ldR 12 161 v0 h5 fun x8 =>
  if kc h5 x8 = 3 then
  bd (f_X2_get x8 v2 h5) (fun x9 h10 =>
  ldR 4 45 x9 h10 fun x11 =>
  lsGet x11 a3 h10 fun x12 =>
  castR [30] x12 h10 (
  bd (f_X11_overrides_l168 v0 v1 v2 a3 x12 NN (0 : Int32) h10) (Sum.elim (fun x13 => fun h14 => rok (Sum.inl ()) h14) (fun x15 => fun h16 => lt3 (a3 + 1) fun x17 =>
  ih x17 h16))))
  else none))
  else none)
noncomputable def f_X11_overrides_l118 (v0 : Nat) (v1 : Nat) (v2 : Int32) (n : Nat) : Int32 → HP → Rs (Unit ⊕ Unit) := @Nat.rec (fun _ => Int32 → HP → Rs (Unit ⊕ Unit)) (fun _ _ => none) (fun _ ih => b_X11_overrides_l118 v0 v1 v2 ih) n
noncomputable def f_X11_overrides_l107b243 (v0 : Nat) (v1 : Nat) (ih : Int32 → HP → Rs (Unit ⊕ Unit)) (a2 : Int32) (h : HP) : Rs (Unit ⊕ Unit) :=
  lt3 (a2 + 1) fun x1 =>
  ih x1 h
noncomputable def b_X11_overrides_l107 (v0 : Nat) (v1 : Nat) (ih : Int32 → HP → Rs (Unit ⊕ Unit)) (a2 : Int32) (h : HP) : Rs (Unit ⊕ Unit) :=
  ldR 4 42 v1 h fun x1 =>
  alen x1 h fun x2 =>
  if x2 ≤ a2 then
  (rok (Sum.inr ()) h)
  else
  (bd (f_X11_overrides_l118 v0 v1 a2 NN (0 : Int32) h) (Sum.elim (fun x3 => fun h4 => rok (Sum.inl ()) h4) (fun x5 => fun h6 => f_X11_overrides_l107b243 v0 v1 ih a2 h6)))
noncomputable def f_X11_overrides_l107 (v0 : Nat) (v1 : Nat) (n : Nat) : Int32 → HP → Rs (Unit ⊕ Unit) := @Nat.rec (fun _ => Int32 → HP → Rs (Unit ⊕ Unit)) (fun _ _ => none) (fun _ ih => b_X11_overrides_l107 v0 v1 ih) n
noncomputable def f_X11_overrides (a0 : Nat) (a1 : Nat) (h : HP) : Rs Unit :=
  bd (f_X11_overrides_l2 a0 a1 NN (0 : Int32) h) (Sum.elim (fun x1 => fun h2 => ldI 30 227 x1 h2 fun x3 =>
  if kc h2 a0 = 12 then
  bd (f_X11_wrong a0 x3 h2) (fun x4 h5 =>
  if kc h5 x4 = 69 then rex h5 else none)
  else none) (fun x6 => fun h7 => bd (f_X11_overrides_l107 a0 a1 NN (0 : Int32) h7) (Sum.elim (fun x8 => fun h9 => ldI 4 48 a1 h9 fun x10 =>
  if kc h9 a0 = 12 then
  bd (f_X11_wrong a0 x10 h9) (fun x11 h12 =>
  if kc h12 x11 = 69 then rex h12 else none)
  else none) (fun x13 => fun h14 => rok () h14))))
noncomputable def b_X11_relate_l138 (v0 : Nat) (v1 : Nat) (v2 : Int32) (v3 : Nat) (ih : Int32 → HP → Rs (Unit ⊕ Unit)) (a4 : Int32) (h : HP) : Rs (Unit ⊕ Unit) :=
  ldR 13 163 v1 h fun x1 =>
  ldR 4 41 x1 h fun x2 =>
  lsSize x2 h fun x3 =>
  if x3 ≤ a4 then
  (rok (Sum.inr ()) h)
  else
  (ldR 13 163 v1 h fun x4 =>
  ldR 4 41 x4 h fun x5 =>
  lsGet x5 a4 h fun x6 =>
  eqR h x6 v3
  (rok (Sum.inl ()) h)
  (lt3 (a4 + 1) fun x7 =>
  ih x7 h))
noncomputable def f_X11_relate_l138 (v0 : Nat) (v1 : Nat) (v2 : Int32) (v3 : Nat) (n : Nat) : Int32 → HP → Rs (Unit ⊕ Unit) := @Nat.rec (fun _ => Int32 → HP → Rs (Unit ⊕ Unit)) (fun _ _ => none) (fun _ ih => b_X11_relate_l138 v0 v1 v2 v3 ih) n
noncomputable def b_X11_relate_l72 (v0 : Nat) (v1 : Nat) (ih : Int32 → HP → Rs (Int32 ⊕ Int32 ⊕ Unit)) (a2 : Int32) (h : HP) : Rs (Int32 ⊕ Int32 ⊕ Unit) :=
  ldR 13 166 v1 h fun x1 =>
  lsSize x1 h fun x2 =>
  if x2 ≤ a2 then
  (rok (Sum.inr (Sum.inr ())) h)
  else
  (ldR 12 161 v0 h fun x3 =>
  ldR 13 166 v1 h fun x4 =>
  lsGet x4 a2 h fun x5 =>
  castR [71] x5 h (
  if kc h x3 = 3 then
  bd (f_X2_named x3 x5 h) (fun x6 h7 =>
  if x6 = 0 then
  (rok (Sum.inl a2) h7)
  else
  (ldR 4 32 x6 h7 fun x8 =>
  eqS x8 904
  (bd (f_X11_relate_l138 v0 v1 a2 x6 NN (0 : Int32) h7) (Sum.elim (fun x9 => fun h10 => rok (Sum.inr (Sum.inl a2)) h10) (fun x11 => fun h12 => ldR 13 163 v1 h12 fun x13 =>
  ldR 4 41 x13 h12 fun x14 =>
  lsAdd x14 x6 h12 fun h15 =>
  lt3 (a2 + 1) fun x16 =>
  ih x16 h15)))
  (rok (Sum.inl a2) h7)))
  else none))
noncomputable def f_X11_relate_l72 (v0 : Nat) (v1 : Nat) (n : Nat) : Int32 → HP → Rs (Int32 ⊕ Int32 ⊕ Unit) := @Nat.rec (fun _ => Int32 → HP → Rs (Int32 ⊕ Int32 ⊕ Unit)) (fun _ _ => none) (fun _ ih => b_X11_relate_l72 v0 v1 ih) n
noncomputable def f_X11_relate_b116 (a0 : Nat) (a1 : Nat) (a2 : Int32) (h : HP) : Rs Unit :=
  ldR 13 167 a1 h fun x1 =>
  lsGet x1 a2 h fun x2 =>
  castR [73] x2 h (
  ivGet x2 h fun x3 =>
  if kc h a0 = 12 then
  bd (f_X11_wrong a0 x3 h) (fun x4 h5 =>
  if kc h5 x4 = 69 then rex h5 else none)
  else none)
noncomputable def f_X11_relate_b70 (a0 : Nat) (a1 : Nat) (h : HP) : Rs Unit :=
  bd (f_X11_relate_l72 a0 a1 NN (0 : Int32) h) (Sum.elim (fun x1 => fun h2 => f_X11_relate_b116  a0 a1 x1 h2) (Sum.elim (fun x3 => fun h4 => ldR 13 167 a1 h4 fun x5 =>
  lsGet x5 x3 h4 fun x6 =>
  castR [73] x6 h4 (
  ivGet x6 h4 fun x7 =>
  if kc h4 a0 = 12 then
  bd (f_X11_wrong a0 x7 h4) (fun x8 h9 =>
  if kc h9 x8 = 69 then rex h9 else none)
  else none)) (fun x10 => fun h11 => rok () h11)))
noncomputable def f_X11_relate_b52 (a0 : Nat) (a1 : Nat) (a2 : Nat) (h : HP) : Rs Unit :=
  ldR 4 32 a2 h fun x1 =>
  eqS x1 903
  (ldR 13 163 a1 h fun x2 =>
  stR 4 40 x2 a2 h fun h3 =>
  f_X11_relate_b70  a0 a1 h3)
  (f_X11_relate_b70  a0 a1 h)
noncomputable def f_X11_relate (a0 : Nat) (a1 : Nat) (h : HP) : Rs Unit :=
  ldI 13 165 a1 h fun x1 =>
  if x1 < 0 then
  (f_X11_relate_b70  a0 a1 h)
  else
  (ldR 12 161 a0 h fun x2 =>
  ldR 13 164 a1 h fun x3 =>
  if kc h x2 = 3 then
  bd (f_X2_named x2 x3 h) (fun x4 h5 =>
  if x4 = 0 then
  (ldI 13 165 a1 h5 fun x6 =>
  if kc h5 a0 = 12 then
  bd (f_X11_wrong a0 x6 h5) (fun x7 h8 =>
  if kc h8 x7 = 69 then rex h8 else none)
  else none)
  else
  (ldR 4 32 x4 h5 fun x9 =>
  eqS x9 903
  (f_X11_relate_b52  a0 a1 x4 h5)
  (ldR 4 32 x4 h5 fun x10 =>
  eqS x10 901
  (f_X11_relate_b52  a0 a1 x4 h5)
  (ldI 13 165 a1 h5 fun x11 =>
  if kc h5 a0 = 12 then
  bd (f_X11_wrong a0 x11 h5) (fun x12 h13 =>
  if kc h13 x12 = 69 then rex h13 else none)
  else none))))
  else none)
noncomputable def b_X11_settle_l2 (v0 : Nat) (ih : Int32 → HP → Rs (Nat ⊕ Unit)) (a1 : Int32) (h : HP) : Rs (Nat ⊕ Unit) :=
  ldR 12 162 v0 h fun x1 =>
  lsSize x1 h fun x2 =>
  if x2 ≤ a1 then
  (rok (Sum.inr ()) h)
  else
  (ldR 12 162 v0 h fun x3 =>
  lsGet x3 a1 h fun x4 =>
  castR [13] x4 h (
  ldR 13 163 x4 h fun x5 =>
  ldR 12 161 v0 h fun x6 =>
  ldR 4 33 x5 h fun x7 =>
  if kc h x6 = 3 then
  bd (f_X2_named x6 x7 h) (fun x8 h9 =>
  eqR h9 x8 x5
  (lt3 (a1 + 1) fun x10 =>
  ih x10 h9)
  (rok (Sum.inl x5) h9))
  else none))
noncomputable def f_X11_settle_l2 (v0 : Nat) (n : Nat) : Int32 → HP → Rs (Nat ⊕ Unit) := @Nat.rec (fun _ => Int32 → HP → Rs (Nat ⊕ Unit)) (fun _ _ => none) (fun _ ih => b_X11_settle_l2 v0 ih) n
noncomputable def b_X11_settle_l60 (v0 : Nat) (ih : Int32 → HP → Rs Unit) (a1 : Int32) (h : HP) : Rs Unit :=
  ldR 12 162 v0 h fun x1 =>
  lsSize x1 h fun x2 =>
  if x2 ≤ a1 then
  (rok () h)
  else
  (ldR 12 162 v0 h fun x3 =>
  lsGet x3 a1 h fun x4 =>
  castR [13] x4 h (
  if kc h v0 = 12 then
  bd (f_X11_relate v0 x4 h) (fun _ h5 =>
  lt3 (a1 + 1) fun x6 =>
  ih x6 h5)
  else none))
noncomputable def f_X11_settle_l60 (v0 : Nat) (n : Nat) : Int32 → HP → Rs Unit := @Nat.rec (fun _ => Int32 → HP → Rs Unit) (fun _ _ => none) (fun _ ih => b_X11_settle_l60 v0 ih) n
noncomputable def b_X11_settle_l98 (v0 : Nat) (ih : Int32 → HP → Rs (Int32 ⊕ Unit)) (a1 : Int32) (h : HP) : Rs (Int32 ⊕ Unit) :=
  ldR 12 162 v0 h fun x1 =>
  lsSize x1 h fun x2 =>
  if x2 ≤ a1 then
  (rok (Sum.inr ()) h)
  else
  (ldR 12 162 v0 h fun x3 =>
  lsGet x3 a1 h fun x4 =>
  castR [13] x4 h (
  ldR 13 163 x4 h fun x5 =>
  ldR 4 42 x5 h fun x6 =>
  ldR 12 162 v0 h fun x7 =>
  lsGet x7 a1 h fun x8 =>
  castR [13] x8 h (
  ldR 13 163 x8 h fun x9 =>
  ldI 4 31 x9 h fun x10 =>
  aldI 2 x6 x10 h fun x11 =>
  if x11 = 0 then
  (lt3 (a1 + 1) fun x12 =>
  ih x12 h)
  else
  (rok (Sum.inl a1) h))))
noncomputable def f_X11_settle_l98 (v0 : Nat) (n : Nat) : Int32 → HP → Rs (Int32 ⊕ Unit) := @Nat.rec (fun _ => Int32 → HP → Rs (Int32 ⊕ Unit)) (fun _ _ => none) (fun _ ih => b_X11_settle_l98 v0 ih) n
noncomputable def b_X11_settle_l186 (v0 : Nat) (ih : Int32 → HP → Rs Unit) (a1 : Int32) (h : HP) : Rs Unit :=
  ldR 12 162 v0 h fun x1 =>
  lsSize x1 h fun x2 =>
  if x2 ≤ a1 then
  (rok () h)
  else
  (ldR 12 162 v0 h fun x3 =>
  lsGet x3 a1 h fun x4 =>
  castR [13] x4 h (
  if kc h v0 = 12 then
  bd (f_X11_members v0 x4 h) (fun _ h5 =>
  lt3 (a1 + 1) fun x6 =>
  ih x6 h5)
  else none))
noncomputable def f_X11_settle_l186 (v0 : Nat) (n : Nat) : Int32 → HP → Rs Unit := @Nat.rec (fun _ => Int32 → HP → Rs Unit) (fun _ _ => none) (fun _ ih => b_X11_settle_l186 v0 ih) n
noncomputable def b_X11_settle_l220 (v0 : Nat) (ih : Int32 → HP → Rs Unit) (a1 : Int32) (h : HP) : Rs Unit :=
  ldR 12 162 v0 h fun x1 =>
  lsSize x1 h fun x2 =>
  if x2 ≤ a1 then
  (rok () h)
  else
  (ldR 12 162 v0 h fun x3 =>
  lsGet x3 a1 h fun x4 =>
  castR [13] x4 h (
  if kc h v0 = 12 then
  bd (f_X11_layOut 100 v0 x4 h) (fun _ h5 =>
  lt3 (a1 + 1) fun x6 =>
  ih x6 h5)
  else none))
noncomputable def f_X11_settle_l220 (v0 : Nat) (n : Nat) : Int32 → HP → Rs Unit := @Nat.rec (fun _ => Int32 → HP → Rs Unit) (fun _ _ => none) (fun _ ih => b_X11_settle_l220 v0 ih) n
noncomputable def b_X11_settle_l254 (v0 : Nat) (ih : Int32 → HP → Rs Unit) (a1 : Int32) (h : HP) : Rs Unit :=
  ldR 12 162 v0 h fun x1 =>
  lsSize x1 h fun x2 =>
  if x2 ≤ a1 then
  (rok () h)
  else
  (ldR 12 162 v0 h fun x3 =>
  lsGet x3 a1 h fun x4 =>
  castR [13] x4 h (
  ldR 13 163 x4 h fun x5 =>
  if kc h v0 = 12 then
  bd (f_X11_overrides v0 x5 h) (fun _ h6 =>
  lt3 (a1 + 1) fun x7 =>
  ih x7 h6)
  else none))
noncomputable def f_X11_settle_l254 (v0 : Nat) (n : Nat) : Int32 → HP → Rs Unit := @Nat.rec (fun _ => Int32 → HP → Rs Unit) (fun _ _ => none) (fun _ ih => b_X11_settle_l254 v0 ih) n
noncomputable def b_X11_settle_l291 (v0 : Nat) (ih : Int32 → HP → Rs Unit) (a1 : Int32) (h : HP) : Rs Unit :=
  ldR 12 162 v0 h fun x1 =>
  lsSize x1 h fun x2 =>
  if x2 ≤ a1 then
  (rok () h)
  else
  (ldR 12 162 v0 h fun x3 =>
  lsGet x3 a1 h fun x4 =>
  castR [13] x4 h (
  ldR 13 163 x4 h fun x5 =>
  if kc h v0 = 12 then
  bd (f_X11_complete v0 x5 h) (fun _ h6 =>
  lt3 (a1 + 1) fun x7 =>
  ih x7 h6)
  else none))
noncomputable def f_X11_settle_l291 (v0 : Nat) (n : Nat) : Int32 → HP → Rs Unit := @Nat.rec (fun _ => Int32 → HP → Rs Unit) (fun _ _ => none) (fun _ ih => b_X11_settle_l291 v0 ih) n
noncomputable def b_X11_settle_l330 (v0 : Nat) (ih : Int32 → Int32 → HP → Rs Unit) (a1 : Int32) (a2 : Int32) (h : HP) : Rs Unit :=
  ldR 12 162 v0 h fun x1 =>
  lsSize x1 h fun x2 =>
  if x2 ≤ a2 then
  (rok () h)
  else
  (ldR 12 162 v0 h fun x3 =>
  lsGet x3 a2 h fun x4 =>
  castR [13] x4 h (
  ldR 13 163 x4 h fun x5 =>
  stI 4 47 x5 a1 h fun h6 =>
  ldR 12 162 v0 h6 fun x7 =>
  lsGet x7 a2 h6 fun x8 =>
  castR [13] x8 h6 (
  ldR 13 163 x8 h6 fun x9 =>
  ldR 4 46 x9 h6 fun x10 =>
  lsSize x10 h6 fun x11 =>
  lt3 (a1 + x11) fun x12 =>
  lt3 (a2 + 1) fun x13 =>
  ih x12 x13 h6)))
noncomputable def f_X11_settle_l330 (v0 : Nat) (n : Nat) : Int32 → Int32 → HP → Rs Unit := @Nat.rec (fun _ => Int32 → Int32 → HP → Rs Unit) (fun _ _ _ => none) (fun _ ih => b_X11_settle_l330 v0 ih) n
noncomputable def b_X11_settle_l390 (v0 : Nat) (ih : Int32 → HP → Rs Unit) (a2 : Int32) (h : HP) : Rs Unit :=
  ldR 12 162 v0 h fun x1 =>
  lsSize x1 h fun x2 =>
  if x2 ≤ a2 then
  (rok () h)
  else
  (ldR 12 162 v0 h fun x3 =>
  lsGet x3 a2 h fun x4 =>
  castR [13] x4 h (
  ldR 13 163 x4 h fun x5 =>
  if kc h v0 = 12 then
  bd (f_X11_bodies v0 x5 h) (fun _ h6 =>
  lt3 (a2 + 1) fun x7 =>
  ih x7 h6)
  else none))
noncomputable def f_X11_settle_l390 (v0 : Nat) (n : Nat) : Int32 → HP → Rs Unit := @Nat.rec (fun _ => Int32 → HP → Rs Unit) (fun _ _ => none) (fun _ ih => b_X11_settle_l390 v0 ih) n
noncomputable def f_X11_settle (a0 : Nat) (h : HP) : Rs Unit :=
  bd (f_X11_settle_l2 a0 NN (0 : Int32) h) (Sum.elim (fun x1 => fun h2 => ldI 4 48 x1 h2 fun x3 =>
  if kc h2 a0 = 12 then
  bd (f_X11_wrong a0 x3 h2) (fun x4 h5 =>
  if kc h5 x4 = 69 then rex h5 else none)
  else none) (fun x6 => fun h7 => bd (f_X11_settle_l60 a0 NN (0 : Int32) h7) (fun x8 h9 => if kc h9 a0 = 12 then
  bd (f_X11_close a0 h9) (fun _ h10 =>
  bd (f_X11_settle_l98 a0 NN (0 : Int32) h10) (Sum.elim (fun x11 => fun h12 => ldR 12 162 a0 h12 fun x13 =>
  lsGet x13 x11 h12 fun x14 =>
  castR [13] x14 h12 (
  ldR 13 163 x14 h12 fun x15 =>
  ldI 4 48 x15 h12 fun x16 =>
  if kc h12 a0 = 12 then
  bd (f_X11_wrong a0 x16 h12) (fun x17 h18 =>
  if kc h18 x17 = 69 then rex h18 else none)
  else none)) (fun x19 => fun h20 => ldR 12 161 a0 h20 fun x21 =>
  if kc h20 a0 ∈ [12] then
  bd (f_X10_resolve a0 x21 (1 : Int32) h20) (fun _ h22 =>
  bd (f_X11_settle_l186 a0 NN (0 : Int32) h22) (fun x23 h24 => bd (f_X11_settle_l220 a0 NN (0 : Int32) h24) (fun x25 h26 => bd (f_X11_settle_l254 a0 NN (0 : Int32) h26) (fun x27 h28 => bd (f_X11_settle_l291 a0 NN (0 : Int32) h28) (fun x29 h30 => bd (f_X11_settle_l330 a0 NN (1 : Int32) (0 : Int32) h30) (fun x31 h32 => bd (f_X11_settle_l390 a0 NN (0 : Int32) h32) (fun x33 h34 => rok () h34)))))))
  else none)))
  else none)))
noncomputable def f_X35_constant (a0 : Nat) (a1 : Nat) (a2 : Int32) (h : HP) : Rs Nat :=
  if kc h a0 = 34 then
  bd (f_X35_add a0 a1 (0 : Int32) 0 a2 (0 : Int32) h) (fun x1 h2 =>
  stI 36 278 x1 (1 : Int32) h2 fun h3 =>
  rok x1 h3)
  else none
noncomputable def f_X36_init (a0 : Nat) (h : HP) : Rs Unit :=
  if a0 = 0 then none else (
  nwA 307 (4001 : Int32) h fun p1 h2 =>
  stR 35 266 a0 p1 h2 fun h3 =>
  nwA 322 (4001 : Int32) h3 fun p4 h5 =>
  stR 35 267 a0 p4 h5 fun h6 =>
  nwA 342 (4001 : Int32) h6 fun p7 h8 =>
  stR 35 268 a0 p7 h8 fun h9 =>
  nwA 362 (70 : Int32) h9 fun p10 h11 =>
  stR 35 269 a0 p10 h11 fun h12 =>
  nwA 380 (16 : Int32) h12 fun p13 h14 =>
  stR 35 270 a0 p13 h14 fun h15 =>
  nwA 402 (16 : Int32) h15 fun p16 h17 =>
  stR 35 271 a0 p16 h17 fun h18 =>
  nwA 422 (16 : Int32) h18 fun p19 h20 =>
  stR 35 272 a0 p19 h20 fun h21 =>
  rok () h21)
noncomputable def b_X35_init_l88 (v0 : Nat) (ih : Int32 → HP → Rs Unit) (a3 : Int32) (h : HP) : Rs Unit :=
  if (8 : Int32) ≤ a3 then
  (rok () h)
  else
  (ldR 34 253 v0 h fun x1 =>
  nwO 35 9 h fun p2 h3 =>
  if kc h3 p2 = 35 then
  bd (f_X36_init p2 h3) (fun _ h4 =>
  astO 5 35 x1 a3 p2 h4 fun h5 =>
  lt3 (a3 + 1) fun x6 =>
  ih x6 h5)
  else none)
noncomputable def f_X35_init_l88 (v0 : Nat) (n : Nat) : Int32 → HP → Rs Unit := @Nat.rec (fun _ => Int32 → HP → Rs Unit) (fun _ _ => none) (fun _ ih => b_X35_init_l88 v0 ih) n
noncomputable def f_X35_init (a0 : Nat) (a1 : Nat) (a2 : Nat) (h : HP) : Rs Unit :=
  if a0 = 0 then none else (
  nwA 448 (4001 : Int32) h fun p1 h2 =>
  stR 34 249 a0 p1 h2 fun h3 =>
  stI 34 250 a0 (1 : Int32) h3 fun h4 =>
  nwA 465 (8 : Int32) h4 fun p5 h6 =>
  stR 34 253 a0 p5 h6 fun h7 =>
  nwA 480 (1040 : Int32) h7 fun p8 h9 =>
  stR 34 257 a0 p8 h9 fun h10 =>
  nwA 500 (16 : Int32) h10 fun p11 h12 =>
  stR 34 258 a0 p11 h12 fun h13 =>
  stI 34 260 a0 (-1 : Int32) h13 fun h14 =>
  nwA 520 (4001 : Int32) h14 fun p15 h16 =>
  stR 34 261 a0 p15 h16 fun h17 =>
  nwA 542 (4001 : Int32) h17 fun p18 h19 =>
  stR 34 262 a0 p18 h19 fun h20 =>
  nwA 560 (16 : Int32) h20 fun p21 h22 =>
  stR 34 263 a0 p21 h22 fun h23 =>
  stR 34 247 a0 a1 h23 fun h24 =>
  stR 34 248 a0 a2 h24 fun h25 =>
  bd (f_X35_init_l88 a0 NN (0 : Int32) h25) (fun x26 h27 => rok () h27))
noncomputable def b_X0_declareAll_l31 (v0 : Nat) (v1 : Nat) (v2 : Nat) (ih : Int32 → HP → Rs Unit) (a3 : Int32) (h : HP) : Rs Unit :=
  ldI 1 2 v0 h fun x1 =>
  if x1 ≤ a3 then
  (rok () h)
  else
  (ldR 1 1 v0 h fun x2 =>
  aldI 1 x2 a3 h fun x3 =>
  astI 1 v2 a3 (vp_nar .byte x3) h fun h4 =>
  lt3 (a3 + 1) fun x5 =>
  ih x5 h4)
noncomputable def f_X0_declareAll_l31 (v0 : Nat) (v1 : Nat) (v2 : Nat) (n : Nat) : Int32 → HP → Rs Unit := @Nat.rec (fun _ => Int32 → HP → Rs Unit) (fun _ _ => none) (fun _ ih => b_X0_declareAll_l31 v0 v1 v2 ih) n
noncomputable def b_X0_declareAll_l153 (v0 : Nat) (v3 : Nat) (v4 : Nat) (v5 : Int32) (v6 : Nat) (ih : Int32 → HP → Rs Unit) (a7 : Int32) (h : HP) : Rs Unit :=
  ldR 4 46 v6 h fun x1 =>
  lsSize x1 h fun x2 =>
  if x2 ≤ a7 then
  (rok () h)
  else
  (if kc h v4 = 34 then
  bd (f_X35_constant v4 v6 a7 h) (fun x3 h4 =>
  ldI 36 273 x3 h4 fun x5 =>
  stI 4 47 v6 (x5 - a7) h4 fun h6 =>
  lt3 (a7 + 1) fun x7 =>
  ih x7 h6)
  else none)
noncomputable def f_X0_declareAll_l153 (v0 : Nat) (v3 : Nat) (v4 : Nat) (v5 : Int32) (v6 : Nat) (n : Nat) : Int32 → HP → Rs Unit := @Nat.rec (fun _ => Int32 → HP → Rs Unit) (fun _ _ => none) (fun _ ih => b_X0_declareAll_l153 v0 v3 v4 v5 v6 ih) n
noncomputable def b_X0_declareAll_l121 (v0 : Nat) (v3 : Nat) (v4 : Nat) (ih : Int32 → HP → Rs Unit) (a5 : Int32) (h : HP) : Rs Unit :=
  ldR 12 162 v3 h fun x1 =>
  lsSize x1 h fun x2 =>
  if x2 ≤ a5 then
  (rok () h)
  else
  (ldR 12 162 v3 h fun x3 =>
  lsGet x3 a5 h fun x4 =>
  castR [13] x4 h (
  ldR 13 163 x4 h fun x5 =>
  bd (f_X0_declareAll_l153 v0 v3 v4 a5 x5 NN (0 : Int32) h) (fun x6 h7 => lt3 (a5 + 1) fun x8 =>
  ih x8 h7)))
noncomputable def f_X0_declareAll_l121 (v0 : Nat) (v3 : Nat) (v4 : Nat) (n : Nat) : Int32 → HP → Rs Unit := @Nat.rec (fun _ => Int32 → HP → Rs Unit) (fun _ _ => none) (fun _ ih => b_X0_declareAll_l121 v0 v3 v4 ih) n
noncomputable def b_X0_declareAll_l201 (v0 : Nat) (v3 : Nat) (v4 : Nat) (ih : Int32 → HP → Rs Unit) (a5 : Int32) (h : HP) : Rs Unit :=
  ldR 12 159 v3 h fun x1 =>
  lsSize x1 h fun x2 =>
  if x2 ≤ a5 then
  (rok () h)
  else
  (ldR 12 159 v3 h fun x3 =>
  lsGet x3 a5 h fun x4 =>
  castR [18] x4 h (
  ldR 18 189 x4 h fun x5 =>
  if kc h v4 = 34 then
  bd (f_X35_text v4 x5 h) (fun x6 h7 =>
  stI 36 278 x6 (1 : Int32) h7 fun h8 =>
  ldR 12 159 v3 h8 fun x9 =>
  lsGet x9 a5 h8 fun x10 =>
  castR [18] x10 h8 (
  ldI 36 273 x6 h8 fun x11 =>
  stI 18 190 x10 x11 h8 fun h12 =>
  lt3 (a5 + 1) fun x13 =>
  ih x13 h12))
  else none))
noncomputable def f_X0_declareAll_l201 (v0 : Nat) (v3 : Nat) (v4 : Nat) (n : Nat) : Int32 → HP → Rs Unit := @Nat.rec (fun _ => Int32 → HP → Rs Unit) (fun _ _ => none) (fun _ ih => b_X0_declareAll_l201 v0 v3 v4 ih) n
noncomputable def f_X0_declareAll (a0 : Nat) (a1 : Nat) (h : HP) : Rs Unit :=
  ldI 1 2 a0 h fun x1 =>
  if x1 ≤ (20000 : Int32) then
  (ldI 1 2 a0 h fun x2 =>
  nwA 581 x2 h fun p3 h4 =>
  bd (f_X0_declareAll_l31 a0 a1 p3 NN (0 : Int32) h4) (fun x5 h6 => ldI 1 2 a0 h6 fun x7 =>
  if kc h6 a0 = 1 then
  bd (f_X0_scan a0 p3 x7 h6) (fun _ h8 =>
  nwO 12 7 h8 fun p9 h10 =>
  nwO 10 8 h10 fun p11 h12 =>
  ldI 1 2 a0 h12 fun x13 =>
  ldR 1 3 a0 h12 fun x14 =>
  if kc h12 p11 = 10 then
  bd (f_X9_init p11 p3 x13 x14 h12) (fun _ h15 =>
  ldR 1 3 a0 h15 fun x16 =>
  ldR 1 13 a0 h15 fun x17 =>
  if kc h15 p9 = 12 then
  bd (f_X11_init p9 p11 x16 x17 a1 h15) (fun _ h18 =>
  if kc h18 p9 = 12 then
  bd (f_X11_read p9 h18) (fun _ h19 =>
  if kc h19 p9 = 12 then
  bd (f_X11_settle p9 h19) (fun _ h20 =>
  nwO 34 17 h20 fun p21 h22 =>
  ldR 1 3 a0 h22 fun x23 =>
  if kc h22 p21 = 34 then
  bd (f_X35_init p21 a1 x23 h22) (fun _ h24 =>
  bd (f_X0_declareAll_l121 a0 p9 p21 NN (0 : Int32) h24) (fun x25 h26 => bd (f_X0_declareAll_l201 a0 p9 p21 NN (0 : Int32) h26) (fun x27 h28 => stR 1 7 a0 p21 h28 fun h29 =>
  rok () h29)))
  else none)
  else none)
  else none)
  else none)
  else none)
  else none))
  else
  (ldR 1 3 a0 h fun x30 =>
  if kc h x30 = 2 then
  bd (f_X1_at x30 (1 : Int32) (20000 : Int32) h) (fun x31 h32 =>
  if kc h32 x31 = 69 then rex h32 else none)
  else none)
noncomputable def b_X2_init_l29 (v0 : Nat) (v1 : Int32) (v2 : Int32) (ih : Int32 → HP → Rs Int32) (a3 : Int32) (h : HP) : Rs Int32 :=
  txLen 40 h fun x1 =>
  if x1 ≤ a3 then
  (rok a3 h)
  else
  (txAt 40 a3 h fun x2 =>
  if x2 = (32 : Int32) then
  (rok a3 h)
  else
  (lt3 (a3 + 1) fun x3 =>
  ih x3 h))
noncomputable def f_X2_init_l29 (v0 : Nat) (v1 : Int32) (v2 : Int32) (n : Nat) : Int32 → HP → Rs Int32 := @Nat.rec (fun _ => Int32 → HP → Rs Int32) (fun _ _ => none) (fun _ ih => b_X2_init_l29 v0 v1 v2 ih) n
noncomputable def f_X2_init_l21b55 (v0 : Nat) (ih : Int32 → Int32 → HP → Rs Unit) (a1 : Int32) (a2 : Int32) (a3 : Int32) (h : HP) : Rs Unit :=
  ldR 3 30 v0 h fun x1 =>
  nwO 4 18 h fun p2 h3 =>
  txSub 40 a1 a3 h3 fun x4 h5 =>
  if kc h5 p2 = 4 then
  bd (f_X3_init p2 a2 900 x4 0 h5) (fun _ h6 =>
  lsAdd x1 p2 h6 fun h7 =>
  lt3 (a3 + (1 : Int32)) fun x8 =>
  lt3 (a2 + 1) fun x9 =>
  ih x8 x9 h7)
  else none
noncomputable def b_X2_init_l21 (v0 : Nat) (ih : Int32 → Int32 → HP → Rs Unit) (a1 : Int32) (a2 : Int32) (h : HP) : Rs Unit :=
  if (8 : Int32) ≤ a2 then
  (rok () h)
  else
  (bd (f_X2_init_l29 v0 a1 a2 NN a1 h) (fun x1 h2 => f_X2_init_l21b55 v0 ih a1 a2 x1 h2))
noncomputable def f_X2_init_l21 (v0 : Nat) (n : Nat) : Int32 → Int32 → HP → Rs Unit := @Nat.rec (fun _ => Int32 → Int32 → HP → Rs Unit) (fun _ _ _ => none) (fun _ ih => b_X2_init_l21 v0 ih) n
noncomputable def f_X2_init (a0 : Nat) (h : HP) : Rs Unit :=
  if a0 = 0 then none else (
  nwC 120 3 h fun p1 h2 =>
  lsInitN p1 (16 : Int32) h2 fun h3 =>
  stR 3 30 a0 p1 h3 fun h4 =>
  bd (f_X2_init_l21 a0 NN (0 : Int32) (0 : Int32) h4) (fun x5 h6 => ldR 3 30 a0 h6 fun x7 =>
  nwO 4 18 h6 fun p8 h9 =>
  if kc h9 p8 = 4 then
  bd (f_X3_init p8 (8 : Int32) 901 30 0 h9) (fun _ h10 =>
  lsAdd x7 p8 h10 fun h11 =>
  ldR 3 30 a0 h11 fun x12 =>
  nwO 4 18 h11 fun p13 h14 =>
  if kc h14 p13 = 4 then
  bd (f_X3_init p13 (9 : Int32) 902 31 0 h14) (fun _ h15 =>
  lsAdd x12 p13 h15 fun h16 =>
  rok () h16)
  else none)
  else none))
noncomputable def f_X38_init (a0 : Nat) (a1 : Nat) (a2 : Nat) (h : HP) : Rs Unit :=
  if a0 = 0 then none else (
  nwA 603 (10000 : Int32) h fun p1 h2 =>
  stR 37 286 a0 p1 h2 fun h3 =>
  stR 37 284 a0 a1 h3 fun h4 =>
  stR 37 285 a0 a2 h4 fun h5 =>
  rok () h5)
noncomputable def f_X40_init (a0 : Nat) (a1 : Int32) (h : HP) : Rs Unit :=
  if a0 = 0 then none else (
  nwA 621 a1 h fun p1 h2 =>
  stR 39 307 a0 p1 h2 fun h3 =>
  rok () h3)
noncomputable def f_X39_init (a0 : Nat) (a1 : Nat) (h : HP) : Rs Unit :=
  if a0 = 0 then none else (
  nwO 39 2 h fun p1 h2 =>
  if kc h2 p1 = 39 then
  bd (f_X40_init p1 (20000 : Int32) h2) (fun _ h3 =>
  stR 38 294 a0 p1 h3 fun h4 =>
  nwO 39 2 h4 fun p5 h6 =>
  if kc h6 p5 = 39 then
  bd (f_X40_init p5 (20000 : Int32) h6) (fun _ h7 =>
  stR 38 295 a0 p5 h7 fun h8 =>
  nwA 640 (4001 : Int32) h8 fun p9 h10 =>
  stR 38 296 a0 p9 h10 fun h11 =>
  nwA 660 (4001 : Int32) h11 fun p12 h13 =>
  stR 38 297 a0 p12 h13 fun h14 =>
  nwA 680 (4001 : Int32) h14 fun p15 h16 =>
  stR 38 298 a0 p15 h16 fun h17 =>
  nwC 121 3 h17 fun p18 h19 =>
  lsInitN p18 (8 : Int32) h19 fun h20 =>
  stR 38 300 a0 p18 h20 fun h21 =>
  nwA 703 (10000 : Int32) h21 fun p22 h23 =>
  stR 38 301 a0 p22 h23 fun h24 =>
  nwA 723 (10000 : Int32) h24 fun p25 h26 =>
  stR 38 302 a0 p25 h26 fun h27 =>
  nwA 740 (4001 : Int32) h27 fun p28 h29 =>
  stR 38 305 a0 p28 h29 fun h30 =>
  stR 38 293 a0 a1 h30 fun h31 =>
  rok () h31)
  else none)
  else none)
noncomputable def f_X41_init (a0 : Nat) (a1 : Nat) (a2 : Nat) (h : HP) : Rs Unit :=
  if a0 = 0 then none else (
  nwC 122 3 h fun p1 h2 =>
  lsInitN p1 (8 : Int32) h2 fun h3 =>
  stR 40 314 a0 p1 h3 fun h4 =>
  nwA 766 (4001 : Int32) h4 fun p5 h6 =>
  stR 40 315 a0 p5 h6 fun h7 =>
  nwA 780 (4001 : Int32) h7 fun p8 h9 =>
  stR 40 316 a0 p8 h9 fun h10 =>
  nwA 800 (4001 : Int32) h10 fun p11 h12 =>
  stR 40 317 a0 p11 h12 fun h13 =>
  nwA 820 (4001 : Int32) h13 fun p14 h15 =>
  stR 40 318 a0 p14 h15 fun h16 =>
  stR 40 309 a0 a1 h16 fun h17 =>
  stR 40 310 a0 a2 h17 fun h18 =>
  rok () h18)
noncomputable def f_X42_init (a0 : Nat) (a1 : Nat) (h : HP) : Rs Unit :=
  if a0 = 0 then none else (
  nwO 39 2 h fun p1 h2 =>
  if kc h2 p1 = 39 then
  bd (f_X40_init p1 (40000 : Int32) h2) (fun _ h3 =>
  stR 41 321 a0 p1 h3 fun h4 =>
  nwO 39 2 h4 fun p5 h6 =>
  if kc h6 p5 = 39 then
  bd (f_X40_init p5 (40000 : Int32) h6) (fun _ h7 =>
  stR 41 322 a0 p5 h7 fun h8 =>
  nwA 842 (4001 : Int32) h8 fun p9 h10 =>
  stR 41 324 a0 p9 h10 fun h11 =>
  stR 41 320 a0 a1 h11 fun h12 =>
  rok () h12)
  else none)
  else none)
noncomputable def f_X43_init (a0 : Nat) (a1 : Nat) (a2 : Nat) (h : HP) : Rs Unit :=
  if a0 = 0 then none else (
  nwC 128 3 h fun p1 h2 =>
  lsInitN p1 (3 : Int32) h2 fun h3 =>
  stR 42 328 a0 p1 h3 fun h4 =>
  nwC 127 3 h4 fun p5 h6 =>
  lsInitN p5 (3 : Int32) h6 fun h7 =>
  stR 42 329 a0 p5 h7 fun h8 =>
  nwC 126 3 h8 fun p9 h10 =>
  lsInitN p9 (3 : Int32) h10 fun h11 =>
  stR 42 330 a0 p9 h11 fun h12 =>
  nwC 125 3 h12 fun p13 h14 =>
  lsInitN p13 (3 : Int32) h14 fun h15 =>
  stR 42 331 a0 p13 h15 fun h16 =>
  nwC 124 3 h16 fun p17 h18 =>
  lsInitN p17 (4 : Int32) h18 fun h19 =>
  stR 42 332 a0 p17 h19 fun h20 =>
  nwC 123 3 h20 fun p21 h22 =>
  lsInitN p21 (8 : Int32) h22 fun h23 =>
  stR 42 333 a0 p21 h23 fun h24 =>
  nwA 863 (5005 : Int32) h24 fun p25 h26 =>
  stR 42 338 a0 p25 h26 fun h27 =>
  nwA 880 (1000 : Int32) h27 fun p28 h29 =>
  stR 42 339 a0 p28 h29 fun h30 =>
  nwA 900 (1000 : Int32) h30 fun p31 h32 =>
  stR 42 340 a0 p31 h32 fun h33 =>
  nwA 923 (4000 : Int32) h33 fun p34 h35 =>
  stR 42 342 a0 p34 h35 fun h36 =>
  nwA 940 (4 : Int32) h36 fun p37 h38 =>
  stR 42 343 a0 p37 h38 fun h39 =>
  stR 42 326 a0 a1 h39 fun h40 =>
  stR 42 327 a0 a2 h40 fun h41 =>
  rok () h41)
noncomputable def f_X0_declare_l181b212 (v0 : Nat) (ih : Int32 → Int32 → HP → Rs Int32) (a2 : Int32) (a3 : Int32) (h : HP) : Rs Int32 :=
  lt3 (a3 + 1) fun x1 =>
  ih a2 x1 h
noncomputable def b_X0_declare_l181 (v0 : Nat) (ih : Int32 → Int32 → HP → Rs Int32) (a2 : Int32) (a3 : Int32) (h : HP) : Rs Int32 :=
  ldR 1 4 v0 h fun x1 =>
  if kc h x1 = 3 then
  bd (f_X2_size x1 h) (fun x2 h3 =>
  if x2 ≤ a3 then
  (rok a2 h3)
  else
  (ldR 1 4 v0 h3 fun x4 =>
  if kc h3 x4 = 3 then
  bd (f_X2_get x4 a3 h3) (fun x5 h6 =>
  ldR 4 32 x5 h6 fun x7 =>
  eqS x7 907
  (f_X0_declare_l181b212 v0 ih a2 a3 h6)
  (lt3 (a2 + 1) fun x8 =>
  f_X0_declare_l181b212 v0 ih x8 a3 h6))
  else none))
  else none
noncomputable def f_X0_declare_l181 (v0 : Nat) (n : Nat) : Int32 → Int32 → HP → Rs Int32 := @Nat.rec (fun _ => Int32 → Int32 → HP → Rs Int32) (fun _ _ _ => none) (fun _ ih => b_X0_declare_l181 v0 ih) n
noncomputable def f_X0_declare (a0 : Nat) (h : HP) : Rs Int32 :=
  stI 1 16 a0 (-1 : Int32) h fun h1 =>
  ldR 1 7 a0 h1 fun x2 =>
  if x2 = 0 then
  (nwO 3 1 h1 fun p3 h4 =>
  if kc h4 p3 = 3 then
  bd (f_X2_init p3 h4) (fun _ h5 =>
  if kc h5 a0 = 1 then
  bdc (f_X0_declareAll a0 p3 h5) (fun _ h6 =>
  stI 1 2 a0 (0 : Int32) h6 fun h14 =>
  stR 1 4 a0 p3 h14 fun h15 =>
  ldR 1 4 a0 h15 fun x16 =>
  if kc h15 x16 = 3 then
  bd (f_X2_size x16 h15) (fun x17 h18 =>
  stI 1 5 a0 x17 h18 fun h19 =>
  ldR 1 7 a0 h19 fun x20 =>
  ldI 34 250 x20 h19 fun x21 =>
  stI 1 6 a0 x21 h19 fun h22 =>
  nwO 37 9 h22 fun p23 h24 =>
  ldR 1 7 a0 h24 fun x25 =>
  ldR 1 3 a0 h24 fun x26 =>
  if kc h24 p23 = 37 then
  bd (f_X38_init p23 x25 x26 h24) (fun _ h27 =>
  stR 1 8 a0 p23 h27 fun h28 =>
  nwO 38 14 h28 fun p29 h30 =>
  ldR 1 7 a0 h30 fun x31 =>
  if kc h30 p29 = 38 then
  bd (f_X39_init p29 x31 h30) (fun _ h32 =>
  stR 1 9 a0 p29 h32 fun h33 =>
  nwO 40 11 h33 fun p34 h35 =>
  ldR 1 7 a0 h35 fun x36 =>
  ldR 1 3 a0 h35 fun x37 =>
  if kc h35 p34 = 40 then
  bd (f_X41_init p34 x36 x37 h35) (fun _ h38 =>
  stR 1 10 a0 p34 h38 fun h39 =>
  nwO 41 6 h39 fun p40 h41 =>
  ldR 1 7 a0 h41 fun x42 =>
  if kc h41 p40 = 41 then
  bd (f_X42_init p40 x42 h41) (fun _ h43 =>
  stR 1 11 a0 p40 h43 fun h44 =>
  nwO 42 20 h44 fun p45 h46 =>
  ldR 1 3 a0 h46 fun x47 =>
  ldR 1 8 a0 h46 fun x48 =>
  if kc h46 p45 = 42 then
  bd (f_X43_init p45 x47 x48 h46) (fun _ h49 =>
  stR 1 12 a0 p45 h49 fun h50 =>
  bd (f_X0_declare_l181 a0 NN (0 : Int32) (10 : Int32) h50) (fun x51 h52 => rok x51 h52))
  else none)
  else none)
  else none)
  else none)
  else none)
  else none) (fun h7 =>
  ldR 1 3 a0 h7 fun x8 =>
  ldI 2 29 x8 h7 fun x9 =>
  stI 1 16 a0 x9 h7 fun h10 =>
  stI 1 2 a0 (0 : Int32) h10 fun h11 =>
  ldR 1 3 a0 h11 fun x12 =>
  ldI 2 28 x12 h11 fun x13 =>
  rok (-x13) h11)
  else none)
  else none)
  else
  (rok (-13 : Int32) h1)
noncomputable def f_X35_end (a0 : Nat) (a1 : Nat) (h : HP) : Rs Unit :=
  ldR 34 259 a0 h fun x1 =>
  eqR h x1 a1
  (stR 34 259 a0 0 h fun h3 =>
  stI 35 264 a1 (0 : Int32) h3 fun h4 =>
  rok () h4)
  (stI 35 264 a1 (0 : Int32) h fun h2 =>
  rok () h2)
noncomputable def f_X35_drop_l2b42 (v0 : Nat) (v1 : Nat) (ih : Int32 → HP → Rs Unit) (a2 : Int32) (h : HP) : Rs Unit :=
  lt3 (a2 + 1) fun x1 =>
  ih x1 h
noncomputable def b_X35_drop_l2 (v0 : Nat) (v1 : Nat) (ih : Int32 → HP → Rs Unit) (a2 : Int32) (h : HP) : Rs Unit :=
  ldI 34 250 v0 h fun x1 =>
  if x1 ≤ a2 then
  (rok () h)
  else
  (ldR 34 249 v0 h fun x2 =>
  aldR 8 x2 a2 h fun x3 =>
  if x3 = 0 then
  (f_X35_drop_l2b42 v0 v1 ih a2 h)
  else
  (ldR 34 249 v0 h fun x4 =>
  aldR 8 x4 a2 h fun x5 =>
  ldI 36 280 x5 h fun x6 =>
  ldI 35 264 v1 h fun x7 =>
  if x6 = x7 then
  (ldR 34 249 v0 h fun x8 =>
  astO 8 36 x8 a2 0 h fun h9 =>
  f_X35_drop_l2b42 v0 v1 ih a2 h9)
  else
  (f_X35_drop_l2b42 v0 v1 ih a2 h)))
noncomputable def f_X35_drop_l2 (v0 : Nat) (v1 : Nat) (n : Nat) : Int32 → HP → Rs Unit := @Nat.rec (fun _ => Int32 → HP → Rs Unit) (fun _ _ => none) (fun _ ih => b_X35_drop_l2 v0 v1 ih) n
noncomputable def f_X35_drop (a0 : Nat) (a1 : Nat) (h : HP) : Rs Unit :=
  bd (f_X35_drop_l2 a0 a1 NN (1 : Int32) h) (fun x1 h2 => if kc h2 a0 = 34 then
  bd (f_X35_end a0 a1 h2) (fun _ h3 =>
  rok () h3)
  else none)
noncomputable def f_X35_open_l2b32 (v0 : Nat) (v1 : Int32) (ih : Int32 → HP → Rs (Int32 ⊕ Unit)) (a2 : Int32) (h : HP) : Rs (Int32 ⊕ Unit) :=
  lt3 (a2 + 1) fun x1 =>
  ih x1 h
noncomputable def b_X35_open_l2 (v0 : Nat) (v1 : Int32) (ih : Int32 → HP → Rs (Int32 ⊕ Unit)) (a2 : Int32) (h : HP) : Rs (Int32 ⊕ Unit) :=
  if (8 : Int32) ≤ a2 then
  (rok (Sum.inr ()) h)
  else
  (if v1 ≤ 0 then
  (f_X35_open_l2b32 v0 v1 ih a2 h)
  else
  (ldR 34 253 v0 h fun x1 =>
  aldR 5 x1 a2 h fun x2 =>
  ldI 35 264 x2 h fun x3 =>
  if x3 = v1 then
  (rok (Sum.inl a2) h)
  else
  (f_X35_open_l2b32 v0 v1 ih a2 h)))
noncomputable def f_X35_open_l2 (v0 : Nat) (v1 : Int32) (n : Nat) : Int32 → HP → Rs (Int32 ⊕ Unit) := @Nat.rec (fun _ => Int32 → HP → Rs (Int32 ⊕ Unit)) (fun _ _ => none) (fun _ ih => b_X35_open_l2 v0 v1 ih) n
noncomputable def f_X35_open (a0 : Nat) (a1 : Int32) (h : HP) : Rs Nat :=
  bd (f_X35_open_l2 a0 a1 NN (0 : Int32) h) (Sum.elim (fun x1 => fun h2 => ldR 34 253 a0 h2 fun x3 =>
  aldR 5 x3 x1 h2 fun x4 =>
  rok x4 h2) (fun x5 => fun h6 => rok 0 h6))
noncomputable def f_X35_find (a0 : Nat) (a1 : Int32) (h : HP) : Rs Nat :=
  if kc h a0 = 34 then
  bd (f_X35_open a0 a1 h) (fun x1 h2 =>
  rok x1 h2)
  else none
noncomputable def f_X0_drop_b19 (a0 : Nat) (s0 : Nat) (h : HP) : Rs Int32 :=
  if s0 = 0 then
  (rok (0 : Int32) h)
  else
  (ldR 1 7 a0 h fun x1 =>
  if kc h x1 = 34 then
  bd (f_X35_drop x1 s0 h) (fun _ h2 =>
  rok (1 : Int32) h2)
  else none)
noncomputable def f_X0_drop (a0 : Nat) (a1 : Int32) (h : HP) : Rs Int32 :=
  if kc h a0 = 1 then
  bd (f_X0_isShut a0 h) (fun x1 h2 =>
  if x1 = 0 then
  (ldR 1 7 a0 h2 fun x3 =>
  if kc h2 x3 = 34 then
  bd (f_X35_find x3 a1 h2) (fun x4 h5 =>
  f_X0_drop_b19  a0 x4 h5)
  else none)
  else
  (f_X0_drop_b19  a0 0 h2))
  else none
noncomputable def f_X0_element (a0 : Nat) (a1 : Int32) (a2 : Int32) (h : HP) : Rs Int64 :=
  if kc h a0 = 1 then
  bd (f_X0_partRefusal a0 a1 a2 (1 : Int32) h) (fun x1 h2 =>
  stI 1 21 a0 x1 h2 fun h3 =>
  ldI 1 21 a0 h3 fun x4 =>
  if x4 ≤ 0 then
  (ldR 1 7 a0 h3 fun x5 =>
  if kc h3 x5 = 34 then
  bd (f_X35_read x5 a1 a2 h3) (fun x6 h7 =>
  rok x6 h7)
  else none)
  else
  (rok (0 : Int64) h3))
  else none
noncomputable def f_X0_end (a0 : Nat) (a1 : Int32) (h : HP) : Rs Int32 :=
  if a1 < 0 then
  (rok (-1 : Int32) h)
  else
  (ldI 1 2 a0 h fun x1 =>
  if a1 ≤ x1 then
  (stI 1 2 a0 a1 h fun h2 =>
  rok a1 h2)
  else
  (rok (-1 : Int32) h))
noncomputable def b_X0_four_l3 (v0 : Nat) (v1 : Int32) (ih : Int32 → HP → Rs Unit) (a2 : Int32) (h : HP) : Rs Unit :=
  if a2 < 0 then
  (rok () h)
  else
  (ldR 1 1 v0 h fun x1 =>
  ldI 1 2 v0 h fun x2 =>
  astI 1 x1 x2 (vp_nar .byte (Int8.toInt32 (Int32.toInt8 (v1 >>> (a2 &&& 31))))) h fun h3 =>
  ldI 1 2 v0 h3 fun x4 =>
  stI 1 2 v0 (x4 + (1 : Int32)) h3 fun h5 =>
  lt3 (a2 + (-8)) fun x6 =>
  ih x6 h5)
noncomputable def f_X0_four_l3 (v0 : Nat) (v1 : Int32) (n : Nat) : Int32 → HP → Rs Unit := @Nat.rec (fun _ => Int32 → HP → Rs Unit) (fun _ _ => none) (fun _ ih => b_X0_four_l3 v0 v1 ih) n
noncomputable def f_X0_four (a0 : Nat) (a1 : Int32) (h : HP) : Rs Unit :=
  bd (f_X0_four_l3 a0 a1 NN (24 : Int32) h) (fun x1 h2 => rok () h2)
noncomputable def f_X0_feed (a0 : Nat) (a1 : Int32) (a2 : Int32) (a3 : Int32) (a4 : Int32) (a5 : Int32) (h : HP) : Rs Int32 :=
  ldI 1 2 a0 h fun x1 =>
  if (x1 + (20 : Int32)) ≤ (65540 : Int32) then
  (if kc h a0 = 1 then
  bd (f_X0_four a0 a1 h) (fun _ h2 =>
  if kc h2 a0 = 1 then
  bd (f_X0_four a0 a2 h2) (fun _ h3 =>
  if kc h3 a0 = 1 then
  bd (f_X0_four a0 a3 h3) (fun _ h4 =>
  if kc h4 a0 = 1 then
  bd (f_X0_four a0 a4 h4) (fun _ h5 =>
  if kc h5 a0 = 1 then
  bd (f_X0_four a0 a5 h5) (fun _ h6 =>
  ldI 1 2 a0 h6 fun x7 =>
  rok x7 h6)
  else none)
  else none)
  else none)
  else none)
  else none)
  else
  (rok (-1 : Int32) h)
noncomputable def f_X0_fields (a0 : Nat) (a1 : Int32) (h : HP) : Rs Int32 :=
  if kc h a0 = 1 then
  bd (f_X0_isShut a0 h) (fun x1 h2 =>
  if x1 = 0 then
  (ldR 1 4 a0 h2 fun x3 =>
  if kc h2 x3 = 3 then
  bd (f_X2_has x3 a1 h2) (fun x4 h5 =>
  if x4 = 0 then
  (rok (-14 : Int32) h5)
  else
  (ldR 1 4 a0 h5 fun x6 =>
  if kc h5 x6 = 3 then
  bd (f_X2_get x6 a1 h5) (fun x7 h8 =>
  ldR 4 44 x7 h8 fun x9 =>
  lsSize x9 h8 fun x10 =>
  rok x10 h8)
  else none))
  else none)
  else
  (rok (-13 : Int32) h2))
  else none
noncomputable def f_X0_field (a0 : Nat) (a1 : Int32) (a2 : Int32) (h : HP) : Rs Int32 :=
  if kc h a0 = 1 then
  bd (f_X0_fields a0 a1 h) (fun x1 h2 =>
  if 0 ≤ x1 then
  (if a2 < 0 then
  (rok (-14 : Int32) h2)
  else
  (if x1 ≤ a2 then
  (rok (-14 : Int32) h2)
  else
  (ldR 1 4 a0 h2 fun x3 =>
  if kc h2 x3 = 3 then
  bd (f_X2_get x3 a1 h2) (fun x4 h5 =>
  ldR 4 44 x4 h5 fun x6 =>
  lsGet x6 a2 h5 fun x7 =>
  castR [31] x7 h5 (
  ldR 31 235 x7 h5 fun x8 =>
  ldI 4 31 x8 h5 fun x9 =>
  rok x9 h5))
  else none)))
  else
  (rok x1 h2))
  else none
noncomputable def f_X0_fits (a0 : Nat) (a1 : Int32) (a2 : Int32) (h : HP) : Rs Int32 :=
  if kc h a0 = 1 then
  bd (f_X0_isShut a0 h) (fun x1 h2 =>
  if x1 = 0 then
  (ldR 1 4 a0 h2 fun x3 =>
  if kc h2 x3 = 3 then
  bd (f_X2_has x3 a1 h2) (fun x4 h5 =>
  if x4 = 0 then
  (rok (-14 : Int32) h5)
  else
  (ldR 1 4 a0 h5 fun x6 =>
  if kc h5 x6 = 3 then
  bd (f_X2_has x6 a2 h5) (fun x7 h8 =>
  if x7 = 0 then
  (rok (-14 : Int32) h8)
  else
  (ldR 1 4 a0 h8 fun x9 =>
  if kc h8 x9 = 3 then
  bd (f_X2_get x9 a1 h8) (fun x10 h11 =>
  ldR 1 4 a0 h11 fun x12 =>
  if kc h11 x12 = 3 then
  bd (f_X2_get x12 a2 h11) (fun x13 h14 =>
  if kc h14 x10 = 4 then
  bd (f_X3_fits x10 x13 h14) (fun x15 h16 =>
  if x15 = 0 then
  (rok (0 : Int32) h16)
  else
  (rok (1 : Int32) h16))
  else none)
  else none)
  else none))
  else none))
  else none)
  else
  (rok (-13 : Int32) h2))
  else none
noncomputable def f_X0_found (a0 : Nat) (a1 : Int32) (h : HP) : Rs Int32 :=
  if a1 < 0 then
  (rok (0 : Int32) h)
  else
  (ldI 1 26 a0 h fun x1 =>
  if x1 ≤ a1 then
  (rok (0 : Int32) h)
  else
  (ldR 1 24 a0 h fun x2 =>
  aldI 0 x2 a1 h fun x3 =>
  rok x3 h))
noncomputable def f_X0_get (a0 : Nat) (a1 : Int32) (a2 : Int32) (h : HP) : Rs Int64 :=
  if kc h a0 = 1 then
  bd (f_X0_partRefusal a0 a1 a2 (0 : Int32) h) (fun x1 h2 =>
  stI 1 21 a0 x1 h2 fun h3 =>
  ldI 1 21 a0 h3 fun x4 =>
  if x4 ≤ 0 then
  (ldR 1 7 a0 h3 fun x5 =>
  if kc h3 x5 = 34 then
  bd (f_X35_read x5 a1 a2 h3) (fun x6 h7 =>
  rok x6 h7)
  else none)
  else
  (rok (0 : Int64) h3))
  else none
noncomputable def f_X1_init (a0 : Nat) (h : HP) : Rs Unit :=
  if a0 = 0 then none else (
  nwE h fun p1 h2 =>
  isInit p1 h2 fun h3 =>
  stR 2 27 a0 p1 h3 fun h4 =>
  rok () h4)
noncomputable def f_X0_init (a0 : Nat) (h : HP) : Rs Unit :=
  if a0 = 0 then none else (
  nwA 961 (65540 : Int32) h fun p1 h2 =>
  stR 1 1 a0 p1 h2 fun h3 =>
  nwO 2 3 h3 fun p4 h5 =>
  if kc h5 p4 = 2 then
  bd (f_X1_init p4 h5) (fun _ h6 =>
  stR 1 3 a0 p4 h6 fun h7 =>
  nwO 3 1 h7 fun p8 h9 =>
  if kc h9 p8 = 3 then
  bd (f_X2_init p8 h9) (fun _ h10 =>
  stR 1 4 a0 p8 h10 fun h11 =>
  stI 1 6 a0 (1 : Int32) h11 fun h12 =>
  nwC 129 3 h12 fun p13 h14 =>
  lsInitN p13 (8 : Int32) h14 fun h15 =>
  stR 1 13 a0 p13 h15 fun h16 =>
  stI 1 16 a0 (-1 : Int32) h16 fun h17 =>
  stI 1 17 a0 (-1 : Int32) h17 fun h18 =>
  nwA 980 (40 : Int32) h18 fun p19 h20 =>
  stR 1 18 a0 p19 h20 fun h21 =>
  nwA 1003 (40 : Int32) h21 fun p22 h23 =>
  stR 1 19 a0 p22 h23 fun h24 =>
  nwA 1020 (4000 : Int32) h24 fun p25 h26 =>
  stR 1 24 a0 p25 h26 fun h27 =>
  nwA 1040 (4000 : Int32) h27 fun p28 h29 =>
  stR 1 25 a0 p28 h29 fun h30 =>
  stI 1 5 a0 (0 : Int32) h30 fun h31 =>
  rok () h31)
  else none)
  else none)
noncomputable def f_X35_isOfRead_l2b37 (v0 : Nat) (v1 : Nat) (v2 : Nat) (ih : Int32 → HP → Rs (Unit ⊕ Unit)) (a3 : Int32) (h : HP) : Rs (Unit ⊕ Unit) :=
  lt3 (a3 + 1) fun x1 =>
  ih x1 h
noncomputable def b_X35_isOfRead_l2 (v0 : Nat) (v1 : Nat) (v2 : Nat) (ih : Int32 → HP → Rs (Unit ⊕ Unit)) (a3 : Int32) (h : HP) : Rs (Unit ⊕ Unit) :=
  ldR 35 269 v2 h fun x1 =>
  alen x1 h fun x2 =>
  if x2 ≤ a3 then
  (rok (Sum.inr ()) h)
  else
  (ldR 35 269 v2 h fun x3 =>
  aldI 2 x3 a3 h fun x4 =>
  if x4 = 0 then
  (f_X35_isOfRead_l2b37 v0 v1 v2 ih a3 h)
  else
  (ldR 34 247 v0 h fun x5 =>
  if kc h x5 = 3 then
  bd (f_X2_get x5 a3 h) (fun x6 h7 =>
  if kc h7 v1 = 4 then
  bd (f_X3_isBelow 100 v1 x6 h7) (fun x8 h9 =>
  if x8 = 0 then
  (f_X35_isOfRead_l2b37 v0 v1 v2 ih a3 h9)
  else
  (rok (Sum.inl ()) h9))
  else none)
  else none))
noncomputable def f_X35_isOfRead_l2 (v0 : Nat) (v1 : Nat) (v2 : Nat) (n : Nat) : Int32 → HP → Rs (Unit ⊕ Unit) := @Nat.rec (fun _ => Int32 → HP → Rs (Unit ⊕ Unit)) (fun _ _ => none) (fun _ ih => b_X35_isOfRead_l2 v0 v1 v2 ih) n
noncomputable def f_X35_isOfRead (a0 : Nat) (a1 : Nat) (a2 : Nat) (h : HP) : Rs Int32 :=
  bd (f_X35_isOfRead_l2 a0 a1 a2 NN (0 : Int32) h) (Sum.elim (fun x1 => fun h2 => rok (1 : Int32) h2) (fun x3 => fun h4 => rok (0 : Int32) h4))
noncomputable def f_X35_clash_l2b41 (v0 : Nat) (v1 : Nat) (ih : Int32 → HP → Rs (Unit ⊕ Unit)) (a2 : Int32) (h : HP) : Rs (Unit ⊕ Unit) :=
  lt3 (a2 + 1) fun x1 =>
  ih x1 h
noncomputable def b_X35_clash_l2 (v0 : Nat) (v1 : Nat) (ih : Int32 → HP → Rs (Unit ⊕ Unit)) (a2 : Int32) (h : HP) : Rs (Unit ⊕ Unit) :=
  if (16 : Int32) ≤ a2 then
  (rok (Sum.inr ()) h)
  else
  (ldR 34 258 v0 h fun x1 =>
  aldI 0 x1 a2 h fun x2 =>
  ldI 35 265 v1 h fun x3 =>
  if x2 ≤ x3 then
  (f_X35_clash_l2b41 v0 v1 ih a2 h)
  else
  (ldR 35 271 v1 h fun x4 =>
  aldI 2 x4 a2 h fun x5 =>
  if x5 = 0 then
  (ldR 35 272 v1 h fun x6 =>
  aldI 2 x6 a2 h fun x7 =>
  if x7 = 0 then
  (f_X35_clash_l2b41 v0 v1 ih a2 h)
  else
  (rok (Sum.inl ()) h))
  else
  (rok (Sum.inl ()) h)))
noncomputable def f_X35_clash_l2 (v0 : Nat) (v1 : Nat) (n : Nat) : Int32 → HP → Rs (Unit ⊕ Unit) := @Nat.rec (fun _ => Int32 → HP → Rs (Unit ⊕ Unit)) (fun _ _ => none) (fun _ ih => b_X35_clash_l2 v0 v1 ih) n
noncomputable def f_X35_clash_l49b141 (v0 : Nat) (v1 : Nat) (ih : Int32 → HP → Rs (Int32 ⊕ Int32 ⊕ Unit)) (a2 : Int32) (h : HP) : Rs (Int32 ⊕ Int32 ⊕ Unit) :=
  lt3 (a2 + 1) fun x1 =>
  ih x1 h
noncomputable def f_X35_clash_l49b109 (v0 : Nat) (v1 : Nat) (ih : Int32 → HP → Rs (Int32 ⊕ Int32 ⊕ Unit)) (a2 : Int32) (a3 : Nat) (h : HP) : Rs (Int32 ⊕ Int32 ⊕ Unit) :=
  ldI 36 281 a3 h fun x1 =>
  ldI 35 265 v1 h fun x2 =>
  if x1 ≤ x2 then
  (f_X35_clash_l49b141 v0 v1 ih a2 h)
  else
  (if kc h a3 = 36 then
  bd (f_X37_isText a3 h) (fun x3 h4 =>
  if x3 = 0 then
  (ldR 36 274 a3 h4 fun x5 =>
  if kc h4 v0 = 34 then
  bd (f_X35_isOfRead v0 x5 v1 h4) (fun x6 h7 =>
  if x6 = 0 then
  (f_X35_clash_l49b141 v0 v1 ih a2 h7)
  else
  (rok (Sum.inr (Sum.inl a2)) h7))
  else none)
  else
  (f_X35_clash_l49b141 v0 v1 ih a2 h4))
  else none)
noncomputable def b_X35_clash_l49 (v0 : Nat) (v1 : Nat) (ih : Int32 → HP → Rs (Int32 ⊕ Int32 ⊕ Unit)) (a2 : Int32) (h : HP) : Rs (Int32 ⊕ Int32 ⊕ Unit) :=
  ldI 34 250 v0 h fun x1 =>
  if x1 ≤ a2 then
  (rok (Sum.inr (Sum.inr ())) h)
  else
  (ldR 34 249 v0 h fun x2 =>
  aldR 8 x2 a2 h fun x3 =>
  if x3 = 0 then
  (f_X35_clash_l49b141 v0 v1 ih a2 h)
  else
  (ldI 36 280 x3 h fun x4 =>
  if x4 ≤ 0 then
  (ldI 36 282 x3 h fun x5 =>
  ldI 35 265 v1 h fun x6 =>
  if x5 ≤ x6 then
  (f_X35_clash_l49b109 v0 v1 ih a2 x3 h)
  else
  (ldR 35 267 v1 h fun x7 =>
  aldI 2 x7 a2 h fun x8 =>
  if x8 = 0 then
  (ldR 35 268 v1 h fun x9 =>
  aldI 2 x9 a2 h fun x10 =>
  if x10 = 0 then
  (f_X35_clash_l49b109 v0 v1 ih a2 x3 h)
  else
  (rok (Sum.inl a2) h))
  else
  (rok (Sum.inl a2) h)))
  else
  (f_X35_clash_l49b141 v0 v1 ih a2 h)))
noncomputable def f_X35_clash_l49 (v0 : Nat) (v1 : Nat) (n : Nat) : Int32 → HP → Rs (Int32 ⊕ Int32 ⊕ Unit) := @Nat.rec (fun _ => Int32 → HP → Rs (Int32 ⊕ Int32 ⊕ Unit)) (fun _ _ => none) (fun _ ih => b_X35_clash_l49 v0 v1 ih) n
noncomputable def f_X35_clash (a0 : Nat) (a1 : Nat) (h : HP) : Rs Int32 :=
  bd (f_X35_clash_l2 a0 a1 NN (0 : Int32) h) (Sum.elim (fun x1 => fun h2 => rok (0 : Int32) h2) (fun x3 => fun h4 => bd (f_X35_clash_l49 a0 a1 NN (1 : Int32) h4) (Sum.elim (fun x5 => fun h6 => rok x5 h6) (Sum.elim (fun x7 => fun h8 => rok x7 h8) (fun x9 => fun h10 => rok (-1 : Int32) h10)))))
noncomputable def f_X35_keep_l12b118 (v0 : Nat) (v1 : Nat) (ih : Int32 → HP → Rs Unit) (a2 : Int32) (h : HP) : Rs Unit :=
  lt3 (a2 + 1) fun x1 =>
  ih x1 h
noncomputable def f_X35_keep_l12b59 (v0 : Nat) (v1 : Nat) (ih : Int32 → HP → Rs Unit) (a2 : Int32) (a3 : Nat) (s0 : Int32) (h : HP) : Rs Unit :=
  nwO 60 3 h fun p1 h2 =>
  ldI 34 256 v0 h2 fun x3 =>
  ldR 35 266 v1 h2 fun x4 =>
  aldR 7 x4 a2 h2 fun x5 =>
  ldR 60 444 x5 h2 fun x6 =>
  ldR 36 283 a3 h2 fun x7 =>
  if kc h2 p1 = 60 then
  bd (f_X62_init p1 x3 x6 x7 h2) (fun _ h8 =>
  stR 36 283 a3 p1 h8 fun h9 =>
  if s0 = 0 then
  (ldI 34 256 v0 h9 fun x10 =>
  stI 36 282 a3 x10 h9 fun h11 =>
  f_X35_keep_l12b118 v0 v1 ih a2 h11)
  else
  (stI 36 280 a3 (0 : Int32) h9 fun h12 =>
  ldI 34 256 v0 h12 fun x13 =>
  stI 36 281 a3 x13 h12 fun h14 =>
  f_X35_keep_l12b118 v0 v1 ih a2 h14))
  else none
noncomputable def b_X35_keep_l12 (v0 : Nat) (v1 : Nat) (ih : Int32 → HP → Rs Unit) (a2 : Int32) (h : HP) : Rs Unit :=
  ldI 34 250 v0 h fun x1 =>
  if x1 ≤ a2 then
  (rok () h)
  else
  (ldR 34 249 v0 h fun x2 =>
  aldR 8 x2 a2 h fun x3 =>
  if x3 = 0 then
  (f_X35_keep_l12b118 v0 v1 ih a2 h)
  else
  (ldR 35 266 v1 h fun x4 =>
  aldR 7 x4 a2 h fun x5 =>
  if x5 = 0 then
  (f_X35_keep_l12b118 v0 v1 ih a2 h)
  else
  (ldI 36 280 x3 h fun x6 =>
  ldI 35 264 v1 h fun x7 =>
  if x6 = x7 then
  (f_X35_keep_l12b59 v0 v1 ih a2 x3 (1 : Int32) h)
  else
  (f_X35_keep_l12b59 v0 v1 ih a2 x3 (0 : Int32) h))))
noncomputable def f_X35_keep_l12 (v0 : Nat) (v1 : Nat) (n : Nat) : Int32 → HP → Rs Unit := @Nat.rec (fun _ => Int32 → HP → Rs Unit) (fun _ _ => none) (fun _ ih => b_X35_keep_l12 v0 v1 ih) n
noncomputable def f_X35_keep_l126b199 (v0 : Nat) (v1 : Nat) (ih : Int32 → HP → Rs Unit) (a2 : Int32) (h : HP) : Rs Unit :=
  lt3 (a2 + 1) fun x1 =>
  ih x1 h
noncomputable def f_X35_keep_l126b179 (v0 : Nat) (v1 : Nat) (ih : Int32 → HP → Rs Unit) (a2 : Int32) (s0 : Nat) (s1 : Int32) (s2 : Int32) (h : HP) : Rs Unit :=
  astI 0 s0 s1 s2 h fun h1 =>
  ldR 35 272 v1 h1 fun x2 =>
  aldI 2 x2 a2 h1 fun x3 =>
  if x3 = 0 then
  (f_X35_keep_l126b199 v0 v1 ih a2 h1)
  else
  (ldR 34 258 v0 h1 fun x4 =>
  ldI 34 256 v0 h1 fun x5 =>
  astI 0 x4 a2 x5 h1 fun h6 =>
  f_X35_keep_l126b199 v0 v1 ih a2 h6)
noncomputable def b_X35_keep_l126 (v0 : Nat) (v1 : Nat) (ih : Int32 → HP → Rs Unit) (a2 : Int32) (h : HP) : Rs Unit :=
  if (16 : Int32) ≤ a2 then
  (rok () h)
  else
  (ldR 34 257 v0 h fun x1 =>
  ldI 34 256 v0 h fun x2 =>
  ldR 35 272 v1 h fun x3 =>
  aldI 2 x3 a2 h fun x4 =>
  if x4 = 0 then
  (ldR 34 257 v0 h fun x5 =>
  ldI 34 256 v0 h fun x6 =>
  aldI 0 x5 (((16 : Int32) * (x6 - (1 : Int32))) + a2) h fun x7 =>
  f_X35_keep_l126b179 v0 v1 ih a2 x1 (((16 : Int32) * x2) + a2) x7 h)
  else
  (ldR 35 270 v1 h fun x8 =>
  aldI 0 x8 a2 h fun x9 =>
  f_X35_keep_l126b179 v0 v1 ih a2 x1 (((16 : Int32) * x2) + a2) x9 h))
noncomputable def f_X35_keep_l126 (v0 : Nat) (v1 : Nat) (n : Nat) : Int32 → HP → Rs Unit := @Nat.rec (fun _ => Int32 → HP → Rs Unit) (fun _ _ => none) (fun _ ih => b_X35_keep_l126 v0 v1 ih) n
noncomputable def f_X35_keep (a0 : Nat) (a1 : Nat) (h : HP) : Rs Unit :=
  ldI 34 256 a0 h fun x1 =>
  stI 34 256 a0 (x1 + (1 : Int32)) h fun h2 =>
  bd (f_X35_keep_l12 a0 a1 NN (1 : Int32) h2) (fun x3 h4 => bd (f_X35_keep_l126 a0 a1 NN (0 : Int32) h4) (fun x5 h6 => if kc h6 a0 = 34 then
  bd (f_X35_end a0 a1 h6) (fun _ h7 =>
  rok () h7)
  else none))
noncomputable def f_X40_put (a0 : Nat) (a1 : Int32) (h : HP) : Rs Int32 :=
  ldI 39 308 a0 h fun x1 =>
  ldR 39 307 a0 h fun x2 =>
  alen x2 h fun x3 =>
  if x1 = x3 then
  (rok (0 : Int32) h)
  else
  (ldR 39 307 a0 h fun x4 =>
  ldI 39 308 a0 h fun x5 =>
  astI 1 x4 x5 (vp_nar .byte (Int8.toInt32 (Int32.toInt8 a1))) h fun h6 =>
  ldI 39 308 a0 h6 fun x7 =>
  stI 39 308 a0 (x7 + (1 : Int32)) h6 fun h8 =>
  rok (1 : Int32) h8)
noncomputable def f_X40_number_l8b38 (v0 : Nat) (v1 : Int64) (ih : Int32 → Int32 → HP → Rs Int32) (a5 : Int32) (s0 : Int32) (h : HP) : Rs Int32 :=
  lt3 (a5 + (-1)) fun x1 =>
  ih s0 x1 h
noncomputable def f_X40_number_l8b37 (v0 : Nat) (v1 : Int64) (ih : Int32 → Int32 → HP → Rs Int32) (a5 : Int32) (h : HP) : Rs Int32 :=
  f_X40_number_l8b38 v0 v1 ih a5 (0 : Int32) h
noncomputable def b_X40_number_l8 (v0 : Nat) (v1 : Int64) (ih : Int32 → Int32 → HP → Rs Int32) (a4 : Int32) (a5 : Int32) (h : HP) : Rs Int32 :=
  if a5 < 0 then
  (rok a4 h)
  else
  (if kc h v0 = 39 then
  bd (f_X40_put v0 (Int64.toInt32 (v1 >>> (Int32.toInt64 ((8 : Int32) * a5) &&& 63))) h) (fun x1 h2 =>
  if x1 = 0 then
  (f_X40_number_l8b37 v0 v1 ih a5 h2)
  else
  (if a4 = 0 then
  (f_X40_number_l8b37 v0 v1 ih a5 h2)
  else
  (f_X40_number_l8b38 v0 v1 ih a5 (1 : Int32) h2)))
  else none)
noncomputable def f_X40_number_l8 (v0 : Nat) (v1 : Int64) (n : Nat) : Int32 → Int32 → HP → Rs Int32 := @Nat.rec (fun _ => Int32 → Int32 → HP → Rs Int32) (fun _ _ _ => none) (fun _ ih => b_X40_number_l8 v0 v1 ih) n
noncomputable def f_X40_number (a0 : Nat) (a1 : Int64) (a3 : Int32) (h : HP) : Rs Int32 :=
  lt3 (a3 - (1 : Int32)) fun x1 =>
  bd (f_X40_number_l8 a0 a1 NN (1 : Int32) x1 h) (fun x2 h3 => rokZ x2 h3)
noncomputable def b_X42_sum_l5 (v0 : Nat) (v2 : Int32) (ih : Int64 → Int32 → HP → Rs Int64) (a3 : Int64) (a5 : Int32) (h : HP) : Rs Int64 :=
  if v2 ≤ a5 then
  (rok a3 h)
  else
  (aldI 1 v0 a5 h fun x1 =>
  lt3 (a3 ^^^ (Int32.toInt64 (x1 &&& (255 : Int32)))) fun x2 =>
  lt3 (((x2 <<< (Int32.toInt64 (27 : Int32) &&& 63)) ||| (UInt64.toInt64 (Int64.toUInt64 x2 >>> (Int64.toUInt64 (Int32.toInt64 (37 : Int32)) &&& Int64.toUInt64 63)))) * (-7046029254386353131 : Int64)) fun x3 =>
  lt3 (a5 + 1) fun x4 =>
  ih x3 x4 h)
noncomputable def f_X42_sum_l5 (v0 : Nat) (v2 : Int32) (n : Nat) : Int64 → Int32 → HP → Rs Int64 := @Nat.rec (fun _ => Int64 → Int32 → HP → Rs Int64) (fun _ _ _ => none) (fun _ ih => b_X42_sum_l5 v0 v2 ih) n
noncomputable def f_X42_sum (a0 : Nat) (a1 : Int32) (a2 : Int32) (h : HP) : Rs Int64 :=
  bd (f_X42_sum_l5 a0 a2 NN (0 : Int64) a1 h) (fun x1 h2 => rok x1 h2)
noncomputable def b_X42_finish_l119 (v0 : Nat) (v1 : Int32) (v6 : Int32) (ih : Int32 → HP → Rs Unit) (a7 : Int32) (h : HP) : Rs Unit :=
  ldR 41 321 v0 h fun x1 =>
  ldI 39 308 x1 h fun x2 =>
  if x2 ≤ a7 then
  (rok () h)
  else
  (ldR 41 322 v0 h fun x3 =>
  ldR 39 307 x3 h fun x4 =>
  ldR 41 321 v0 h fun x5 =>
  ldR 39 307 x5 h fun x6 =>
  aldI 1 x6 a7 h fun x7 =>
  astI 1 x4 a7 (vp_nar .byte x7) h fun h8 =>
  lt3 (a7 + 1) fun x9 =>
  ih x9 h8)
noncomputable def f_X42_finish_l119 (v0 : Nat) (v1 : Int32) (v6 : Int32) (n : Nat) : Int32 → HP → Rs Unit := @Nat.rec (fun _ => Int32 → HP → Rs Unit) (fun _ _ => none) (fun _ ih => b_X42_finish_l119 v0 v1 v6 ih) n
noncomputable def f_X42_finish_b114 (a0 : Nat) (a1 : Int32) (s0 : Int32) (h : HP) : Rs Int32 :=
  bd (f_X42_finish_l119 a0 a1 s0 NN a1 h) (fun x1 h2 => ldR 41 322 a0 h2 fun x3 =>
  ldR 41 321 a0 h2 fun x4 =>
  ldI 39 308 x4 h2 fun x5 =>
  stI 39 308 x3 x5 h2 fun h6 =>
  stI 41 323 a0 a1 h6 fun h7 =>
  rokZ s0 h7)
noncomputable def f_X42_finish_b113 (a0 : Nat) (a1 : Int32) (h : HP) : Rs Int32 :=
  f_X42_finish_b114  a0 a1 (0 : Int32) h
noncomputable def f_X42_finish_b26 (a0 : Nat) (a1 : Int32) (a3 : Int32) (s0 : Int32) (h : HP) : Rs Int32 :=
  if s0 = 0 then
  (ldR 41 321 a0 h fun x16 =>
  stI 39 308 x16 a1 h fun h17 =>
  rok (0 : Int32) h17)
  else
  (lt3 ((a3 + (8 : Int32)) - a1) fun x1 =>
  ldR 41 321 a0 h fun x2 =>
  stI 39 308 x2 a1 h fun h3 =>
  ldR 41 321 a0 h3 fun x4 =>
  if kc h3 x4 = 39 then
  bd (f_X40_number x4 (Int32.toInt64 x1) (4 : Int32) h3) (fun x5 h6 =>
  ldR 41 321 a0 h6 fun x7 =>
  stI 39 308 x7 a3 h6 fun h8 =>
  ldR 41 321 a0 h8 fun x9 =>
  ldR 41 321 a0 h8 fun x10 =>
  ldR 39 307 x10 h8 fun x11 =>
  bd (f_X42_sum x11 a1 a3 h8) (fun x12 h13 =>
  if kc h13 x9 = 39 then
  bd (f_X40_number x9 x12 (8 : Int32) h13) (fun x14 h15 =>
  if x14 = 0 then
  (f_X42_finish_b113  a0 a1 h15)
  else
  (if x5 = 0 then
  (f_X42_finish_b113  a0 a1 h15)
  else
  (f_X42_finish_b114  a0 a1 (1 : Int32) h15)))
  else none))
  else none)
noncomputable def f_X42_finish_b25 (a0 : Nat) (a1 : Int32) (a3 : Int32) (h : HP) : Rs Int32 :=
  f_X42_finish_b26  a0 a1 a3 (0 : Int32) h
noncomputable def f_X42_finish (a0 : Nat) (a1 : Int32) (a2 : Int32) (h : HP) : Rs Int32 :=
  ldR 41 321 a0 h fun x1 =>
  ldI 39 308 x1 h fun x2 =>
  if a2 = 0 then
  (f_X42_finish_b25  a0 a1 x2 h)
  else
  (if (40000 : Int32) < (x2 + (8 : Int32)) then
  (f_X42_finish_b25  a0 a1 x2 h)
  else
  (f_X42_finish_b26  a0 a1 x2 (1 : Int32) h))
noncomputable def f_X42_isTold (a0 : Nat) (a1 : Nat) (a2 : Nat) (h : HP) : Rs Int32 :=
  if a1 = 0 then
  (rok (0 : Int32) h)
  else
  (ldI 36 279 a1 h fun x1 =>
  if x1 = 0 then
  (ldI 36 278 a1 h fun x2 =>
  if x2 = 0 then
  (if kc h a1 = 36 then
  bd (f_X37_isText a1 h) (fun x3 h4 =>
  if x3 = 0 then
  (ldR 35 266 a2 h4 fun x5 =>
  ldI 36 273 a1 h4 fun x6 =>
  aldR 7 x5 x6 h4 fun x7 =>
  if x7 = 0 then
  (rok (0 : Int32) h4)
  else
  (rok (1 : Int32) h4))
  else
  (ldR 41 324 a0 h4 fun x8 =>
  ldI 36 273 a1 h4 fun x9 =>
  aldI 2 x8 x9 h4 fun x10 =>
  if x10 = 0 then
  (rok (1 : Int32) h4)
  else
  (rok (0 : Int32) h4)))
  else none)
  else
  (rok (0 : Int32) h))
  else
  (rok (0 : Int32) h))
noncomputable def f_X40_letters_l4b33 (v0 : Nat) (v1 : Nat) (ih : Int32 → Int32 → HP → Rs Int32) (a3 : Int32) (s0 : Int32) (h : HP) : Rs Int32 :=
  lt3 (a3 + 1) fun x1 =>
  ih s0 x1 h
noncomputable def f_X40_letters_l4b32 (v0 : Nat) (v1 : Nat) (ih : Int32 → Int32 → HP → Rs Int32) (a3 : Int32) (h : HP) : Rs Int32 :=
  f_X40_letters_l4b33 v0 v1 ih a3 (0 : Int32) h
noncomputable def b_X40_letters_l4 (v0 : Nat) (v1 : Nat) (ih : Int32 → Int32 → HP → Rs Int32) (a2 : Int32) (a3 : Int32) (h : HP) : Rs Int32 :=
  txLen v1 h fun x1 =>
  if x1 ≤ a3 then
  (rok a2 h)
  else
  (txAt v1 a3 h fun x2 =>
  if kc h v0 = 39 then
  bd (f_X40_put v0 x2 h) (fun x3 h4 =>
  if x3 = 0 then
  (f_X40_letters_l4b32 v0 v1 ih a3 h4)
  else
  (if a2 = 0 then
  (f_X40_letters_l4b32 v0 v1 ih a3 h4)
  else
  (f_X40_letters_l4b33 v0 v1 ih a3 (1 : Int32) h4)))
  else none)
noncomputable def f_X40_letters_l4 (v0 : Nat) (v1 : Nat) (n : Nat) : Int32 → Int32 → HP → Rs Int32 := @Nat.rec (fun _ => Int32 → Int32 → HP → Rs Int32) (fun _ _ _ => none) (fun _ ih => b_X40_letters_l4 v0 v1 ih) n
noncomputable def f_X40_letters (a0 : Nat) (a1 : Nat) (h : HP) : Rs Int32 :=
  bd (f_X40_letters_l4 a0 a1 NN (1 : Int32) (0 : Int32) h) (fun x1 h2 => rokZ x1 h2)
noncomputable def b_X42_thing_l121 (v0 : Nat) (v1 : Nat) (v5 : Nat) (ih : Int32 → Int32 → HP → Rs Int32) (a4 : Int32) (a6 : Int32) (h : HP) : Rs Int32 :=
  ldI 36 275 v1 h fun x1 =>
  if x1 ≤ a6 then
  (rok a4 h)
  else
  (if a4 = 0 then
  (rok a4 h)
  else
  (ldR 41 321 v0 h fun x2 =>
  aldJ 3 v5 a6 h fun x3 =>
  if kc h x2 = 39 then
  bd (f_X40_number x2 x3 (8 : Int32) h) (fun x4 h5 =>
  lt3 (a6 + 1) fun x6 =>
  ih x4 x6 h5)
  else none))
noncomputable def f_X42_thing_l121 (v0 : Nat) (v1 : Nat) (v5 : Nat) (n : Nat) : Int32 → Int32 → HP → Rs Int32 := @Nat.rec (fun _ => Int32 → Int32 → HP → Rs Int32) (fun _ _ _ => none) (fun _ ih => b_X42_thing_l121 v0 v1 v5 ih) n
noncomputable def f_X42_thing_b70 (a0 : Nat) (a1 : Nat) (a2 : Nat) (s0 : Int32) (h : HP) : Rs Int32 :=
  if kc h a1 = 36 then
  bd (f_X37_isText a1 h) (fun x1 h2 =>
  if x1 = 0 then
  (ldR 35 266 a2 h2 fun x3 =>
  ldI 36 273 a1 h2 fun x4 =>
  aldR 7 x3 x4 h2 fun x5 =>
  ldR 60 444 x5 h2 fun x6 =>
  bd (f_X42_thing_l121 a0 a1 x6 NN s0 (0 : Int32) h2) (fun x7 h8 => rokZ x7 h8))
  else
  (ldR 41 321 a0 h2 fun x9 =>
  ldR 36 276 a1 h2 fun x10 =>
  if kc h2 x9 = 39 then
  bd (f_X40_letters x9 x10 h2) (fun x11 h12 =>
  if x11 = 0 then
  (rok (0 : Int32) h12)
  else
  (if s0 = 0 then
  (rok (0 : Int32) h12)
  else
  (rok (1 : Int32) h12)))
  else none))
  else none
noncomputable def f_X42_thing_b69 (a0 : Nat) (a1 : Nat) (a2 : Nat) (h : HP) : Rs Int32 :=
  f_X42_thing_b70  a0 a1 a2 (0 : Int32) h
noncomputable def f_X42_thing (a0 : Nat) (a1 : Nat) (a2 : Nat) (h : HP) : Rs Int32 :=
  ldR 36 274 a1 h fun x1 =>
  ldR 4 36 x1 h fun x2 =>
  ldR 41 321 a0 h fun x3 =>
  ldI 36 273 a1 h fun x4 =>
  if kc h x3 = 39 then
  bd (f_X40_number x3 (Int32.toInt64 x4) (4 : Int32) h) (fun x5 h6 =>
  if x5 = 0 then
  (f_X42_thing_b69  a0 a1 a2 h6)
  else
  (ldR 41 321 a0 h6 fun x7 =>
  txLen x2 h6 fun x8 =>
  if kc h6 x7 = 39 then
  bd (f_X40_put x7 x8 h6) (fun x9 h10 =>
  if x9 = 0 then
  (f_X42_thing_b69  a0 a1 a2 h10)
  else
  (ldR 41 321 a0 h10 fun x11 =>
  if kc h10 x11 = 39 then
  bd (f_X40_letters x11 x2 h10) (fun x12 h13 =>
  if x12 = 0 then
  (f_X42_thing_b69  a0 a1 a2 h13)
  else
  (ldR 41 321 a0 h13 fun x14 =>
  ldI 36 275 a1 h13 fun x15 =>
  if kc h13 x14 = 39 then
  bd (f_X40_number x14 (Int32.toInt64 x15) (4 : Int32) h13) (fun x16 h17 =>
  if x16 = 0 then
  (f_X42_thing_b69  a0 a1 a2 h17)
  else
  (f_X42_thing_b70  a0 a1 a2 (1 : Int32) h17))
  else none))
  else none))
  else none))
  else none
noncomputable def f_X42_keep_l43b76 (v0 : Nat) (v1 : Nat) (v2 : Int32) (v3 : Int32) (ih : Int32 → Int32 → HP → Rs Int32) (a4 : Int32) (a5 : Int32) (h : HP) : Rs Int32 :=
  lt3 (a5 + 1) fun x1 =>
  ih a4 x1 h
noncomputable def b_X42_keep_l43 (v0 : Nat) (v1 : Nat) (v2 : Int32) (v3 : Int32) (ih : Int32 → Int32 → HP → Rs Int32) (a4 : Int32) (a5 : Int32) (h : HP) : Rs Int32 :=
  ldR 41 320 v0 h fun x1 =>
  ldI 34 250 x1 h fun x2 =>
  if x2 ≤ a5 then
  (rok a4 h)
  else
  (ldR 41 320 v0 h fun x3 =>
  ldR 34 249 x3 h fun x4 =>
  aldR 8 x4 a5 h fun x5 =>
  if kc h v0 = 41 then
  bd (f_X42_isTold v0 x5 v1 h) (fun x6 h7 =>
  if x6 = 0 then
  (f_X42_keep_l43b76 v0 v1 v2 v3 ih a4 a5 h7)
  else
  (lt3 (a4 + 1) fun x8 =>
  f_X42_keep_l43b76 v0 v1 v2 v3 ih x8 a5 h7))
  else none)
noncomputable def f_X42_keep_l43 (v0 : Nat) (v1 : Nat) (v2 : Int32) (v3 : Int32) (n : Nat) : Int32 → Int32 → HP → Rs Int32 := @Nat.rec (fun _ => Int32 → Int32 → HP → Rs Int32) (fun _ _ _ => none) (fun _ ih => b_X42_keep_l43 v0 v1 v2 v3 ih) n
noncomputable def f_X42_keep_l149b199 (v0 : Nat) (v1 : Nat) (v2 : Int32) (ih : Int32 → Int32 → HP → Rs Int32) (a3 : Int32) (a5 : Int32) (h : HP) : Rs Int32 :=
  lt3 (a5 + 1) fun x1 =>
  ih a3 x1 h
noncomputable def b_X42_keep_l149 (v0 : Nat) (v1 : Nat) (v2 : Int32) (ih : Int32 → Int32 → HP → Rs Int32) (a3 : Int32) (a5 : Int32) (h : HP) : Rs Int32 :=
  ldR 41 320 v0 h fun x1 =>
  ldI 34 250 x1 h fun x2 =>
  if x2 ≤ a5 then
  (rok a3 h)
  else
  (if a3 = 0 then
  (rok a3 h)
  else
  (ldR 41 320 v0 h fun x3 =>
  ldR 34 249 x3 h fun x4 =>
  aldR 8 x4 a5 h fun x5 =>
  if kc h v0 = 41 then
  bd (f_X42_isTold v0 x5 v1 h) (fun x6 h7 =>
  if x6 = 0 then
  (f_X42_keep_l149b199 v0 v1 v2 ih a3 a5 h7)
  else
  (ldR 41 320 v0 h7 fun x8 =>
  ldR 34 249 x8 h7 fun x9 =>
  aldR 8 x9 a5 h7 fun x10 =>
  if kc h7 v0 = 41 then
  bd (f_X42_thing v0 x10 v1 h7) (fun x11 h12 =>
  f_X42_keep_l149b199 v0 v1 v2 ih x11 a5 h12)
  else none))
  else none))
noncomputable def f_X42_keep_l149 (v0 : Nat) (v1 : Nat) (v2 : Int32) (n : Nat) : Int32 → Int32 → HP → Rs Int32 := @Nat.rec (fun _ => Int32 → Int32 → HP → Rs Int32) (fun _ _ _ => none) (fun _ ih => b_X42_keep_l149 v0 v1 v2 ih) n
noncomputable def f_X42_keep_l211b231 (v0 : Nat) (v1 : Nat) (v2 : Int32) (v3 : Int32) (ih : Int32 → Int32 → HP → Rs Int32) (a5 : Int32) (a6 : Int32) (h : HP) : Rs Int32 :=
  lt3 (a6 + 1) fun x1 =>
  ih a5 x1 h
noncomputable def b_X42_keep_l211 (v0 : Nat) (v1 : Nat) (v2 : Int32) (v3 : Int32) (ih : Int32 → Int32 → HP → Rs Int32) (a5 : Int32) (a6 : Int32) (h : HP) : Rs Int32 :=
  if (16 : Int32) ≤ a6 then
  (rok a5 h)
  else
  (ldR 35 272 v1 h fun x1 =>
  aldI 2 x1 a6 h fun x2 =>
  if x2 = 0 then
  (f_X42_keep_l211b231 v0 v1 v2 v3 ih a5 a6 h)
  else
  (lt3 (a5 + 1) fun x3 =>
  f_X42_keep_l211b231 v0 v1 v2 v3 ih x3 a6 h))
noncomputable def f_X42_keep_l211 (v0 : Nat) (v1 : Nat) (v2 : Int32) (v3 : Int32) (n : Nat) : Int32 → Int32 → HP → Rs Int32 := @Nat.rec (fun _ => Int32 → Int32 → HP → Rs Int32) (fun _ _ _ => none) (fun _ ih => b_X42_keep_l211 v0 v1 v2 v3 ih) n
noncomputable def f_X42_keep_l264b322 (v0 : Nat) (v1 : Nat) (v2 : Int32) (ih : Int32 → Int32 → HP → Rs Int32) (a3 : Int32) (a6 : Int32) (h : HP) : Rs Int32 :=
  lt3 (a6 + 1) fun x1 =>
  ih a3 x1 h
noncomputable def f_X42_keep_l264b321 (v0 : Nat) (v1 : Nat) (v2 : Int32) (ih : Int32 → Int32 → HP → Rs Int32) (a6 : Int32) (s0 : Int32) (h : HP) : Rs Int32 :=
  f_X42_keep_l264b322 v0 v1 v2 ih s0 a6 h
noncomputable def f_X42_keep_l264b320 (v0 : Nat) (v1 : Nat) (v2 : Int32) (ih : Int32 → Int32 → HP → Rs Int32) (a6 : Int32) (h : HP) : Rs Int32 :=
  f_X42_keep_l264b321 v0 v1 v2 ih a6 (0 : Int32) h
noncomputable def b_X42_keep_l264 (v0 : Nat) (v1 : Nat) (v2 : Int32) (ih : Int32 → Int32 → HP → Rs Int32) (a3 : Int32) (a6 : Int32) (h : HP) : Rs Int32 :=
  if (16 : Int32) ≤ a6 then
  (rok a3 h)
  else
  (ldR 35 272 v1 h fun x1 =>
  aldI 2 x1 a6 h fun x2 =>
  if x2 = 0 then
  (f_X42_keep_l264b322 v0 v1 v2 ih a3 a6 h)
  else
  (ldR 41 321 v0 h fun x3 =>
  if kc h x3 = 39 then
  bd (f_X40_put x3 a6 h) (fun x4 h5 =>
  if x4 = 0 then
  (f_X42_keep_l264b320 v0 v1 v2 ih a6 h5)
  else
  (ldR 41 321 v0 h5 fun x6 =>
  ldR 35 270 v1 h5 fun x7 =>
  aldI 0 x7 a6 h5 fun x8 =>
  if kc h5 x6 = 39 then
  bd (f_X40_number x6 (Int32.toInt64 x8) (4 : Int32) h5) (fun x9 h10 =>
  if x9 = 0 then
  (f_X42_keep_l264b320 v0 v1 v2 ih a6 h10)
  else
  (if a3 = 0 then
  (f_X42_keep_l264b320 v0 v1 v2 ih a6 h10)
  else
  (f_X42_keep_l264b321 v0 v1 v2 ih a6 (1 : Int32) h10)))
  else none))
  else none))
noncomputable def f_X42_keep_l264 (v0 : Nat) (v1 : Nat) (v2 : Int32) (n : Nat) : Int32 → Int32 → HP → Rs Int32 := @Nat.rec (fun _ => Int32 → Int32 → HP → Rs Int32) (fun _ _ _ => none) (fun _ ih => b_X42_keep_l264 v0 v1 v2 ih) n
noncomputable def f_X42_keep_l342b407 (v0 : Nat) (ih : Int32 → HP → Rs Unit) (a6 : Int32) (h : HP) : Rs Unit :=
  lt3 (a6 + 1) fun x1 =>
  ih x1 h
noncomputable def b_X42_keep_l342 (v0 : Nat) (ih : Int32 → HP → Rs Unit) (a6 : Int32) (h : HP) : Rs Unit :=
  ldR 41 320 v0 h fun x1 =>
  ldI 34 250 x1 h fun x2 =>
  if x2 ≤ a6 then
  (rok () h)
  else
  (ldR 41 320 v0 h fun x3 =>
  ldR 34 249 x3 h fun x4 =>
  aldR 8 x4 a6 h fun x5 =>
  if x5 = 0 then
  (f_X42_keep_l342b407 v0 ih a6 h)
  else
  (ldR 41 320 v0 h fun x6 =>
  ldR 34 249 x6 h fun x7 =>
  aldR 8 x7 a6 h fun x8 =>
  if kc h x8 = 36 then
  bd (f_X37_isText x8 h) (fun x9 h10 =>
  if x9 = 0 then
  (f_X42_keep_l342b407 v0 ih a6 h10)
  else
  (ldR 41 320 v0 h10 fun x11 =>
  ldR 34 249 x11 h10 fun x12 =>
  aldR 8 x12 a6 h10 fun x13 =>
  ldI 36 279 x13 h10 fun x14 =>
  if x14 = 0 then
  (ldR 41 324 v0 h10 fun x15 =>
  astI 2 x15 a6 (vp_nar .boolean (1 : Int32)) h10 fun h16 =>
  f_X42_keep_l342b407 v0 ih a6 h16)
  else
  (f_X42_keep_l342b407 v0 ih a6 h10)))
  else none))
noncomputable def f_X42_keep_l342 (v0 : Nat) (n : Nat) : Int32 → HP → Rs Unit := @Nat.rec (fun _ => Int32 → HP → Rs Unit) (fun _ _ => none) (fun _ ih => b_X42_keep_l342 v0 ih) n
noncomputable def f_X42_keep_b260 (a0 : Nat) (a1 : Nat) (a2 : Int32) (s0 : Int32) (h : HP) : Rs Int32 :=
  bd (f_X42_keep_l264 a0 a1 a2 NN s0 (0 : Int32) h) (fun x1 h2 => if kc h2 a0 = 41 then
  bd (f_X42_finish a0 a2 x1 h2) (fun x3 h4 =>
  if x3 = 0 then
  (rok (0 : Int32) h4)
  else
  (bd (f_X42_keep_l342 a0 NN (1 : Int32) h4) (fun x5 h6 => rok (1 : Int32) h6)))
  else none)
noncomputable def f_X42_keep_b259 (a0 : Nat) (a1 : Nat) (a2 : Int32) (h : HP) : Rs Int32 :=
  f_X42_keep_b260  a0 a1 a2 (0 : Int32) h
noncomputable def f_X42_keep_b205 (a0 : Nat) (a1 : Nat) (a2 : Int32) (a3 : Int32) (h : HP) : Rs Int32 :=
  bd (f_X42_keep_l211 a0 a1 a2 a3 NN (0 : Int32) (0 : Int32) h) (fun x1 h2 => ldR 41 321 a0 h2 fun x3 =>
  if kc h2 x3 = 39 then
  bd (f_X40_number x3 (Int32.toInt64 x1) (4 : Int32) h2) (fun x4 h5 =>
  if x4 = 0 then
  (f_X42_keep_b259  a0 a1 a2 h5)
  else
  (if a3 = 0 then
  (f_X42_keep_b259  a0 a1 a2 h5)
  else
  (f_X42_keep_b260  a0 a1 a2 (1 : Int32) h5)))
  else none)
noncomputable def f_X42_keep_b145 (a0 : Nat) (a1 : Nat) (a2 : Int32) (s0 : Int32) (h : HP) : Rs Int32 :=
  bd (f_X42_keep_l149 a0 a1 a2 NN s0 (1 : Int32) h) (fun x1 h2 => f_X42_keep_b205  a0 a1 a2 x1 h2)
noncomputable def f_X42_keep_b144 (a0 : Nat) (a1 : Nat) (a2 : Int32) (h : HP) : Rs Int32 :=
  f_X42_keep_b145  a0 a1 a2 (0 : Int32) h
noncomputable def f_X42_keep_b36 (a0 : Nat) (a1 : Nat) (a2 : Int32) (s0 : Int32) (h : HP) : Rs Int32 :=
  bd (f_X42_keep_l43 a0 a1 a2 s0 NN (0 : Int32) (1 : Int32) h) (fun x1 h2 => ldR 41 321 a0 h2 fun x3 =>
  ldR 41 320 a0 h2 fun x4 =>
  ldI 34 256 x4 h2 fun x5 =>
  if kc h2 x3 = 39 then
  bd (f_X40_number x3 (Int32.toInt64 (x5 + (1 : Int32))) (4 : Int32) h2) (fun x6 h7 =>
  if x6 = 0 then
  (f_X42_keep_b144  a0 a1 a2 h7)
  else
  (ldR 41 321 a0 h7 fun x8 =>
  ldR 41 320 a0 h7 fun x9 =>
  ldI 34 250 x9 h7 fun x10 =>
  if kc h7 x8 = 39 then
  bd (f_X40_number x8 (Int32.toInt64 x10) (4 : Int32) h7) (fun x11 h12 =>
  if x11 = 0 then
  (f_X42_keep_b144  a0 a1 a2 h12)
  else
  (ldR 41 321 a0 h12 fun x13 =>
  if kc h12 x13 = 39 then
  bd (f_X40_number x13 (Int32.toInt64 x1) (4 : Int32) h12) (fun x14 h15 =>
  if x14 = 0 then
  (f_X42_keep_b144  a0 a1 a2 h15)
  else
  (if s0 = 0 then
  (f_X42_keep_b144  a0 a1 a2 h15)
  else
  (f_X42_keep_b145  a0 a1 a2 (1 : Int32) h15)))
  else none))
  else none))
  else none)
noncomputable def f_X42_keep_b35 (a0 : Nat) (a1 : Nat) (a2 : Int32) (h : HP) : Rs Int32 :=
  f_X42_keep_b36  a0 a1 a2 (0 : Int32) h
noncomputable def f_X42_keep (a0 : Nat) (a1 : Nat) (h : HP) : Rs Int32 :=
  ldR 41 321 a0 h fun x1 =>
  ldI 39 308 x1 h fun x2 =>
  ldR 41 321 a0 h fun x3 =>
  if kc h x3 = 39 then
  bd (f_X40_number x3 (0 : Int64) (4 : Int32) h) (fun x4 h5 =>
  if x4 = 0 then
  (f_X42_keep_b35  a0 a1 x2 h5)
  else
  (ldR 41 321 a0 h5 fun x6 =>
  if kc h5 x6 = 39 then
  bd (f_X40_put x6 (1 : Int32) h5) (fun x7 h8 =>
  if x7 = 0 then
  (f_X42_keep_b35  a0 a1 x2 h8)
  else
  (f_X42_keep_b36  a0 a1 x2 (1 : Int32) h8))
  else none))
  else none
noncomputable def f_X0_keep (a0 : Nat) (a1 : Int32) (h : HP) : Rs Int32 :=
  if kc h a0 = 1 then
  bd (f_X0_isShut a0 h) (fun x1 h2 =>
  if x1 = 0 then
  (ldR 1 7 a0 h2 fun x3 =>
  if kc h2 x3 = 34 then
  bd (f_X35_find x3 a1 h2) (fun x4 h5 =>
  if x4 = 0 then
  (rok (-14 : Int32) h5)
  else
  (ldR 1 7 a0 h5 fun x6 =>
  if kc h5 x6 = 34 then
  bd (f_X35_clash x6 x4 h5) (fun x7 h8 =>
  if x7 < 0 then
  (ldR 1 7 a0 h8 fun x9 =>
  ldI 34 256 x9 h8 fun x10 =>
  if x10 = (64 : Int32) then
  (rok (-12 : Int32) h8)
  else
  (ldR 1 11 a0 h8 fun x11 =>
  if kc h8 x11 = 41 then
  bd (f_X42_keep x11 x4 h8) (fun x12 h13 =>
  if x12 = 0 then
  (rok (-12 : Int32) h13)
  else
  (stI 1 17 a0 (-1 : Int32) h13 fun h14 =>
  ldR 1 7 a0 h14 fun x15 =>
  if kc h14 x15 = 34 then
  bd (f_X35_keep x15 x4 h14) (fun _ h16 =>
  ldR 1 7 a0 h16 fun x17 =>
  ldI 34 256 x17 h16 fun x18 =>
  rok x18 h16)
  else none))
  else none))
  else
  (stI 1 17 a0 x7 h8 fun h19 =>
  rok (-1 : Int32) h19))
  else none))
  else none)
  else
  (rok (-13 : Int32) h2))
  else none
noncomputable def b_X0_missing_l4 (v1 : Int32) (ih : Nat → Int32 → HP → Rs Int32) (a2 : Nat) (a3 : Int32) (h : HP) : Rs Int32 :=
  if v1 ≤ a3 then
  (rok a3 h)
  else
  (ldR 4 37 a2 h fun x1 =>
  if x1 = 0 then
  (rok a3 h)
  else
  (ldR 4 37 a2 h fun x2 =>
  lt3 (a3 + 1) fun x3 =>
  ih x2 x3 h))
noncomputable def f_X0_missing_l4 (v1 : Int32) (n : Nat) : Nat → Int32 → HP → Rs Int32 := @Nat.rec (fun _ => Nat → Int32 → HP → Rs Int32) (fun _ _ _ => none) (fun _ ih => b_X0_missing_l4 v1 ih) n
noncomputable def f_X0_missing (a0 : Nat) (a1 : Int32) (h : HP) : Rs Int32 :=
  bd (f_X0_missing_l4 a1 NN a0 (0 : Int32) h) (fun x1 h2 => rok (a1 - x1) h2)
noncomputable def f_X2_base (a0 : Nat) (a1 : Nat) (a2 : Int32) (h : HP) : Rs Nat :=
  txLen a1 h fun x1 =>
  if a2 = (x1 - (1 : Int32)) then
  (txAt a1 a2 h fun x13 =>
  txIdx 32 x13 h fun x14 =>
  if 0 ≤ x14 then
  (ldR 3 30 a0 h fun x15 =>
  lsGet x15 x14 h fun x16 =>
  castR [4] x16 h (
  rok x16 h))
  else
  (rok 0 h))
  else
  (txLen a1 h fun x2 =>
  if x2 ≤ a2 then
  (rok 0 h)
  else
  (txAt a1 a2 h fun x3 =>
  if x3 = (76 : Int32) then
  (txLen a1 h fun x4 =>
  txAt a1 (x4 - (1 : Int32)) h fun x5 =>
  if x5 = (59 : Int32) then
  (txLen a1 h fun x6 =>
  txSub a1 (a2 + (1 : Int32)) (x6 - (1 : Int32)) h fun x7 h8 =>
  if kc h8 a0 = 3 then
  bd (f_X2_named a0 x7 h8) (fun x9 h10 =>
  if x9 = 0 then
  (rok 0 h10)
  else
  (if kc h10 x9 = 4 then
  bd (f_X3_isPlain x9 h10) (fun x11 h12 =>
  if x11 = 0 then
  (rok x9 h12)
  else
  (rok 0 h12))
  else none))
  else none)
  else
  (rok 0 h))
  else
  (rok 0 h)))
noncomputable def b_X0_kind_l22 (v0 : Nat) (v1 : Nat) (ih : Int32 → HP → Rs Int32) (a2 : Int32) (h : HP) : Rs Int32 :=
  txLen v1 h fun x1 =>
  if x1 ≤ a2 then
  (rok a2 h)
  else
  (txAt v1 a2 h fun x2 =>
  if x2 = (91 : Int32) then
  (lt3 (a2 + 1) fun x3 =>
  ih x3 h)
  else
  (rok a2 h))
noncomputable def f_X0_kind_l22 (v0 : Nat) (v1 : Nat) (n : Nat) : Int32 → HP → Rs Int32 := @Nat.rec (fun _ => Int32 → HP → Rs Int32) (fun _ _ => none) (fun _ ih => b_X0_kind_l22 v0 v1 ih) n
noncomputable def b_X0_kind_l94 (v0 : Nat) (v2 : Int32) (ih : Nat → Int32 → HP → Rs Nat) (a3 : Nat) (a4 : Int32) (h : HP) : Rs Nat :=
  if v2 ≤ a4 then
  (rok a3 h)
  else
  (ldR 1 4 v0 h fun x1 =>
  if kc h x1 = 3 then
  bd (f_X2_arrayOf x1 a3 h) (fun x2 h3 =>
  lt3 (a4 + 1) fun x4 =>
  ih x2 x4 h3)
  else none)
noncomputable def f_X0_kind_l94 (v0 : Nat) (v2 : Int32) (n : Nat) : Nat → Int32 → HP → Rs Nat := @Nat.rec (fun _ => Nat → Int32 → HP → Rs Nat) (fun _ _ _ => none) (fun _ ih => b_X0_kind_l94 v0 v2 ih) n
noncomputable def f_X0_kind_b46 (a0 : Nat) (a1 : Nat) (a2 : Int32) (h : HP) : Rs Int32 :=
  ldR 1 4 a0 h fun x1 =>
  if kc h x1 = 3 then
  bd (f_X2_base x1 a1 a2 h) (fun x2 h3 =>
  if x2 = 0 then
  (rok (-14 : Int32) h3)
  else
  (if (8 : Int32) < a2 then
  (rok (-12 : Int32) h3)
  else
  (ldR 1 4 a0 h3 fun x4 =>
  if kc h3 x4 = 3 then
  bd (f_X2_size x4 h3) (fun x5 h6 =>
  bd (f_X0_missing x2 a2 h6) (fun x7 h8 =>
  if (x5 + x7) ≤ (400 : Int32) then
  (bd (f_X0_kind_l94 a0 a2 NN x2 (0 : Int32) h8) (fun x9 h10 => ldI 4 31 x9 h10 fun x11 =>
  rok x11 h10))
  else
  (rok (-12 : Int32) h8)))
  else none)))
  else none
noncomputable def f_X0_kind (a0 : Nat) (h : HP) : Rs Int32 :=
  if kc h a0 = 1 then
  bd (f_X0_isShut a0 h) (fun x1 h2 =>
  if x1 = 0 then
  (if kc h2 a0 = 1 then
  bd (f_X0_trayText a0 h2) (fun x3 h4 =>
  stI 1 2 a0 (0 : Int32) h4 fun h5 =>
  bd (f_X0_kind_l22 a0 x3 NN (0 : Int32) h5) (fun x6 h7 => f_X0_kind_b46  a0 x3 x6 h7))
  else none)
  else
  (rok (-13 : Int32) h2))
  else none
noncomputable def f_X0_kindOf (a0 : Nat) (a1 : Int32) (h : HP) : Rs Int32 :=
  if kc h a0 = 1 then
  bd (f_X0_refusal a0 a1 h) (fun x1 h2 =>
  if x1 ≤ 0 then
  (ldR 1 7 a0 h2 fun x3 =>
  if kc h2 x3 = 34 then
  bd (f_X35_kindAt x3 a1 h2) (fun x4 h5 =>
  ldI 4 31 x4 h5 fun x6 =>
  rok x6 h5)
  else none)
  else
  (rok (-x1) h2))
  else none
noncomputable def f_X0_kinds (a0 : Nat) (h : HP) : Rs Int32 :=
  ldR 1 7 a0 h fun x1 =>
  if x1 = 0 then
  (rok (0 : Int32) h)
  else
  (ldR 1 4 a0 h fun x2 =>
  if kc h x2 = 3 then
  bd (f_X2_size x2 h) (fun x3 h4 =>
  rok x3 h4)
  else none)
noncomputable def f_X0_letter (a0 : Nat) (a1 : Int32) (a2 : Int32) (h : HP) : Rs Int32 :=
  if kc h a0 = 1 then
  bd (f_X0_refusal a0 a1 h) (fun x1 h2 =>
  if x1 ≤ 0 then
  (ldR 1 7 a0 h2 fun x3 =>
  if kc h2 x3 = 34 then
  bd (f_X35_kindAt x3 a1 h2) (fun x4 h5 =>
  ldI 4 31 x4 h5 fun x6 =>
  if x6 = (9 : Int32) then
  (if a2 < 0 then
  (rok (-2 : Int32) h5)
  else
  (ldR 1 7 a0 h5 fun x7 =>
  if kc h5 x7 = 34 then
  bd (f_X35_sizeOf x7 a1 h5) (fun x8 h9 =>
  if x8 ≤ a2 then
  (rok (-2 : Int32) h9)
  else
  (ldR 1 7 a0 h9 fun x10 =>
  if kc h9 x10 = 34 then
  bd (f_X35_letterOf x10 a1 a2 h9) (fun x11 h12 =>
  rok x11 h12)
  else none))
  else none))
  else
  (rok (-1 : Int32) h5))
  else none)
  else
  (rok (-x1) h2))
  else none
noncomputable def f_X42_at (a0 : Nat) (a1 : Int32) (h : HP) : Rs Int32 :=
  if a1 < 0 then
  (rok (-1 : Int32) h)
  else
  (ldR 41 321 a0 h fun x1 =>
  ldI 39 308 x1 h fun x2 =>
  if x2 ≤ a1 then
  (rok (-1 : Int32) h)
  else
  (ldR 41 321 a0 h fun x3 =>
  ldR 39 307 x3 h fun x4 =>
  aldI 1 x4 a1 h fun x5 =>
  rok (x5 &&& (255 : Int32)) h))
noncomputable def f_X0_logAt (a0 : Nat) (a1 : Int32) (h : HP) : Rs Int32 :=
  ldR 1 7 a0 h fun x1 =>
  if x1 = 0 then
  (rok (-1 : Int32) h)
  else
  (ldR 1 11 a0 h fun x2 =>
  if kc h x2 = 41 then
  bd (f_X42_at x2 a1 h) (fun x3 h4 =>
  rok x3 h4)
  else none)
noncomputable def f_X42_size (a0 : Nat) (h : HP) : Rs Int32 :=
  ldR 41 321 a0 h fun x1 =>
  ldI 39 308 x1 h fun x2 =>
  rok x2 h
noncomputable def f_X0_logged (a0 : Nat) (h : HP) : Rs Int32 :=
  ldR 1 7 a0 h fun x1 =>
  if x1 = 0 then
  (rok (0 : Int32) h)
  else
  (ldR 1 11 a0 h fun x2 =>
  if kc h x2 = 41 then
  bd (f_X42_size x2 h) (fun x3 h4 =>
  rok x3 h4)
  else none)
noncomputable def f_X0_make (a0 : Nat) (a1 : Int32) (h : HP) : Rs Int32 :=
  if kc h a0 = 1 then
  bd (f_X0_hasAct a0 h) (fun x1 h2 =>
  if x1 = 0 then
  (rok (-13 : Int32) h2)
  else
  (ldR 1 4 a0 h2 fun x3 =>
  if kc h2 x3 = 3 then
  bd (f_X2_has x3 a1 h2) (fun x4 h5 =>
  if x4 = 0 then
  (rok (-14 : Int32) h5)
  else
  (ldR 1 4 a0 h5 fun x6 =>
  if kc h5 x6 = 3 then
  bd (f_X2_get x6 a1 h5) (fun x7 h8 =>
  ldR 4 32 x7 h8 fun x9 =>
  eqS x9 903
  (ldI 4 38 x7 h8 fun x10 =>
  if x10 = 0 then
  (ldR 4 44 x7 h8 fun x11 =>
  lsSize x11 h8 fun x12 =>
  ldR 1 7 a0 h8 fun x13 =>
  if kc h8 x13 = 34 then
  bd (f_X35_hasRoom x13 (1 : Int32) x12 h8) (fun x14 h15 =>
  if x14 = 0 then
  (rok (-12 : Int32) h15)
  else
  (ldR 1 7 a0 h15 fun x16 =>
  if kc h15 x16 = 34 then
  bd (f_X35_make x16 x7 x12 h15) (fun x17 h18 =>
  ldI 36 273 x17 h18 fun x19 =>
  rok x19 h18)
  else none))
  else none)
  else
  (rok (-1 : Int32) h8))
  (rok (-1 : Int32) h8))
  else none))
  else none))
  else none
noncomputable def f_X0_named_b40 (a0 : Nat) (s0 : Nat) (h : HP) : Rs Int32 :=
  stI 1 2 a0 (0 : Int32) h fun h1 =>
  if s0 = 0 then
  (rok (-14 : Int32) h1)
  else
  (ldI 31 236 s0 h1 fun x2 =>
  rok x2 h1)
noncomputable def f_X0_named (a0 : Nat) (a1 : Int32) (h : HP) : Rs Int32 :=
  if kc h a0 = 1 then
  bd (f_X0_isShut a0 h) (fun x1 h2 =>
  if x1 = 0 then
  (ldR 1 4 a0 h2 fun x3 =>
  if kc h2 x3 = 3 then
  bd (f_X2_has x3 a1 h2) (fun x4 h5 =>
  if x4 = 0 then
  (f_X0_named_b40  a0 0 h5)
  else
  (ldR 1 4 a0 h5 fun x6 =>
  if kc h5 x6 = 3 then
  bd (f_X2_get x6 a1 h5) (fun x7 h8 =>
  if kc h8 a0 = 1 then
  bd (f_X0_trayText a0 h8) (fun x9 h10 =>
  if kc h10 x7 = 4 then
  bd (f_X3_field x7 x9 h10) (fun x11 h12 =>
  f_X0_named_b40  a0 x11 h12)
  else none)
  else none)
  else none))
  else none)
  else
  (rok (-13 : Int32) h2))
  else none
noncomputable def f_X0_newest (a0 : Nat) (h : HP) : Rs Int32 :=
  if kc h a0 = 1 then
  bd (f_X0_isShut a0 h) (fun x1 h2 =>
  if x1 = 0 then
  (ldR 1 7 a0 h2 fun x3 =>
  ldI 34 256 x3 h2 fun x4 =>
  rok x4 h2)
  else
  (rok (-1 : Int32) h2))
  else none
noncomputable def f_X0_twoRefusal (a0 : Nat) (a1 : Int32) (a2 : Int32) (h : HP) : Rs Int32 :=
  if kc h a0 = 1 then
  bd (f_X0_hasView a0 h) (fun x1 h2 =>
  if x1 = 0 then
  (rok (13 : Int32) h2)
  else
  (if kc h2 a0 = 1 then
  bd (f_X0_isDead a0 (Int32.toInt64 a1) h2) (fun x3 h4 =>
  if x3 = 0 then
  (if kc h4 a0 = 1 then
  bd (f_X0_isDead a0 (Int32.toInt64 a2) h4) (fun x5 h6 =>
  if x5 = 0 then
  (if a1 = 0 then
  (rok (3 : Int32) h6)
  else
  (if a2 = 0 then
  (rok (3 : Int32) h6)
  else
  (rok (0 : Int32) h6)))
  else
  (rok (14 : Int32) h6))
  else none)
  else
  (rok (14 : Int32) h4))
  else none))
  else none
noncomputable def f_X37_isConstant (a0 : Nat) (h : HP) : Rs Int32 :=
  ldR 36 274 a0 h fun x1 =>
  ldR 4 32 x1 h fun x2 =>
  eqS x2 906
  (rok (1 : Int32) h)
  (rok (0 : Int32) h)
noncomputable def f_X35_peek (a0 : Nat) (a1 : Int32) (a2 : Int32) (h : HP) : Rs Int64 :=
  if kc h a0 = 34 then
  bd (f_X35_values a0 a1 h) (fun x1 h2 =>
  aldJ 3 x1 a2 h2 fun x3 =>
  rok x3 h2)
  else none
noncomputable def f_X39_add (a0 : Nat) (a1 : Int32) (a2 : Int64) (a4 : Int64) (a6 : Int64) (a8 : Int64) (h : HP) : Rs Int32 :=
  ldI 38 304 a0 h fun x1 =>
  if x1 = (2000 : Int32) then
  (rok (0 : Int32) h)
  else
  (ldI 38 304 a0 h fun x2 =>
  lt3 ((5 : Int32) * x2) fun x3 =>
  ldR 38 302 a0 h fun x4 =>
  astJ 3 x4 x3 (Int32.toInt64 a1) h fun h5 =>
  ldR 38 302 a0 h5 fun x6 =>
  astJ 3 x6 (x3 + (1 : Int32)) a2 h5 fun h7 =>
  ldR 38 302 a0 h7 fun x8 =>
  astJ 3 x8 (x3 + (2 : Int32)) a4 h7 fun h9 =>
  ldR 38 302 a0 h9 fun x10 =>
  astJ 3 x10 (x3 + (3 : Int32)) a6 h9 fun h11 =>
  ldR 38 302 a0 h11 fun x12 =>
  astJ 3 x12 (x3 + (4 : Int32)) a8 h11 fun h13 =>
  ldI 38 304 a0 h13 fun x14 =>
  stI 38 304 a0 (x14 + (1 : Int32)) h13 fun h15 =>
  rok (1 : Int32) h15)
noncomputable def f_X39_isPair_b8 (a1 : Int32) (a2 : Int32) (h : HP) : Rs Int32 :=
  if a1 = a2 then
  (rok (1 : Int32) h)
  else
  (rok (0 : Int32) h)
noncomputable def f_X39_isPair_b70 (a1 : Int32) (a2 : Int32) (h : HP) : Rs Int32 :=
  if a1 = a2 then
  (rok (1 : Int32) h)
  else
  (rok (0 : Int32) h)
noncomputable def f_X39_isPair_b99 (a0 : Nat) (a1 : Int32) (a2 : Int32) (h : HP) : Rs Int32 :=
  ldR 38 296 a0 h fun x1 =>
  aldI 0 x1 a1 h fun x2 =>
  if x2 = a2 then
  (ldR 38 297 a0 h fun x3 =>
  aldI 0 x3 a2 h fun x4 =>
  if x4 = a1 then
  (rok (1 : Int32) h)
  else
  (rok (0 : Int32) h))
  else
  (rok (0 : Int32) h)
noncomputable def f_X39_isPair (a0 : Nat) (a1 : Int32) (a2 : Int32) (h : HP) : Rs Int32 :=
  if a1 = 0 then
  (f_X39_isPair_b8  a1 a2 h)
  else
  (if a2 = 0 then
  (f_X39_isPair_b8  a1 a2 h)
  else
  (ldR 38 293 a0 h fun x1 =>
  ldR 34 249 x1 h fun x2 =>
  aldR 8 x2 a1 h fun x3 =>
  ldR 38 293 a0 h fun x4 =>
  ldR 34 249 x4 h fun x5 =>
  aldR 8 x5 a2 h fun x6 =>
  if kc h x3 = 36 then
  bd (f_X37_isText x3 h) (fun x7 h8 =>
  if x7 = 0 then
  (if kc h8 x3 = 36 then
  bd (f_X37_isConstant x3 h8) (fun x9 h10 =>
  if x9 = 0 then
  (if kc h10 x6 = 36 then
  bd (f_X37_isText x6 h10) (fun x11 h12 =>
  if x11 = 0 then
  (if kc h12 x6 = 36 then
  bd (f_X37_isConstant x6 h12) (fun x13 h14 =>
  if x13 = 0 then
  (ldR 38 296 a0 h14 fun x15 =>
  aldI 0 x15 a1 h14 fun x16 =>
  if 0 < x16 then
  (f_X39_isPair_b99  a0 a1 a2 h14)
  else
  (ldR 38 297 a0 h14 fun x17 =>
  aldI 0 x17 a2 h14 fun x18 =>
  if x18 ≤ 0 then
  (ldR 36 274 x3 h14 fun x19 =>
  ldR 36 274 x6 h14 fun x20 =>
  eqR h14 x19 x20
  (ldI 36 275 x3 h14 fun x21 =>
  ldI 36 275 x6 h14 fun x22 =>
  if x21 = x22 then
  (ldR 38 296 a0 h14 fun x23 =>
  astI 0 x23 a1 a2 h14 fun h24 =>
  ldR 38 297 a0 h24 fun x25 =>
  astI 0 x25 a2 a1 h24 fun h26 =>
  ldR 38 298 a0 h26 fun x27 =>
  ldI 38 299 a0 h26 fun x28 =>
  astI 0 x27 x28 a1 h26 fun h29 =>
  ldI 38 299 a0 h29 fun x30 =>
  stI 38 299 a0 (x30 + (1 : Int32)) h29 fun h31 =>
  rok (1 : Int32) h31)
  else
  (rok (0 : Int32) h14))
  (rok (0 : Int32) h14))
  else
  (f_X39_isPair_b99  a0 a1 a2 h14)))
  else
  (f_X39_isPair_b70  a1 a2 h14))
  else none)
  else
  (f_X39_isPair_b70  a1 a2 h12))
  else none)
  else
  (f_X39_isPair_b70  a1 a2 h10))
  else none)
  else
  (f_X39_isPair_b70  a1 a2 h8))
  else none))
noncomputable def f_X39_compare_b58 (a0 : Nat) (a1 : Int32) (a2 : Int32) (a3 : Int32) (a4 : Int32) (h : HP) : Rs Int32 :=
  if a3 = a4 then
  (rok (1 : Int32) h)
  else
  (if kc h a0 = 38 then
  bd (f_X39_add a0 (1 : Int32) (Int32.toInt64 a1) (Int32.toInt64 a2) (Int32.toInt64 a3) (Int32.toInt64 a4) h) (fun x1 h2 =>
  if x1 = 0 then
  (rok (0 : Int32) h2)
  else
  (rok (1 : Int32) h2))
  else none)
noncomputable def f_X39_compare_b235 (a0 : Nat) (a1 : Int32) (a2 : Int32) (a3 : Int32) (s0 : Nat) (s1 : Int32) (s2 : Int64) (s3 : Int64) (s4 : Int64) (h : HP) : Rs Int32 :=
  if kc h s0 = 38 then
  bd (f_X39_add s0 s1 s2 s3 s4 (0 : Int64) h) (fun x1 h2 =>
  if x1 = 0 then
  (rok (0 : Int32) h2)
  else
  (ldI 38 306 a0 h2 fun x3 =>
  if kc h2 a0 = 38 then
  bd (f_X39_add a0 (1 : Int32) (Int32.toInt64 a1) (Int32.toInt64 a2) (Int32.toInt64 a3) (Int32.toInt64 (-x3)) h2) (fun x4 h5 =>
  if x4 = 0 then
  (rok (0 : Int32) h5)
  else
  (rok (1 : Int32) h5))
  else none))
  else none
noncomputable def f_X39_compare_b161 (a0 : Nat) (a1 : Int32) (a2 : Int32) (a3 : Int32) (a4 : Int32) (a5 : Nat) (h : HP) : Rs Int32 :=
  ldR 38 305 a0 h fun x1 =>
  ldI 38 306 a0 h fun x2 =>
  astI 0 x1 x2 a4 h fun h3 =>
  ldI 38 306 a0 h3 fun x4 =>
  stI 38 306 a0 (x4 + (1 : Int32)) h3 fun h5 =>
  ldR 38 297 a0 h5 fun x6 =>
  ldI 38 306 a0 h5 fun x7 =>
  astI 0 x6 a4 (-x7) h5 fun h8 =>
  ldI 38 306 a0 h8 fun x9 =>
  ldR 36 274 a5 h8 fun x10 =>
  ldI 4 31 x10 h8 fun x11 =>
  ldR 36 274 a5 h8 fun x12 =>
  ldR 4 32 x12 h8 fun x13 =>
  eqS x13 907
  (ldI 36 275 a5 h8 fun x14 =>
  f_X39_compare_b235  a0 a1 a2 a3 a0 (2 : Int32) (Int32.toInt64 (-x9)) (Int32.toInt64 x11) (Int32.toInt64 x14) h8)
  (f_X39_compare_b235  a0 a1 a2 a3 a0 (2 : Int32) (Int32.toInt64 (-x9)) (Int32.toInt64 x11) (0 : Int64) h8)
noncomputable def f_X39_compare (a0 : Nat) (a1 : Int32) (a2 : Int32) (a3 : Int32) (a4 : Int32) (h : HP) : Rs Int32 :=
  if a4 = 0 then
  (if a3 = 0 then
  (rok (1 : Int32) h)
  else
  (if kc h a0 = 38 then
  bd (f_X39_add a0 (1 : Int32) (Int32.toInt64 a1) (Int32.toInt64 a2) (Int32.toInt64 a3) (0 : Int64) h) (fun x20 h21 =>
  if x20 = 0 then
  (rok (0 : Int32) h21)
  else
  (rok (1 : Int32) h21))
  else none))
  else
  (ldR 38 293 a0 h fun x1 =>
  ldR 34 249 x1 h fun x2 =>
  aldR 8 x2 a4 h fun x3 =>
  if kc h x3 = 36 then
  bd (f_X37_isText x3 h) (fun x4 h5 =>
  if x4 = 0 then
  (if kc h5 x3 = 36 then
  bd (f_X37_isConstant x3 h5) (fun x6 h7 =>
  if x6 = 0 then
  (ldR 38 297 a0 h7 fun x8 =>
  aldI 0 x8 a4 h7 fun x9 =>
  if x9 = 0 then
  (if a3 = 0 then
  (f_X39_compare_b161  a0 a1 a2 a3 a4 x3 h7)
  else
  (ldR 38 296 a0 h7 fun x10 =>
  aldI 0 x10 a3 h7 fun x11 =>
  if x11 = 0 then
  (if kc h7 a0 = 38 then
  bd (f_X39_isPair a0 a3 a4 h7) (fun x12 h13 =>
  if x12 = 0 then
  (f_X39_compare_b161  a0 a1 a2 a3 a4 x3 h13)
  else
  (rok (1 : Int32) h13))
  else none)
  else
  (f_X39_compare_b161  a0 a1 a2 a3 a4 x3 h7)))
  else
  (ldR 38 297 a0 h7 fun x14 =>
  aldI 0 x14 a4 h7 fun x15 =>
  if x15 = a3 then
  (rok (1 : Int32) h7)
  else
  (ldR 38 297 a0 h7 fun x16 =>
  aldI 0 x16 a4 h7 fun x17 =>
  if kc h7 a0 = 38 then
  bd (f_X39_add a0 (1 : Int32) (Int32.toInt64 a1) (Int32.toInt64 a2) (Int32.toInt64 a3) (Int32.toInt64 x17) h7) (fun x18 h19 =>
  if x18 = 0 then
  (rok (0 : Int32) h19)
  else
  (rok (1 : Int32) h19))
  else none)))
  else
  (f_X39_compare_b58  a0 a1 a2 a3 a4 h7))
  else none)
  else
  (f_X39_compare_b58  a0 a1 a2 a3 a4 h5))
  else none)
noncomputable def b_X39_unpair_l2 (v0 : Nat) (ih : Int32 → HP → Rs Unit) (a1 : Int32) (h : HP) : Rs Unit :=
  if (4000 : Int32) < a1 then
  (rok () h)
  else
  (ldR 38 296 v0 h fun x1 =>
  astI 0 x1 a1 (0 : Int32) h fun h2 =>
  ldR 38 297 v0 h2 fun x3 =>
  astI 0 x3 a1 (0 : Int32) h2 fun h4 =>
  lt3 (a1 + 1) fun x5 =>
  ih x5 h4)
noncomputable def f_X39_unpair_l2 (v0 : Nat) (n : Nat) : Int32 → HP → Rs Unit := @Nat.rec (fun _ => Int32 → HP → Rs Unit) (fun _ _ => none) (fun _ ih => b_X39_unpair_l2 v0 ih) n
noncomputable def f_X39_unpair (a0 : Nat) (h : HP) : Rs Unit :=
  bd (f_X39_unpair_l2 a0 NN (0 : Int32) h) (fun x1 h2 => stI 38 299 a0 (0 : Int32) h2 fun h3 =>
  rok () h3)
noncomputable def f_X39_patch_l86b204 (v0 : Nat) (v4 : Int32) (v5 : Nat) (ih : Int32 → Int32 → HP → Rs Int32) (a6 : Int32) (s0 : Int32) (h : HP) : Rs Int32 :=
  lt3 (a6 + 1) fun x1 =>
  ih s0 x1 h
noncomputable def f_X39_patch_l86b179 (v0 : Nat) (v4 : Int32) (v5 : Nat) (ih : Int32 → Int32 → HP → Rs Int32) (a6 : Int32) (h : HP) : Rs Int32 :=
  f_X39_patch_l86b204 v0 v4 v5 ih a6 (1 : Int32) h
noncomputable def b_X39_patch_l86 (v0 : Nat) (v4 : Int32) (v5 : Nat) (ih : Int32 → Int32 → HP → Rs Int32) (a3 : Int32) (a6 : Int32) (h : HP) : Rs Int32 :=
  ldI 36 275 v5 h fun x1 =>
  if x1 ≤ a6 then
  (rok a3 h)
  else
  (if a3 = 0 then
  (rok a3 h)
  else
  (ldR 38 293 v0 h fun x2 =>
  ldI 36 273 v5 h fun x3 =>
  if kc h x2 = 34 then
  bd (f_X35_peek x2 x3 a6 h) (fun x4 h5 =>
  ldR 38 293 v0 h5 fun x6 =>
  ldR 38 296 v0 h5 fun x7 =>
  ldI 36 273 v5 h5 fun x8 =>
  aldI 0 x7 x8 h5 fun x9 =>
  if kc h5 x6 = 34 then
  bd (f_X35_peek x6 x9 a6 h5) (fun x10 h11 =>
  if kc h11 v5 = 36 then
  bd (f_X37_kindOf v5 a6 h11) (fun x12 h13 =>
  if kc h13 x12 = 4 then
  bd (f_X3_isPlain x12 h13) (fun x14 h15 =>
  if x14 = 0 then
  (ldI 36 273 v5 h15 fun x16 =>
  if kc h15 v0 = 38 then
  bd (f_X39_compare v0 x16 a6 (Int64.toInt32 x4) (Int64.toInt32 x10) h15) (fun x17 h18 =>
  f_X39_patch_l86b204 v0 v4 v5 ih a6 x17 h18)
  else none)
  else
  (if (lg_cmp x4 x10) = 0 then
  (f_X39_patch_l86b179 v0 v4 v5 ih a6 h15)
  else
  (ldI 36 273 v5 h15 fun x19 =>
  if kc h15 v0 = 38 then
  bd (f_X39_add v0 (1 : Int32) (Int32.toInt64 x19) (Int32.toInt64 a6) x4 x10 h15) (fun x20 h21 =>
  if x20 = 0 then
  (f_X39_patch_l86b204 v0 v4 v5 ih a6 (0 : Int32) h21)
  else
  (f_X39_patch_l86b179 v0 v4 v5 ih a6 h21))
  else none)))
  else none)
  else none)
  else none)
  else none))
noncomputable def f_X39_patch_l86 (v0 : Nat) (v4 : Int32) (v5 : Nat) (n : Nat) : Int32 → Int32 → HP → Rs Int32 := @Nat.rec (fun _ => Int32 → Int32 → HP → Rs Int32) (fun _ _ _ => none) (fun _ ih => b_X39_patch_l86 v0 v4 v5 ih) n
noncomputable def f_X39_patch_l24b211 (v0 : Nat) (ih : Int32 → Int32 → HP → Rs Int32) (a3 : Int32) (a4 : Int32) (h : HP) : Rs Int32 :=
  lt3 (a4 + 1) fun x1 =>
  ih a3 x1 h
noncomputable def b_X39_patch_l24 (v0 : Nat) (ih : Int32 → Int32 → HP → Rs Int32) (a3 : Int32) (a4 : Int32) (h : HP) : Rs Int32 :=
  ldI 38 299 v0 h fun x1 =>
  if x1 ≤ a4 then
  (rok a3 h)
  else
  (if a3 = 0 then
  (rok a3 h)
  else
  (ldR 38 293 v0 h fun x2 =>
  ldR 34 249 x2 h fun x3 =>
  ldR 38 298 v0 h fun x4 =>
  aldI 0 x4 a4 h fun x5 =>
  aldR 8 x3 x5 h fun x6 =>
  ldR 38 293 v0 h fun x7 =>
  ldI 36 273 x6 h fun x8 =>
  if kc h x7 = 34 then
  bd (f_X35_noteRead x7 x8 h) (fun _ h9 =>
  ldR 38 293 v0 h9 fun x10 =>
  ldR 38 296 v0 h9 fun x11 =>
  ldI 36 273 x6 h9 fun x12 =>
  aldI 0 x11 x12 h9 fun x13 =>
  if kc h9 x10 = 34 then
  bd (f_X35_noteRead x10 x13 h9) (fun _ h14 =>
  bd (f_X39_patch_l86 v0 a4 x6 NN a3 (0 : Int32) h14) (fun x15 h16 => f_X39_patch_l24b211 v0 ih x15 a4 h16))
  else none)
  else none))
noncomputable def f_X39_patch_l24 (v0 : Nat) (n : Nat) : Int32 → Int32 → HP → Rs Int32 := @Nat.rec (fun _ => Int32 → Int32 → HP → Rs Int32) (fun _ _ _ => none) (fun _ ih => b_X39_patch_l24 v0 ih) n
noncomputable def f_X39_patch_l265b351 (v0 : Nat) (v4 : Int32) (v5 : Nat) (ih : Int32 → Int32 → HP → Rs Int32) (a3 : Int32) (a6 : Int32) (h : HP) : Rs Int32 :=
  lt3 (a6 + 1) fun x1 =>
  ih a3 x1 h
noncomputable def f_X39_patch_l265b350 (v0 : Nat) (v4 : Int32) (v5 : Nat) (ih : Int32 → Int32 → HP → Rs Int32) (a6 : Int32) (s0 : Int32) (h : HP) : Rs Int32 :=
  f_X39_patch_l265b351 v0 v4 v5 ih s0 a6 h
noncomputable def b_X39_patch_l265 (v0 : Nat) (v4 : Int32) (v5 : Nat) (ih : Int32 → Int32 → HP → Rs Int32) (a3 : Int32) (a6 : Int32) (h : HP) : Rs Int32 :=
  ldI 36 275 v5 h fun x1 =>
  if x1 ≤ a6 then
  (rok a3 h)
  else
  (if a3 = 0 then
  (rok a3 h)
  else
  (ldR 38 293 v0 h fun x2 =>
  ldI 36 273 v5 h fun x3 =>
  if kc h x2 = 34 then
  bd (f_X35_peek x2 x3 a6 h) (fun x4 h5 =>
  if (lg_cmp x4 (0 : Int64)) = 0 then
  (f_X39_patch_l265b351 v0 v4 v5 ih a3 a6 h5)
  else
  (if kc h5 v5 = 36 then
  bd (f_X37_kindOf v5 a6 h5) (fun x6 h7 =>
  if kc h7 x6 = 4 then
  bd (f_X3_isPlain x6 h7) (fun x8 h9 =>
  if x8 = 0 then
  (if kc h9 v0 = 38 then
  bd (f_X39_compare v0 ((-v4) - (1 : Int32)) a6 (0 : Int32) (Int64.toInt32 x4) h9) (fun x10 h11 =>
  f_X39_patch_l265b350 v0 v4 v5 ih a6 x10 h11)
  else none)
  else
  (if kc h9 v0 = 38 then
  bd (f_X39_add v0 (1 : Int32) (Int32.toInt64 ((-v4) - (1 : Int32))) (Int32.toInt64 a6) (0 : Int64) x4 h9) (fun x12 h13 =>
  f_X39_patch_l265b350 v0 v4 v5 ih a6 x12 h13)
  else none))
  else none)
  else none))
  else none))
noncomputable def f_X39_patch_l265 (v0 : Nat) (v4 : Int32) (v5 : Nat) (n : Nat) : Int32 → Int32 → HP → Rs Int32 := @Nat.rec (fun _ => Int32 → Int32 → HP → Rs Int32) (fun _ _ _ => none) (fun _ ih => b_X39_patch_l265 v0 v4 v5 ih) n
noncomputable def f_X39_patch_l220b357 (v0 : Nat) (ih : Int32 → Int32 → HP → Rs Int32) (a3 : Int32) (a4 : Int32) (h : HP) : Rs Int32 :=
  lt3 (a4 + 1) fun x1 =>
  ih a3 x1 h
noncomputable def b_X39_patch_l220 (v0 : Nat) (ih : Int32 → Int32 → HP → Rs Int32) (a3 : Int32) (a4 : Int32) (h : HP) : Rs Int32 :=
  ldI 38 306 v0 h fun x1 =>
  if x1 ≤ a4 then
  (rok a3 h)
  else
  (if a3 = 0 then
  (rok a3 h)
  else
  (ldR 38 293 v0 h fun x2 =>
  ldR 34 249 x2 h fun x3 =>
  ldR 38 305 v0 h fun x4 =>
  aldI 0 x4 a4 h fun x5 =>
  aldR 8 x3 x5 h fun x6 =>
  ldR 38 293 v0 h fun x7 =>
  ldI 36 273 x6 h fun x8 =>
  if kc h x7 = 34 then
  bd (f_X35_noteRead x7 x8 h) (fun _ h9 =>
  bd (f_X39_patch_l265 v0 a4 x6 NN a3 (0 : Int32) h9) (fun x10 h11 => f_X39_patch_l220b357 v0 ih x10 a4 h11))
  else none))
noncomputable def f_X39_patch_l220 (v0 : Nat) (n : Nat) : Int32 → Int32 → HP → Rs Int32 := @Nat.rec (fun _ => Int32 → Int32 → HP → Rs Int32) (fun _ _ _ => none) (fun _ ih => b_X39_patch_l220 v0 ih) n
noncomputable def f_X39_patch_b363 (a0 : Nat) (a3 : Int32) (h : HP) : Rs Int32 :=
  if a3 = 0 then
  (rok (-1 : Int32) h)
  else
  (ldR 38 301 a0 h fun x1 =>
  ldR 38 302 a0 h fun x2 =>
  stR 38 301 a0 x2 h fun h3 =>
  stR 38 302 a0 x1 h3 fun h4 =>
  ldI 38 304 a0 h4 fun x5 =>
  stI 38 303 a0 x5 h4 fun h6 =>
  ldI 38 303 a0 h6 fun x7 =>
  rok x7 h6)
noncomputable def f_X39_patch_b217 (a0 : Nat) (a3 : Int32) (h : HP) : Rs Int32 :=
  bd (f_X39_patch_l220 a0 NN a3 (0 : Int32) h) (fun x1 h2 => f_X39_patch_b363  a0 x1 h2)
noncomputable def f_X39_patch (a0 : Nat) (a1 : Int32) (a2 : Int32) (h : HP) : Rs Int32 :=
  if kc h a0 = 38 then
  bd (f_X39_unpair a0 h) (fun _ h1 =>
  stI 38 304 a0 (0 : Int32) h1 fun h2 =>
  stI 38 306 a0 (0 : Int32) h2 fun h3 =>
  if kc h3 a0 = 38 then
  bd (f_X39_isPair a0 a1 a2 h3) (fun x4 h5 =>
  bd (f_X39_patch_l24 a0 NN x4 (0 : Int32) h5) (fun x6 h7 => f_X39_patch_b217  a0 x6 h7))
  else none)
  else none
noncomputable def f_X0_patch (a0 : Nat) (a1 : Int32) (a2 : Int32) (h : HP) : Rs Int32 :=
  if kc h a0 = 1 then
  bd (f_X0_twoRefusal a0 a1 a2 h) (fun x1 h2 =>
  if x1 ≤ 0 then
  (ldR 1 7 a0 h2 fun x3 =>
  ldR 34 249 x3 h2 fun x4 =>
  aldR 8 x4 a1 h2 fun x5 =>
  ldR 1 7 a0 h2 fun x6 =>
  ldR 34 249 x6 h2 fun x7 =>
  aldR 8 x7 a2 h2 fun x8 =>
  ldR 36 274 x5 h2 fun x9 =>
  ldR 36 274 x8 h2 fun x10 =>
  eqR h2 x9 x10
  (ldI 36 275 x5 h2 fun x11 =>
  ldI 36 275 x8 h2 fun x12 =>
  if x11 = x12 then
  (if kc h2 x5 = 36 then
  bd (f_X37_isText x5 h2) (fun x13 h14 =>
  if x13 = 0 then
  (if kc h14 x5 = 36 then
  bd (f_X37_isConstant x5 h14) (fun x15 h16 =>
  if x15 = 0 then
  (ldR 1 9 a0 h16 fun x17 =>
  if kc h16 x17 = 38 then
  bd (f_X39_patch x17 a1 a2 h16) (fun x18 h19 =>
  if 0 ≤ x18 then
  (rok x18 h19)
  else
  (rok (-12 : Int32) h19))
  else none)
  else
  (rok (-1 : Int32) h16))
  else none)
  else
  (rok (-1 : Int32) h14))
  else none)
  else
  (rok (-1 : Int32) h2))
  (rok (-1 : Int32) h2))
  else
  (rok (-x1) h2))
  else none
noncomputable def f_X0_place (a0 : Nat) (h : HP) : Rs Int32 :=
  ldI 1 16 a0 h fun x1 =>
  rok x1 h
noncomputable def f_X42_poke (a0 : Nat) (a1 : Int32) (a2 : Int32) (h : HP) : Rs Int32 :=
  if a1 < 0 then
  (rok (0 : Int32) h)
  else
  (ldR 41 321 a0 h fun x1 =>
  ldI 39 308 x1 h fun x2 =>
  if a1 < x2 then
  (ldR 41 321 a0 h fun x3 =>
  ldR 39 307 x3 h fun x4 =>
  aldI 1 x4 a1 h fun x5 =>
  astI 1 x4 a1 (vp_nar .byte (Int8.toInt32 (Int32.toInt8 (x5 ^^^ (Int8.toInt32 (Int32.toInt8 a2)))))) h fun h6 =>
  rok (1 : Int32) h6)
  else
  (rok (0 : Int32) h))
noncomputable def f_X0_poke (a0 : Nat) (a1 : Int32) (a2 : Int32) (h : HP) : Rs Int32 :=
  ldI 1 14 a0 h fun x1 =>
  if x1 = 0 then
  (rok (0 : Int32) h)
  else
  (ldR 1 11 a0 h fun x2 =>
  if kc h x2 = 41 then
  bd (f_X42_poke x2 a1 (a2 &&& (255 : Int32)) h) (fun x3 h4 =>
  if x3 = 0 then
  (rok (0 : Int32) h4)
  else
  (rok (1 : Int32) h4))
  else none)
noncomputable def f_X0_put (a0 : Nat) (a1 : Int32) (a2 : Int32) (a3 : Int32) (a4 : Int64) (h : HP) : Rs Int32 :=
  if kc h a0 = 1 then
  bd (f_X0_change a0 a1 a2 a3 a4 (0 : Int32) h) (fun x1 h2 =>
  rok (-x1) h2)
  else none
noncomputable def f_X0_sortFound_l62b170 (v0 : Nat) (v1 : Int32) (v2 : Int32) (v3 : Int32) (v4 : Int32) (v5 : Int32) (v6 : Int32) (ih : Int32 → Int32 → Int32 → HP → Rs Unit) (a7 : Int32) (a8 : Int32) (a9 : Int32) (h : HP) : Rs Unit :=
  lt3 (a9 + 1) fun x1 =>
  ih a7 a8 x1 h
noncomputable def f_X0_sortFound_l62b155 (v0 : Nat) (v1 : Int32) (v2 : Int32) (v3 : Int32) (v4 : Int32) (v5 : Int32) (v6 : Int32) (ih : Int32 → Int32 → Int32 → HP → Rs Unit) (a7 : Int32) (a8 : Int32) (a9 : Int32) (a10 : Int32) (s0 : Nat) (s1 : Int32) (s2 : Int32) (h : HP) : Rs Unit :=
  astI 0 s0 s1 s2 h fun h1 =>
  if a10 = 0 then
  (lt3 (a7 + 1) fun x2 =>
  f_X0_sortFound_l62b170 v0 v1 v2 v3 v4 v5 v6 ih x2 a8 a9 h1)
  else
  (lt3 (a8 + 1) fun x3 =>
  f_X0_sortFound_l62b170 v0 v1 v2 v3 v4 v5 v6 ih a7 x3 a9 h1)
noncomputable def f_X0_sortFound_l62b125 (v0 : Nat) (v1 : Int32) (v2 : Int32) (v3 : Int32) (v4 : Int32) (v5 : Int32) (v6 : Int32) (ih : Int32 → Int32 → Int32 → HP → Rs Unit) (a7 : Int32) (a8 : Int32) (a9 : Int32) (s0 : Int32) (h : HP) : Rs Unit :=
  ldR 1 25 v0 h fun x1 =>
  if s0 = 0 then
  (ldR 1 24 v0 h fun x2 =>
  aldI 0 x2 a7 h fun x3 =>
  f_X0_sortFound_l62b155 v0 v1 v2 v3 v4 v5 v6 ih a7 a8 a9 s0 x1 a9 x3 h)
  else
  (ldR 1 24 v0 h fun x4 =>
  aldI 0 x4 a8 h fun x5 =>
  f_X0_sortFound_l62b155 v0 v1 v2 v3 v4 v5 v6 ih a7 a8 a9 s0 x1 a9 x5 h)
noncomputable def f_X0_sortFound_l62b120 (v0 : Nat) (v1 : Int32) (v2 : Int32) (v3 : Int32) (v4 : Int32) (v5 : Int32) (v6 : Int32) (ih : Int32 → Int32 → Int32 → HP → Rs Unit) (a7 : Int32) (a8 : Int32) (a9 : Int32) (h : HP) : Rs Unit :=
  f_X0_sortFound_l62b125 v0 v1 v2 v3 v4 v5 v6 ih a7 a8 a9 (1 : Int32) h
noncomputable def f_X0_sortFound_l62b124 (v0 : Nat) (v1 : Int32) (v2 : Int32) (v3 : Int32) (v4 : Int32) (v5 : Int32) (v6 : Int32) (ih : Int32 → Int32 → Int32 → HP → Rs Unit) (a7 : Int32) (a8 : Int32) (a9 : Int32) (h : HP) : Rs Unit :=
  f_X0_sortFound_l62b125 v0 v1 v2 v3 v4 v5 v6 ih a7 a8 a9 (0 : Int32) h
noncomputable def b_X0_sortFound_l62 (v0 : Nat) (v1 : Int32) (v2 : Int32) (v3 : Int32) (v4 : Int32) (v5 : Int32) (v6 : Int32) (ih : Int32 → Int32 → Int32 → HP → Rs Unit) (a7 : Int32) (a8 : Int32) (a9 : Int32) (h : HP) : Rs Unit :=
  if v6 ≤ a9 then
  (rok () h)
  else
  (if a7 = v5 then
  (f_X0_sortFound_l62b120 v0 v1 v2 v3 v4 v5 v6 ih a7 a8 a9 h)
  else
  (if v6 ≤ a8 then
  (f_X0_sortFound_l62b124 v0 v1 v2 v3 v4 v5 v6 ih a7 a8 a9 h)
  else
  (ldR 1 7 v0 h fun x1 =>
  ldR 1 24 v0 h fun x2 =>
  aldI 0 x2 a8 h fun x3 =>
  if kc h x1 = 34 then
  bd (f_X35_read x1 x3 v2 h) (fun x4 h5 =>
  ldR 1 7 v0 h5 fun x6 =>
  ldR 1 24 v0 h5 fun x7 =>
  aldI 0 x7 a7 h5 fun x8 =>
  if kc h5 x6 = 34 then
  bd (f_X35_read x6 x8 v2 h5) (fun x9 h10 =>
  bd (f_X34_compare v1 x4 x9 h10) (fun x11 h12 =>
  if 0 ≤ x11 then
  (f_X0_sortFound_l62b124 v0 v1 v2 v3 v4 v5 v6 ih a7 a8 a9 h12)
  else
  (f_X0_sortFound_l62b120 v0 v1 v2 v3 v4 v5 v6 ih a7 a8 a9 h12)))
  else none)
  else none)))
noncomputable def f_X0_sortFound_l62 (v0 : Nat) (v1 : Int32) (v2 : Int32) (v3 : Int32) (v4 : Int32) (v5 : Int32) (v6 : Int32) (n : Nat) : Int32 → Int32 → Int32 → HP → Rs Unit := @Nat.rec (fun _ => Int32 → Int32 → Int32 → HP → Rs Unit) (fun _ _ _ _ => none) (fun _ ih => b_X0_sortFound_l62 v0 v1 v2 v3 v4 v5 v6 ih) n
noncomputable def b_X0_sortFound_l13 (v0 : Nat) (v1 : Int32) (v2 : Int32) (v3 : Int32) (ih : Int32 → HP → Rs Unit) (a4 : Int32) (h : HP) : Rs Unit :=
  ldI 1 26 v0 h fun x1 =>
  if x1 ≤ a4 then
  (rok () h)
  else
  (ldI 1 26 v0 h fun x2 =>
  lt3 (mnI (a4 + v3) x2) fun x3 =>
  ldI 1 26 v0 h fun x4 =>
  lt3 (mnI (a4 + ((2 : Int32) * v3)) x4) fun x5 =>
  bd (f_X0_sortFound_l62 v0 v1 v2 v3 a4 x3 x5 NN a4 x3 a4 h) (fun x6 h7 => lt3 (a4 + ((2 : Int32) * v3)) fun x8 =>
  ih x8 h7))
noncomputable def f_X0_sortFound_l13 (v0 : Nat) (v1 : Int32) (v2 : Int32) (v3 : Int32) (n : Nat) : Int32 → HP → Rs Unit := @Nat.rec (fun _ => Int32 → HP → Rs Unit) (fun _ _ => none) (fun _ ih => b_X0_sortFound_l13 v0 v1 v2 v3 ih) n
noncomputable def b_X0_sortFound_l190 (v0 : Nat) (v1 : Int32) (v2 : Int32) (v3 : Int32) (ih : Int32 → HP → Rs Unit) (a4 : Int32) (h : HP) : Rs Unit :=
  ldI 1 26 v0 h fun x1 =>
  if x1 ≤ a4 then
  (rok () h)
  else
  (ldR 1 24 v0 h fun x2 =>
  ldR 1 25 v0 h fun x3 =>
  aldI 0 x3 a4 h fun x4 =>
  astI 0 x2 a4 x4 h fun h5 =>
  lt3 (a4 + 1) fun x6 =>
  ih x6 h5)
noncomputable def f_X0_sortFound_l190 (v0 : Nat) (v1 : Int32) (v2 : Int32) (v3 : Int32) (n : Nat) : Int32 → HP → Rs Unit := @Nat.rec (fun _ => Int32 → HP → Rs Unit) (fun _ _ => none) (fun _ ih => b_X0_sortFound_l190 v0 v1 v2 v3 ih) n
noncomputable def b_X0_sortFound_l2 (v0 : Nat) (v1 : Int32) (v2 : Int32) (ih : Int32 → HP → Rs Unit) (a3 : Int32) (h : HP) : Rs Unit :=
  ldI 1 26 v0 h fun x1 =>
  if x1 ≤ a3 then
  (rok () h)
  else
  (bd (f_X0_sortFound_l13 v0 v1 v2 a3 NN (0 : Int32) h) (fun x2 h3 => bd (f_X0_sortFound_l190 v0 v1 v2 a3 NN (0 : Int32) h3) (fun x4 h5 => lt3 (a3 * (2 : Int32)) fun x6 =>
  ih x6 h5)))
noncomputable def f_X0_sortFound_l2 (v0 : Nat) (v1 : Int32) (v2 : Int32) (n : Nat) : Int32 → HP → Rs Unit := @Nat.rec (fun _ => Int32 → HP → Rs Unit) (fun _ _ => none) (fun _ ih => b_X0_sortFound_l2 v0 v1 v2 ih) n
noncomputable def f_X0_sortFound (a0 : Nat) (a1 : Int32) (a2 : Int32) (h : HP) : Rs Unit :=
  bd (f_X0_sortFound_l2 a0 a1 a2 NN (1 : Int32) h) (fun x1 h2 => rok () h2)
noncomputable def f_X0_range_l130b194 (v0 : Nat) (v2 : Int32) (v3 : Int64) (v5 : Int64) (v7 : Nat) (v8 : Int32) (ih : Int32 → HP → Rs Unit) (a9 : Int32) (h : HP) : Rs Unit :=
  ldR 1 7 v0 h fun x1 =>
  if kc h x1 = 34 then
  bd (f_X35_nextAlive x1 v7 a9 h) (fun x2 h3 =>
  ih x2 h3)
  else none
noncomputable def b_X0_range_l130 (v0 : Nat) (v2 : Int32) (v3 : Int64) (v5 : Int64) (v7 : Nat) (v8 : Int32) (ih : Int32 → HP → Rs Unit) (a9 : Int32) (h : HP) : Rs Unit :=
  if a9 ≤ 0 then
  (rok () h)
  else
  (ldR 1 7 v0 h fun x1 =>
  if kc h x1 = 34 then
  bd (f_X35_read x1 a9 v2 h) (fun x2 h3 =>
  bd (f_X34_compare v8 x2 v3 h3) (fun x4 h5 =>
  if x4 < 0 then
  (f_X0_range_l130b194 v0 v2 v3 v5 v7 v8 ih a9 h5)
  else
  (bd (f_X34_compare v8 x2 v5 h5) (fun x6 h7 =>
  if x6 ≤ 0 then
  (ldR 1 24 v0 h7 fun x8 =>
  ldI 1 26 v0 h7 fun x9 =>
  astI 0 x8 x9 a9 h7 fun h10 =>
  ldI 1 26 v0 h10 fun x11 =>
  stI 1 26 v0 (x11 + (1 : Int32)) h10 fun h12 =>
  f_X0_range_l130b194 v0 v2 v3 v5 v7 v8 ih a9 h12)
  else
  (f_X0_range_l130b194 v0 v2 v3 v5 v7 v8 ih a9 h7)))))
  else none)
noncomputable def f_X0_range_l130 (v0 : Nat) (v2 : Int32) (v3 : Int64) (v5 : Int64) (v7 : Nat) (v8 : Int32) (n : Nat) : Int32 → HP → Rs Unit := @Nat.rec (fun _ => Int32 → HP → Rs Unit) (fun _ _ => none) (fun _ ih => b_X0_range_l130 v0 v2 v3 v5 v7 v8 ih) n
noncomputable def f_X0_range (a0 : Nat) (a1 : Int32) (a2 : Int32) (a3 : Int64) (a5 : Int64) (h : HP) : Rs Int32 :=
  if kc h a0 = 1 then
  bd (f_X0_hasView a0 h) (fun x1 h2 =>
  if x1 = 0 then
  (rok (-13 : Int32) h2)
  else
  (ldR 1 4 a0 h2 fun x3 =>
  if kc h2 x3 = 3 then
  bd (f_X2_has x3 a1 h2) (fun x4 h5 =>
  if x4 = 0 then
  (rok (-14 : Int32) h5)
  else
  (if a2 < 0 then
  (rok (-14 : Int32) h5)
  else
  (ldR 1 4 a0 h5 fun x6 =>
  if kc h5 x6 = 3 then
  bd (f_X2_get x6 a1 h5) (fun x7 h8 =>
  ldR 4 44 x7 h8 fun x9 =>
  lsSize x9 h8 fun x10 =>
  if a2 < x10 then
  (ldR 1 4 a0 h8 fun x11 =>
  if kc h8 x11 = 3 then
  bd (f_X2_get x11 a1 h8) (fun x12 h13 =>
  ldR 4 44 x12 h13 fun x14 =>
  lsGet x14 a2 h13 fun x15 =>
  castR [31] x15 h13 (
  ldR 31 235 x15 h13 fun x16 =>
  ldI 4 31 x16 h13 fun x17 =>
  if (7 : Int32) < x17 then
  (rok (-1 : Int32) h13)
  else
  (bd (f_X34_isBits x17 a3 h13) (fun x18 h19 =>
  if x18 = 0 then
  (rok (-1 : Int32) h19)
  else
  (bd (f_X34_isBits x17 a5 h19) (fun x20 h21 =>
  if x20 = 0 then
  (rok (-1 : Int32) h21)
  else
  (ldR 1 7 a0 h21 fun x22 =>
  if kc h21 x22 = 34 then
  bd (f_X35_noteClass x22 x12 h21) (fun _ h23 =>
  stI 1 26 a0 (0 : Int32) h23 fun h24 =>
  ldR 1 7 a0 h24 fun x25 =>
  if kc h24 x25 = 34 then
  bd (f_X35_nextAlive x25 x12 (0 : Int32) h24) (fun x26 h27 =>
  bd (f_X0_range_l130 a0 a2 a3 a5 x12 x17 NN x26 h27) (fun x28 h29 => if kc h29 a0 = 1 then
  bd (f_X0_sortFound a0 x17 a2 h29) (fun _ h30 =>
  ldI 1 26 a0 h30 fun x31 =>
  rok x31 h30)
  else none))
  else none)
  else none)))))))
  else none)
  else
  (rok (-14 : Int32) h8))
  else none)))
  else none))
  else none
noncomputable def f_X40_checkOf_l22b48 (v0 : Nat) (v1 : Int32) (v3 : Int32) (ih : Int32 → Int32 → HP → Rs Int32) (a4 : Int32) (s0 : Int32) (h : HP) : Rs Int32 :=
  lt3 (a4 + 1) fun x1 =>
  ih s0 x1 h
noncomputable def b_X40_checkOf_l22 (v0 : Nat) (v1 : Int32) (v3 : Int32) (ih : Int32 → Int32 → HP → Rs Int32) (a2 : Int32) (a4 : Int32) (h : HP) : Rs Int32 :=
  if (8 : Int32) ≤ a4 then
  (rok a2 h)
  else
  (if (a2 &&& (1 : Int32)) = (1 : Int32) then
  (f_X40_checkOf_l22b48 v0 v1 v3 ih a4 ((UInt32.toInt32 (Int32.toUInt32 a2 >>> (Int32.toUInt32 (1 : Int32) &&& Int32.toUInt32 31))) ^^^ (-306674912 : Int32)) h)
  else
  (f_X40_checkOf_l22b48 v0 v1 v3 ih a4 (UInt32.toInt32 (Int32.toUInt32 a2 >>> (Int32.toUInt32 (1 : Int32) &&& Int32.toUInt32 31))) h))
noncomputable def f_X40_checkOf_l22 (v0 : Nat) (v1 : Int32) (v3 : Int32) (n : Nat) : Int32 → Int32 → HP → Rs Int32 := @Nat.rec (fun _ => Int32 → Int32 → HP → Rs Int32) (fun _ _ _ => none) (fun _ ih => b_X40_checkOf_l22 v0 v1 v3 ih) n
noncomputable def b_X40_checkOf_l4 (v0 : Nat) (v1 : Int32) (ih : Int32 → Int32 → HP → Rs Int32) (a2 : Int32) (a3 : Int32) (h : HP) : Rs Int32 :=
  if v1 ≤ a3 then
  (rok a2 h)
  else
  (aldI 1 v0 a3 h fun x1 =>
  lt3 (a2 ^^^ (x1 &&& (255 : Int32))) fun x2 =>
  bd (f_X40_checkOf_l22 v0 v1 a3 NN x2 (0 : Int32) h) (fun x3 h4 => lt3 (a3 + 1) fun x5 =>
  ih x3 x5 h4))
noncomputable def f_X40_checkOf_l4 (v0 : Nat) (v1 : Int32) (n : Nat) : Int32 → Int32 → HP → Rs Int32 := @Nat.rec (fun _ => Int32 → Int32 → HP → Rs Int32) (fun _ _ _ => none) (fun _ ih => b_X40_checkOf_l4 v0 v1 ih) n
noncomputable def f_X40_checkOf (a0 : Nat) (a1 : Int32) (h : HP) : Rs Int32 :=
  bd (f_X40_checkOf_l4 a0 a1 NN (-1 : Int32) (0 : Int32) h) (fun x1 h2 => rok (x1 ^^^ (-1 : Int32)) h2)
noncomputable def f_X41_checkAt (a0 : Nat) (a1 : Int32) (h : HP) : Rs Int32 :=
  ldR 40 311 a0 h fun x1 =>
  aldI 1 x1 a1 h fun x2 =>
  ldR 40 311 a0 h fun x3 =>
  aldI 1 x3 (a1 + (1 : Int32)) h fun x4 =>
  ldR 40 311 a0 h fun x5 =>
  aldI 1 x5 (a1 + (2 : Int32)) h fun x6 =>
  ldR 40 311 a0 h fun x7 =>
  aldI 1 x7 (a1 + (3 : Int32)) h fun x8 =>
  rok (((((x2 &&& (255 : Int32)) <<< ((24 : Int32) &&& 31)) ||| ((x4 &&& (255 : Int32)) <<< ((16 : Int32) &&& 31))) ||| ((x6 &&& (255 : Int32)) <<< ((8 : Int32) &&& 31))) ||| (x8 &&& (255 : Int32))) h
noncomputable def f_X41_hasContents (a0 : Nat) (h : HP) : Rs Int32 :=
  if kc h a0 = 4 then
  bd (f_X3_isClassLike a0 h) (fun x1 h2 =>
  if x1 = 0 then
  (ldR 4 32 a0 h2 fun x3 =>
  eqS x3 907
  (rok (1 : Int32) h2)
  (rok (0 : Int32) h2))
  else
  (rok (1 : Int32) h2))
  else none
noncomputable def f_X41_partKind (a0 : Nat) (a1 : Int32) (h : HP) : Rs Nat :=
  ldR 4 32 a0 h fun x1 =>
  eqS x1 907
  (ldR 4 34 a0 h fun x5 =>
  rok x5 h)
  (ldR 4 44 a0 h fun x2 =>
  lsGet x2 a1 h fun x3 =>
  castR [31] x3 h (
  ldR 31 235 x3 h fun x4 =>
  rok x4 h))
noncomputable def f_X0_width (a0 : Nat) (h : HP) : Rs Int32 :=
  ldI 4 31 a0 h fun x1 =>
  if x1 = 0 then
  (rok (1 : Int32) h)
  else
  if x1 = 1 then
  (rok (1 : Int32) h)
  else
  if x1 = 2 then
  (rok (2 : Int32) h)
  else
  if x1 = 3 then
  (rok (2 : Int32) h)
  else
  if x1 = 4 then
  (rok (4 : Int32) h)
  else
  if x1 = 5 then
  (rok (8 : Int32) h)
  else
  if x1 = 6 then
  (rok (4 : Int32) h)
  else
  if x1 = 7 then
  (rok (8 : Int32) h)
  else
  (rok (0 : Int32) h)
noncomputable def f_X41_next (a0 : Nat) (h : HP) : Rs Int32 :=
  ldI 40 313 a0 h fun x1 =>
  stI 40 313 a0 (x1 + (1 : Int32)) h fun h2 =>
  ldR 40 311 a0 h2 fun x3 =>
  ldI 40 313 a0 h2 fun x4 =>
  aldI 1 x3 (x4 - (1 : Int32)) h2 fun x5 =>
  rok (x5 &&& (255 : Int32)) h2
noncomputable def f_X41_wrong (a0 : Nat) (a1 : Int32) (h : HP) : Rs Nat :=
  ldR 40 310 a0 h fun x1 =>
  if kc h x1 = 2 then
  bd (f_X1_at x1 (20 : Int32) a1 h) (fun x2 h3 =>
  rok x2 h3)
  else none
noncomputable def b_X41_small_l15 (v0 : Nat) (v1 : Int32) (v2 : Int32) (ih : Int64 → Int32 → Int32 → HP → Rs (Unit ⊕ (Int64 × Int32 × Int32))) (a3 : Int64) (a5 : Int32) (a6 : Int32) (h : HP) : Rs (Unit ⊕ (Int64 × Int32 × Int32)) :=
  if a6 ≤ (127 : Int32) then
  (rok (Sum.inr (a3, a5, a6)) h)
  else
  (ldI 40 313 v0 h fun x1 =>
  ldI 40 312 v0 h fun x2 =>
  if x1 = x2 then
  (rok (Sum.inl ()) h)
  else
  (if a5 ≤ (28 : Int32) then
  (if kc h v0 = 40 then
  bd (f_X41_next v0 h) (fun x3 h4 =>
  lt3 (a3 ||| ((Int32.toInt64 (x3 &&& (127 : Int32))) <<< (Int32.toInt64 a5 &&& 63))) fun x5 =>
  lt3 (a5 + 7) fun x6 =>
  ih x5 x6 x3 h4)
  else none)
  else
  (rok (Sum.inl ()) h)))
noncomputable def f_X41_small_l15 (v0 : Nat) (v1 : Int32) (v2 : Int32) (n : Nat) : Int64 → Int32 → Int32 → HP → Rs (Unit ⊕ (Int64 × Int32 × Int32)) := @Nat.rec (fun _ => Int64 → Int32 → Int32 → HP → Rs (Unit ⊕ (Int64 × Int32 × Int32))) (fun _ _ _ _ => none) (fun _ ih => b_X41_small_l15 v0 v1 v2 ih) n
noncomputable def f_X41_small_b82 (a0 : Nat) (a1 : Int32) (a2 : Int32) (a3 : Int64) (h : HP) : Rs Int32 :=
  if 0 < (lg_cmp a3 (2147483647 : Int64)) then
  (if kc h a0 = 40 then
  bd (f_X41_wrong a0 a2 h) (fun x1 h2 =>
  if kc h2 x1 = 69 then rex h2 else none)
  else none)
  else
  (if (lg_cmp a3 (Int32.toInt64 a1)) ≤ 0 then
  (rok (Int64.toInt32 a3) h)
  else
  (if kc h a0 = 40 then
  bd (f_X41_wrong a0 a2 h) (fun x3 h4 =>
  if kc h4 x3 = 69 then rex h4 else none)
  else none))
noncomputable def f_X41_small (a0 : Nat) (a1 : Int32) (h : HP) : Rs Int32 :=
  ldI 40 313 a0 h fun x1 =>
  bd (f_X41_small_l15 a0 a1 x1 NN (0 : Int64) (0 : Int32) (128 : Int32) h) (Sum.elim (fun x2 => fun h3 => if kc h3 a0 = 40 then
  bd (f_X41_wrong a0 x1 h3) (fun x4 h5 =>
  if kc h5 x4 = 69 then rex h5 else none)
  else none) (fun x6 => fun h7 => if x6.2.2 = 0 then
  (if (7 : Int32) < x6.2.1 then
  (if kc h7 a0 = 40 then
  bd (f_X41_wrong a0 x1 h7) (fun x8 h9 =>
  if kc h9 x8 = 69 then rex h9 else none)
  else none)
  else
  (f_X41_small_b82  a0 a1 x1 x6.1 h7))
  else
  (f_X41_small_b82  a0 a1 x1 x6.1 h7)))
noncomputable def b_X41_value_l66 (v0 : Nat) (v1 : Nat) (v2 : Int32) (v3 : Int32) (ih : Int64 → Int32 → HP → Rs Int64) (a4 : Int64) (a6 : Int32) (h : HP) : Rs Int64 :=
  if v3 ≤ a6 then
  (rok a4 h)
  else
  (if kc h v0 = 40 then
  bd (f_X41_next v0 h) (fun x1 h2 =>
  lt3 ((a4 <<< (Int32.toInt64 (8 : Int32) &&& 63)) ||| (Int32.toInt64 x1)) fun x3 =>
  lt3 (a6 + 1) fun x4 =>
  ih x3 x4 h2)
  else none)
noncomputable def f_X41_value_l66 (v0 : Nat) (v1 : Nat) (v2 : Int32) (v3 : Int32) (n : Nat) : Int64 → Int32 → HP → Rs Int64 := @Nat.rec (fun _ => Int64 → Int32 → HP → Rs Int64) (fun _ _ _ => none) (fun _ ih => b_X41_value_l66 v0 v1 v2 v3 ih) n
noncomputable def f_X41_value_b135 (a0 : Nat) (a1 : Nat) (a2 : Int32) (a4 : Int64) (h : HP) : Rs Int64 :=
  ldI 4 31 a1 h fun x1 =>
  bd (f_X34_isBits x1 a4 h) (fun x2 h3 =>
  if x2 = 0 then
  (if kc h3 a0 = 40 then
  bd (f_X41_wrong a0 a2 h3) (fun x4 h5 =>
  if kc h5 x4 = 69 then rex h5 else none)
  else none)
  else
  (rok a4 h3))
noncomputable def f_X41_value_b121 (a0 : Nat) (a1 : Nat) (a2 : Int32) (a4 : Int64) (h : HP) : Rs Int64 :=
  ldI 4 31 a1 h fun x1 =>
  if x1 = (4 : Int32) then
  (lt3 (Int32.toInt64 (Int64.toInt32 a4)) fun x2 =>
  f_X41_value_b135  a0 a1 a2 x2 h)
  else
  (f_X41_value_b135  a0 a1 a2 a4 h)
noncomputable def f_X41_value_b106 (a0 : Nat) (a1 : Nat) (a2 : Int32) (a4 : Int64) (h : HP) : Rs Int64 :=
  ldI 4 31 a1 h fun x1 =>
  if x1 = (2 : Int32) then
  (lt3 (Int32.toInt64 (Int16.toInt32 (Int32.toInt16 (Int64.toInt32 a4)))) fun x2 =>
  f_X41_value_b121  a0 a1 a2 x2 h)
  else
  (f_X41_value_b121  a0 a1 a2 a4 h)
noncomputable def f_X41_value (a0 : Nat) (a1 : Nat) (h : HP) : Rs Int64 :=
  ldI 40 313 a0 h fun x1 =>
  bd (f_X0_width a1 h) (fun x2 h3 =>
  if x2 = 0 then
  (if kc h3 a0 = 40 then
  bd (f_X41_small a0 (2147483647 : Int32) h3) (fun x12 h13 =>
  ldI 40 319 a0 h13 fun x14 =>
  if x12 ≤ x14 then
  (rok (Int32.toInt64 x12) h13)
  else
  (if kc h13 a0 = 40 then
  bd (f_X41_wrong a0 x1 h13) (fun x15 h16 =>
  if kc h16 x15 = 69 then rex h16 else none)
  else none))
  else none)
  else
  (ldI 40 313 a0 h3 fun x4 =>
  ldI 40 312 a0 h3 fun x5 =>
  if (x4 + x2) ≤ x5 then
  (bd (f_X41_value_l66 a0 a1 x1 x2 NN (0 : Int64) (0 : Int32) h3) (fun x6 h7 => ldI 4 31 a1 h7 fun x8 =>
  if x8 = (1 : Int32) then
  (lt3 (Int32.toInt64 (Int8.toInt32 (Int32.toInt8 (Int64.toInt32 x6)))) fun x9 =>
  f_X41_value_b106  a0 a1 x1 x9 h7)
  else
  (f_X41_value_b106  a0 a1 x1 x6 h7)))
  else
  (if kc h3 a0 = 40 then
  bd (f_X41_wrong a0 x1 h3) (fun x10 h11 =>
  if kc h11 x10 = 69 then rex h11 else none)
  else none)))
noncomputable def f_X41_fit_l37b109 (v0 : Nat) (v1 : Int32) (ih : Int32 → HP → Rs (Int32 ⊕ Unit)) (a2 : Int32) (h : HP) : Rs (Int32 ⊕ Unit) :=
  lt3 (a2 + 1) fun x1 =>
  ih x1 h
noncomputable def b_X41_fit_l37 (v0 : Nat) (v1 : Int32) (ih : Int32 → HP → Rs (Int32 ⊕ Unit)) (a2 : Int32) (h : HP) : Rs (Int32 ⊕ Unit) :=
  ldR 40 316 v0 h fun x1 =>
  aldI 0 x1 v1 h fun x2 =>
  if x2 ≤ a2 then
  (rok (Sum.inr ()) h)
  else
  (ldI 40 313 v0 h fun x3 =>
  ldR 40 315 v0 h fun x4 =>
  aldR 6 x4 v1 h fun x5 =>
  bd (f_X41_partKind x5 a2 h) (fun x6 h7 =>
  if kc h7 v0 = 40 then
  bd (f_X41_value v0 x6 h7) (fun x8 h9 =>
  if kc h9 x6 = 4 then
  bd (f_X3_isPlain x6 h9) (fun x10 h11 =>
  if x10 = 0 then
  (if (lg_cmp x8 (0 : Int64)) ≤ 0 then
  (f_X41_fit_l37b109 v0 v1 ih a2 h11)
  else
  (ldR 40 315 v0 h11 fun x12 =>
  aldR 6 x12 (Int64.toInt32 x8) h11 fun x13 =>
  if kc h11 x13 = 4 then
  bd (f_X3_isBelow 100 x13 x6 h11) (fun x14 h15 =>
  if x14 = 0 then
  (rok (Sum.inl x3) h15)
  else
  (f_X41_fit_l37b109 v0 v1 ih a2 h15))
  else none))
  else
  (f_X41_fit_l37b109 v0 v1 ih a2 h11))
  else none)
  else none))
noncomputable def f_X41_fit_l37 (v0 : Nat) (v1 : Int32) (n : Nat) : Int32 → HP → Rs (Int32 ⊕ Unit) := @Nat.rec (fun _ => Int32 → HP → Rs (Int32 ⊕ Unit)) (fun _ _ => none) (fun _ ih => b_X41_fit_l37 v0 v1 ih) n
noncomputable def f_X41_fit_l2b115 (v0 : Nat) (ih : Int32 → HP → Rs (Int32 ⊕ Unit)) (a1 : Int32) (h : HP) : Rs (Int32 ⊕ Unit) :=
  lt3 (a1 + 1) fun x1 =>
  ih x1 h
noncomputable def b_X41_fit_l2 (v0 : Nat) (ih : Int32 → HP → Rs (Int32 ⊕ Unit)) (a1 : Int32) (h : HP) : Rs (Int32 ⊕ Unit) :=
  ldI 40 319 v0 h fun x1 =>
  if x1 < a1 then
  (rok (Sum.inr ()) h)
  else
  (ldR 40 315 v0 h fun x2 =>
  aldR 6 x2 a1 h fun x3 =>
  bd (f_X41_hasContents x3 h) (fun x4 h5 =>
  if x4 = 0 then
  (f_X41_fit_l2b115 v0 ih a1 h5)
  else
  (ldR 40 317 v0 h5 fun x6 =>
  aldI 0 x6 a1 h5 fun x7 =>
  stI 40 313 v0 x7 h5 fun h8 =>
  bd (f_X41_fit_l37 v0 a1 NN (0 : Int32) h8) (Sum.elim (fun x9 => fun h10 => rok (Sum.inl x9) h10) (fun x11 => fun h12 => f_X41_fit_l2b115 v0 ih a1 h12)))))
noncomputable def f_X41_fit_l2 (v0 : Nat) (n : Nat) : Int32 → HP → Rs (Int32 ⊕ Unit) := @Nat.rec (fun _ => Int32 → HP → Rs (Int32 ⊕ Unit)) (fun _ _ => none) (fun _ ih => b_X41_fit_l2 v0 ih) n
noncomputable def f_X41_fit (a0 : Nat) (h : HP) : Rs Unit :=
  bd (f_X41_fit_l2 a0 NN (1 : Int32) h) (Sum.elim (fun x1 => fun h2 => if kc h2 a0 = 40 then
  bd (f_X41_wrong a0 x1 h2) (fun x3 h4 =>
  if kc h4 x3 = 69 then rex h4 else none)
  else none) (fun x5 => fun h6 => rok () h6))
noncomputable def b_X41_known_l2 (v0 : Nat) (v1 : Nat) (ih : Int32 → HP → Rs Int32) (a2 : Int32) (h : HP) : Rs Int32 :=
  txLen v1 h fun x1 =>
  if x1 ≤ a2 then
  (rok a2 h)
  else
  (txAt v1 a2 h fun x2 =>
  if x2 = (91 : Int32) then
  (lt3 (a2 + 1) fun x3 =>
  ih x3 h)
  else
  (rok a2 h))
noncomputable def f_X41_known_l2 (v0 : Nat) (v1 : Nat) (n : Nat) : Int32 → HP → Rs Int32 := @Nat.rec (fun _ => Int32 → HP → Rs Int32) (fun _ _ => none) (fun _ ih => b_X41_known_l2 v0 v1 ih) n
noncomputable def b_X41_known_l42 (v2 : Int32) (ih : Nat → Int32 → HP → Rs Nat) (a3 : Nat) (a4 : Int32) (h : HP) : Rs Nat :=
  if v2 ≤ a4 then
  (rok a3 h)
  else
  (if a3 = 0 then
  (rok a3 h)
  else
  (ldR 4 37 a3 h fun x1 =>
  lt3 (a4 + 1) fun x2 =>
  ih x1 x2 h))
noncomputable def f_X41_known_l42 (v2 : Int32) (n : Nat) : Nat → Int32 → HP → Rs Nat := @Nat.rec (fun _ => Nat → Int32 → HP → Rs Nat) (fun _ _ _ => none) (fun _ ih => b_X41_known_l42 v2 ih) n
noncomputable def f_X41_known_b26 (a0 : Nat) (a1 : Nat) (a2 : Int32) (h : HP) : Rs Nat :=
  ldR 40 309 a0 h fun x1 =>
  ldR 34 247 x1 h fun x2 =>
  if kc h x2 = 3 then
  bd (f_X2_base x2 a1 a2 h) (fun x3 h4 =>
  bd (f_X41_known_l42 a2 NN x3 (0 : Int32) h4) (fun x5 h6 => rok x5 h6))
  else none
noncomputable def f_X41_known (a0 : Nat) (a1 : Nat) (h : HP) : Rs Nat :=
  bd (f_X41_known_l2 a0 a1 NN (0 : Int32) h) (fun x1 h2 => f_X41_known_b26  a0 a1 x1 h2)
noncomputable def b_X41_descriptor_l60 (v0 : Nat) (v1 : Int32) (v2 : Int32) (v3 : Nat) (ih : Int32 → HP → Rs Unit) (a4 : Int32) (h : HP) : Rs Unit :=
  if v2 ≤ a4 then
  (rok () h)
  else
  (if kc h v0 = 40 then
  bd (f_X41_next v0 h) (fun x1 h2 =>
  sbApC v3 (UInt32.toInt32 (Int32.toUInt32 x1 % 65536)) h2 fun h3 =>
  lt3 (a4 + 1) fun x4 =>
  ih x4 h3)
  else none)
noncomputable def f_X41_descriptor_l60 (v0 : Nat) (v1 : Int32) (v2 : Int32) (v3 : Nat) (n : Nat) : Int32 → HP → Rs Unit := @Nat.rec (fun _ => Int32 → HP → Rs Unit) (fun _ _ => none) (fun _ ih => b_X41_descriptor_l60 v0 v1 v2 v3 ih) n
noncomputable def f_X41_descriptor_l133b169 (v0 : Nat) (v1 : Int32) (v4 : Nat) (ih : Int32 → Int32 → HP → Rs Int32) (a6 : Int32) (s0 : Int32) (h : HP) : Rs Int32 :=
  lt3 (a6 + 1) fun x1 =>
  ih s0 x1 h
noncomputable def f_X41_descriptor_l133b168 (v0 : Nat) (v1 : Int32) (v4 : Nat) (ih : Int32 → Int32 → HP → Rs Int32) (a6 : Int32) (h : HP) : Rs Int32 :=
  f_X41_descriptor_l133b169 v0 v1 v4 ih a6 (0 : Int32) h
noncomputable def b_X41_descriptor_l133 (v0 : Nat) (v1 : Int32) (v4 : Nat) (ih : Int32 → Int32 → HP → Rs Int32) (a5 : Int32) (a6 : Int32) (h : HP) : Rs Int32 :=
  ldR 40 314 v0 h fun x1 =>
  lsSize x1 h fun x2 =>
  if x2 ≤ a6 then
  (rok a5 h)
  else
  (if a5 = 0 then
  (f_X41_descriptor_l133b168 v0 v1 v4 ih a6 h)
  else
  (ldR 40 314 v0 h fun x3 =>
  lsGet x3 a6 h fun x4 =>
  eqR h x4 v4
  (f_X41_descriptor_l133b168 v0 v1 v4 ih a6 h)
  (f_X41_descriptor_l133b169 v0 v1 v4 ih a6 (1 : Int32) h)))
noncomputable def f_X41_descriptor_l133 (v0 : Nat) (v1 : Int32) (v4 : Nat) (n : Nat) : Int32 → Int32 → HP → Rs Int32 := @Nat.rec (fun _ => Int32 → Int32 → HP → Rs Int32) (fun _ _ _ => none) (fun _ ih => b_X41_descriptor_l133 v0 v1 v4 ih) n
noncomputable def f_X41_descriptor_b128 (a0 : Nat) (a1 : Int32) (a4 : Nat) (s0 : Int32) (h : HP) : Rs Unit :=
  bd (f_X41_descriptor_l133 a0 a1 a4 NN s0 (0 : Int32) h) (fun x1 h2 => if x1 = 0 then
  (if kc h2 a0 = 40 then
  bd (f_X41_wrong a0 a1 h2) (fun x5 h6 =>
  if kc h6 x5 = 69 then rex h6 else none)
  else none)
  else
  (ldR 40 314 a0 h2 fun x3 =>
  lsAdd x3 a4 h2 fun h4 =>
  rok () h4))
noncomputable def f_X41_descriptor_b127 (a0 : Nat) (a1 : Int32) (a4 : Nat) (h : HP) : Rs Unit :=
  f_X41_descriptor_b128  a0 a1 a4 (0 : Int32) h
noncomputable def f_X41_descriptor_b24 (a0 : Nat) (a1 : Int32) (s0 : Int32) (h : HP) : Rs Unit :=
  if s0 < 0 then
  (if kc h a0 = 40 then
  bd (f_X41_wrong a0 a1 h) (fun x1 h2 =>
  if kc h2 x1 = 69 then rex h2 else none)
  else none)
  else
  (ldI 40 313 a0 h fun x3 =>
  ldI 40 312 a0 h fun x4 =>
  if (x3 + s0) ≤ x4 then
  (nwC 72 4 h fun p5 h6 =>
  sbInitN p5 s0 h6 fun h7 =>
  bd (f_X41_descriptor_l60 a0 a1 s0 p5 NN (0 : Int32) h7) (fun x8 h9 => sbStr p5 h9 fun x10 h11 =>
  if kc h11 a0 = 40 then
  bd (f_X41_known a0 x10 h11) (fun x12 h13 =>
  if x12 = 0 then
  (f_X41_descriptor_b127  a0 a1 x12 h13)
  else
  (if kc h13 x12 = 4 then
  bd (f_X3_isPlain x12 h13) (fun x14 h15 =>
  if x14 = 0 then
  (ldI 4 31 x12 h15 fun x16 =>
  if x16 = (8 : Int32) then
  (f_X41_descriptor_b127  a0 a1 x12 h15)
  else
  (ldI 4 38 x12 h15 fun x17 =>
  if x17 = 0 then
  (f_X41_descriptor_b128  a0 a1 x12 (1 : Int32) h15)
  else
  (f_X41_descriptor_b127  a0 a1 x12 h15)))
  else
  (f_X41_descriptor_b127  a0 a1 x12 h15))
  else none))
  else none))
  else
  (if kc h a0 = 40 then
  bd (f_X41_wrong a0 a1 h) (fun x18 h19 =>
  if kc h19 x18 = 69 then rex h19 else none)
  else none))
noncomputable def f_X41_descriptor (a0 : Nat) (h : HP) : Rs Unit :=
  ldI 40 313 a0 h fun x1 =>
  ldI 40 313 a0 h fun x2 =>
  ldI 40 312 a0 h fun x3 =>
  if x2 = x3 then
  (f_X41_descriptor_b24  a0 x1 (-1 : Int32) h)
  else
  (if kc h a0 = 40 then
  bd (f_X41_next a0 h) (fun x4 h5 =>
  f_X41_descriptor_b24  a0 x1 x4 h5)
  else none)
noncomputable def f_X41_kindPlace (a0 : Nat) (a1 : Int32) (h : HP) : Rs Int32 :=
  if kc h a0 = 40 then
  bd (f_X41_small a0 (2147483647 : Int32) h) (fun x1 h2 =>
  ldR 40 314 a0 h2 fun x3 =>
  lsSize x3 h2 fun x4 =>
  if x1 < x4 then
  (rok x1 h2)
  else
  (if kc h2 a0 = 40 then
  bd (f_X41_wrong a0 a1 h2) (fun x5 h6 =>
  if kc h6 x5 = 69 then rex h6 else none)
  else none))
  else none
noncomputable def f_X41_letter_b37 (a0 : Nat) (h : HP) : Rs Unit :=
  ldI 40 313 a0 h fun x1 =>
  if kc h a0 = 40 then
  bd (f_X41_wrong a0 (x1 - (1 : Int32)) h) (fun x2 h3 =>
  if kc h3 x2 = 69 then rex h3 else none)
  else none
noncomputable def f_X41_letter (a0 : Nat) (h : HP) : Rs Unit :=
  ldI 40 313 a0 h fun x1 =>
  ldI 40 312 a0 h fun x2 =>
  if x1 = x2 then
  (ldI 40 313 a0 h fun x5 =>
  if kc h a0 = 40 then
  bd (f_X41_wrong a0 x5 h) (fun x6 h7 =>
  if kc h7 x6 = 69 then rex h7 else none)
  else none)
  else
  (if kc h a0 = 40 then
  bd (f_X41_next a0 h) (fun x3 h4 =>
  if x3 < (32 : Int32) then
  (f_X41_letter_b37  a0 h4)
  else
  (if x3 ≤ (126 : Int32) then
  (rok () h4)
  else
  (f_X41_letter_b37  a0 h4)))
  else none)
noncomputable def b_X41_thing_l161 (v0 : Nat) (v1 : Int32) (v3 : Nat) (ih : Int32 → HP → Rs Unit) (a4 : Int32) (h : HP) : Rs Unit :=
  ldR 40 316 v0 h fun x1 =>
  aldI 0 x1 v1 h fun x2 =>
  if x2 ≤ a4 then
  (rok () h)
  else
  (bd (f_X41_partKind v3 a4 h) (fun x3 h4 =>
  if kc h4 v0 = 40 then
  bd (f_X41_value v0 x3 h4) (fun x5 h6 =>
  lt3 (a4 + 1) fun x7 =>
  ih x7 h6)
  else none))
noncomputable def f_X41_thing_l161 (v0 : Nat) (v1 : Int32) (v3 : Nat) (n : Nat) : Int32 → HP → Rs Unit := @Nat.rec (fun _ => Int32 → HP → Rs Unit) (fun _ _ => none) (fun _ ih => b_X41_thing_l161 v0 v1 v3 ih) n
noncomputable def f_X41_thing_b147 (a0 : Nat) (a1 : Int32) (a3 : Nat) (s0 : Nat) (s1 : Int32) (s2 : Int32) (h : HP) : Rs Unit :=
  astI 0 s0 s1 s2 h fun h1 =>
  ldR 40 317 a0 h1 fun x2 =>
  ldI 40 313 a0 h1 fun x3 =>
  astI 0 x2 a1 x3 h1 fun h4 =>
  bd (f_X41_thing_l161 a0 a1 a3 NN (0 : Int32) h4) (fun x5 h6 => rok () h6)
noncomputable def b_X41_thing_l93 (v0 : Nat) (v1 : Int32) (ih : Int32 → HP → Rs Unit) (a4 : Int32) (h : HP) : Rs Unit :=
  ldR 40 316 v0 h fun x1 =>
  aldI 0 x1 v1 h fun x2 =>
  if x2 ≤ a4 then
  (rok () h)
  else
  (if kc h v0 = 40 then
  bd (f_X41_letter v0 h) (fun _ h3 =>
  lt3 (a4 + 1) fun x4 =>
  ih x4 h3)
  else none)
noncomputable def f_X41_thing_l93 (v0 : Nat) (v1 : Int32) (n : Nat) : Int32 → HP → Rs Unit := @Nat.rec (fun _ => Int32 → HP → Rs Unit) (fun _ _ => none) (fun _ ih => b_X41_thing_l93 v0 v1 ih) n
noncomputable def f_X41_thing (a0 : Nat) (a1 : Int32) (h : HP) : Rs Unit :=
  ldI 40 313 a0 h fun x1 =>
  ldR 40 314 a0 h fun x2 =>
  if kc h a0 = 40 then
  bd (f_X41_kindPlace a0 x1 h) (fun x3 h4 =>
  lsGet x2 x3 h4 fun x5 =>
  castR [4] x5 h4 (
  ldR 40 315 a0 h4 fun x6 =>
  astO 6 4 x6 a1 x5 h4 fun h7 =>
  ldR 4 32 x5 h7 fun x8 =>
  eqS x8 906
  (ldR 40 316 a0 h7 fun x25 =>
  ldR 4 46 x5 h7 fun x26 =>
  lsSize x26 h7 fun x27 =>
  if kc h7 a0 = 40 then
  bd (f_X41_small a0 (x27 - (1 : Int32)) h7) (fun x28 h29 =>
  astI 0 x25 a1 x28 h29 fun h30 =>
  rok () h30)
  else none)
  (ldI 4 31 x5 h7 fun x9 =>
  if x9 = (9 : Int32) then
  (ldR 40 316 a0 h7 fun x16 =>
  if kc h7 a0 = 40 then
  bd (f_X41_small a0 (1000 : Int32) h7) (fun x17 h18 =>
  astI 0 x16 a1 x17 h18 fun h19 =>
  ldR 40 317 a0 h19 fun x20 =>
  ldI 40 313 a0 h19 fun x21 =>
  astI 0 x20 a1 x21 h19 fun h22 =>
  bd (f_X41_thing_l93 a0 a1 NN (0 : Int32) h22) (fun x23 h24 => rok () h24))
  else none)
  else
  (ldR 40 316 a0 h7 fun x10 =>
  ldR 4 32 x5 h7 fun x11 =>
  eqS x11 907
  (if kc h7 a0 = 40 then
  bd (f_X41_small a0 (400 : Int32) h7) (fun x14 h15 =>
  f_X41_thing_b147  a0 a1 x5 x10 a1 x14 h15)
  else none)
  (ldR 4 44 x5 h7 fun x12 =>
  lsSize x12 h7 fun x13 =>
  f_X41_thing_b147  a0 a1 x5 x10 a1 x13 h7)))))
  else none
noncomputable def b_X41_look_l83 (v0 : Nat) (v2 : Int32) (ih : Int32 → HP → Rs Unit) (a3 : Int32) (h : HP) : Rs Unit :=
  if v2 ≤ a3 then
  (rok () h)
  else
  (if kc h v0 = 40 then
  bd (f_X41_descriptor v0 h) (fun _ h1 =>
  lt3 (a3 + 1) fun x2 =>
  ih x2 h1)
  else none)
noncomputable def f_X41_look_l83 (v0 : Nat) (v2 : Int32) (n : Nat) : Int32 → HP → Rs Unit := @Nat.rec (fun _ => Int32 → HP → Rs Unit) (fun _ _ => none) (fun _ ih => b_X41_look_l83 v0 v2 ih) n
noncomputable def b_X41_look_l129 (v0 : Nat) (ih : Int32 → HP → Rs Unit) (a3 : Int32) (h : HP) : Rs Unit :=
  ldI 40 319 v0 h fun x1 =>
  if x1 < a3 then
  (rok () h)
  else
  (if kc h v0 = 40 then
  bd (f_X41_thing v0 a3 h) (fun _ h2 =>
  lt3 (a3 + 1) fun x3 =>
  ih x3 h2)
  else none)
noncomputable def f_X41_look_l129 (v0 : Nat) (n : Nat) : Int32 → HP → Rs Unit := @Nat.rec (fun _ => Int32 → HP → Rs Unit) (fun _ _ => none) (fun _ ih => b_X41_look_l129 v0 ih) n
noncomputable def f_X41_look (a0 : Nat) (h : HP) : Rs Unit :=
  ldI 40 313 a0 h fun x1 =>
  ldI 40 312 a0 h fun x2 =>
  if x1 = x2 then
  (if kc h a0 = 40 then
  bd (f_X41_wrong a0 (0 : Int32) h) (fun x3 h4 =>
  if kc h4 x3 = 69 then rex h4 else none)
  else none)
  else
  (if kc h a0 = 40 then
  bd (f_X41_next a0 h) (fun x5 h6 =>
  if x5 = (79 : Int32) then
  (ldI 40 313 a0 h6 fun x7 =>
  ldI 40 312 a0 h6 fun x8 =>
  if x7 = x8 then
  (if kc h6 a0 = 40 then
  bd (f_X41_wrong a0 (1 : Int32) h6) (fun x9 h10 =>
  if kc h10 x9 = 69 then rex h10 else none)
  else none)
  else
  (if kc h6 a0 = 40 then
  bd (f_X41_next a0 h6) (fun x11 h12 =>
  if x11 = (71 : Int32) then
  (ldI 40 313 a0 h12 fun x13 =>
  if kc h12 a0 = 40 then
  bd (f_X41_small a0 (100 : Int32) h12) (fun x14 h15 =>
  if x14 = 0 then
  (if kc h15 a0 = 40 then
  bd (f_X41_wrong a0 x13 h15) (fun x34 h35 =>
  if kc h35 x34 = 69 then rex h35 else none)
  else none)
  else
  (ldR 40 314 a0 h15 fun x16 =>
  lsClr x16 h15 fun h17 =>
  bd (f_X41_look_l83 a0 x14 NN (0 : Int32) h17) (fun x18 h19 => ldI 40 313 a0 h19 fun x20 =>
  if kc h19 a0 = 40 then
  bd (f_X41_small a0 (4000 : Int32) h19) (fun x21 h22 =>
  stI 40 319 a0 x21 h22 fun h23 =>
  ldI 40 319 a0 h23 fun x24 =>
  if x24 = 0 then
  (if kc h23 a0 = 40 then
  bd (f_X41_wrong a0 x20 h23) (fun x32 h33 =>
  if kc h33 x32 = 69 then rex h33 else none)
  else none)
  else
  (bd (f_X41_look_l129 a0 NN (1 : Int32) h23) (fun x25 h26 => ldI 40 313 a0 h26 fun x27 =>
  ldI 40 312 a0 h26 fun x28 =>
  if x28 ≤ x27 then
  (rok () h26)
  else
  (ldI 40 313 a0 h26 fun x29 =>
  if kc h26 a0 = 40 then
  bd (f_X41_wrong a0 x29 h26) (fun x30 h31 =>
  if kc h31 x30 = 69 then rex h31 else none)
  else none))))
  else none)))
  else none)
  else
  (if kc h12 a0 = 40 then
  bd (f_X41_wrong a0 (1 : Int32) h12) (fun x36 h37 =>
  if kc h37 x36 = 69 then rex h37 else none)
  else none))
  else none))
  else
  (if kc h6 a0 = 40 then
  bd (f_X41_wrong a0 (0 : Int32) h6) (fun x38 h39 =>
  if kc h39 x38 = 69 then rex h39 else none)
  else none))
  else none)
noncomputable def b_X41_letters_l16 (v0 : Nat) (v1 : Int32) (v2 : Nat) (ih : Int32 → HP → Rs Unit) (a3 : Int32) (h : HP) : Rs Unit :=
  ldR 40 316 v0 h fun x1 =>
  aldI 0 x1 v1 h fun x2 =>
  if x2 ≤ a3 then
  (rok () h)
  else
  (ldR 40 311 v0 h fun x3 =>
  ldR 40 317 v0 h fun x4 =>
  aldI 0 x4 v1 h fun x5 =>
  aldI 1 x3 (x5 + a3) h fun x6 =>
  sbApC v2 (UInt32.toInt32 (Int32.toUInt32 x6 % 65536)) h fun h7 =>
  lt3 (a3 + 1) fun x8 =>
  ih x8 h7)
noncomputable def f_X41_letters_l16 (v0 : Nat) (v1 : Int32) (v2 : Nat) (n : Nat) : Int32 → HP → Rs Unit := @Nat.rec (fun _ => Int32 → HP → Rs Unit) (fun _ _ => none) (fun _ ih => b_X41_letters_l16 v0 v1 v2 ih) n
noncomputable def f_X41_letters (a0 : Nat) (a1 : Int32) (h : HP) : Rs Nat :=
  nwC 72 4 h fun p1 h2 =>
  ldR 40 316 a0 h2 fun x3 =>
  aldI 0 x3 a1 h2 fun x4 =>
  sbInitN p1 x4 h2 fun h5 =>
  bd (f_X41_letters_l16 a0 a1 p1 NN (0 : Int32) h5) (fun x6 h7 => sbStr p1 h7 fun x8 h9 =>
  rok x8 h9)
noncomputable def b_X41_isAlike_l19 (v0 : Nat) (v1 : Int32) (v2 : Int32) (ih : Int32 → HP → Rs (Unit ⊕ Unit)) (a3 : Int32) (h : HP) : Rs (Unit ⊕ Unit) :=
  ldR 40 316 v0 h fun x1 =>
  aldI 0 x1 v1 h fun x2 =>
  if x2 ≤ a3 then
  (rok (Sum.inr ()) h)
  else
  (ldR 40 311 v0 h fun x3 =>
  ldR 40 317 v0 h fun x4 =>
  aldI 0 x4 v1 h fun x5 =>
  aldI 1 x3 (x5 + a3) h fun x6 =>
  ldR 40 311 v0 h fun x7 =>
  ldR 40 317 v0 h fun x8 =>
  aldI 0 x8 v2 h fun x9 =>
  aldI 1 x7 (x9 + a3) h fun x10 =>
  if x6 = x10 then
  (lt3 (a3 + 1) fun x11 =>
  ih x11 h)
  else
  (rok (Sum.inl ()) h))
noncomputable def f_X41_isAlike_l19 (v0 : Nat) (v1 : Int32) (v2 : Int32) (n : Nat) : Int32 → HP → Rs (Unit ⊕ Unit) := @Nat.rec (fun _ => Int32 → HP → Rs (Unit ⊕ Unit)) (fun _ _ => none) (fun _ ih => b_X41_isAlike_l19 v0 v1 v2 ih) n
noncomputable def f_X41_isAlike (a0 : Nat) (a1 : Int32) (a2 : Int32) (h : HP) : Rs Int32 :=
  ldR 40 316 a0 h fun x1 =>
  aldI 0 x1 a1 h fun x2 =>
  ldR 40 316 a0 h fun x3 =>
  aldI 0 x3 a2 h fun x4 =>
  if x2 = x4 then
  (bd (f_X41_isAlike_l19 a0 a1 a2 NN (0 : Int32) h) (Sum.elim (fun x5 => fun h6 => rok (0 : Int32) h6) (fun x7 => fun h8 => rok (1 : Int32) h8)))
  else
  (rok (0 : Int32) h)
noncomputable def f_X41_newThings_l4b124 (v0 : Nat) (ih : Int32 → Int32 → HP → Rs Int32) (a1 : Int32) (a2 : Int32) (h : HP) : Rs Int32 :=
  lt3 (a2 + 1) fun x1 =>
  ih a1 x1 h
noncomputable def f_X41_newThings_l4b117 (v0 : Nat) (ih : Int32 → Int32 → HP → Rs Int32) (a1 : Int32) (a2 : Int32) (a3 : Int32) (h : HP) : Rs Int32 :=
  if a3 = 0 then
  (f_X41_newThings_l4b124 v0 ih a1 a2 h)
  else
  (lt3 (a1 + 1) fun x1 =>
  f_X41_newThings_l4b124 v0 ih x1 a2 h)
noncomputable def f_X41_newThings_l70b110 (v0 : Nat) (v1 : Int32) (v2 : Int32) (ih : Int32 → Int32 → HP → Rs Int32) (a4 : Int32) (s0 : Int32) (h : HP) : Rs Int32 :=
  lt3 (a4 + 1) fun x1 =>
  ih s0 x1 h
noncomputable def f_X41_newThings_l70b105 (v0 : Nat) (v1 : Int32) (v2 : Int32) (ih : Int32 → Int32 → HP → Rs Int32) (a4 : Int32) (h : HP) : Rs Int32 :=
  f_X41_newThings_l70b110 v0 v1 v2 ih a4 (1 : Int32) h
noncomputable def b_X41_newThings_l70 (v0 : Nat) (v1 : Int32) (v2 : Int32) (ih : Int32 → Int32 → HP → Rs Int32) (a3 : Int32) (a4 : Int32) (h : HP) : Rs Int32 :=
  if v2 ≤ a4 then
  (rok a3 h)
  else
  (if a3 = 0 then
  (rok a3 h)
  else
  (ldR 40 315 v0 h fun x1 =>
  aldR 6 x1 a4 h fun x2 =>
  ldI 4 31 x2 h fun x3 =>
  if x3 = (9 : Int32) then
  (if kc h v0 = 40 then
  bd (f_X41_isAlike v0 a4 v2 h) (fun x4 h5 =>
  if x4 = 0 then
  (f_X41_newThings_l70b105 v0 v1 v2 ih a4 h5)
  else
  (f_X41_newThings_l70b110 v0 v1 v2 ih a4 (0 : Int32) h5))
  else none)
  else
  (f_X41_newThings_l70b105 v0 v1 v2 ih a4 h)))
noncomputable def f_X41_newThings_l70 (v0 : Nat) (v1 : Int32) (v2 : Int32) (n : Nat) : Int32 → Int32 → HP → Rs Int32 := @Nat.rec (fun _ => Int32 → Int32 → HP → Rs Int32) (fun _ _ _ => none) (fun _ ih => b_X41_newThings_l70 v0 v1 v2 ih) n
noncomputable def f_X41_newThings_l4b66 (v0 : Nat) (ih : Int32 → Int32 → HP → Rs Int32) (a1 : Int32) (a2 : Int32) (s0 : Int32) (h : HP) : Rs Int32 :=
  bd (f_X41_newThings_l70 v0 a1 a2 NN s0 (1 : Int32) h) (fun x1 h2 => f_X41_newThings_l4b117 v0 ih a1 a2 x1 h2)
noncomputable def b_X41_newThings_l4 (v0 : Nat) (ih : Int32 → Int32 → HP → Rs Int32) (a1 : Int32) (a2 : Int32) (h : HP) : Rs Int32 :=
  ldI 40 319 v0 h fun x1 =>
  if x1 < a2 then
  (rok a1 h)
  else
  (ldR 40 315 v0 h fun x2 =>
  aldR 6 x2 a2 h fun x3 =>
  ldR 4 32 x3 h fun x4 =>
  eqS x4 906
  (f_X41_newThings_l4b124 v0 ih a1 a2 h)
  (ldR 40 315 v0 h fun x5 =>
  aldR 6 x5 a2 h fun x6 =>
  ldI 4 31 x6 h fun x7 =>
  if x7 = (9 : Int32) then
  (ldR 40 309 v0 h fun x8 =>
  if kc h v0 = 40 then
  bd (f_X41_letters v0 a2 h) (fun x9 h10 =>
  if kc h10 x8 = 34 then
  bd (f_X35_hasText x8 x9 h10) (fun x11 h12 =>
  if x11 = 0 then
  (f_X41_newThings_l4b66 v0 ih a1 a2 (1 : Int32) h12)
  else
  (f_X41_newThings_l4b66 v0 ih a1 a2 (0 : Int32) h12))
  else none)
  else none)
  else
  (f_X41_newThings_l4b117 v0 ih a1 a2 (1 : Int32) h)))
noncomputable def f_X41_newThings_l4 (v0 : Nat) (n : Nat) : Int32 → Int32 → HP → Rs Int32 := @Nat.rec (fun _ => Int32 → Int32 → HP → Rs Int32) (fun _ _ _ => none) (fun _ ih => b_X41_newThings_l4 v0 ih) n
noncomputable def f_X41_newThings (a0 : Nat) (h : HP) : Rs Int32 :=
  bd (f_X41_newThings_l4 a0 NN (0 : Int32) (1 : Int32) h) (fun x1 h2 => rok x1 h2)
noncomputable def f_X41_make_l4b33 (v0 : Nat) (ih : Int32 → Int32 → HP → Rs Int32) (a1 : Int32) (a2 : Int32) (h : HP) : Rs Int32 :=
  lt3 (a2 + 1) fun x1 =>
  ih a1 x1 h
noncomputable def b_X41_make_l4 (v0 : Nat) (ih : Int32 → Int32 → HP → Rs Int32) (a1 : Int32) (a2 : Int32) (h : HP) : Rs Int32 :=
  ldI 40 319 v0 h fun x1 =>
  if x1 < a2 then
  (rok a1 h)
  else
  (ldR 40 315 v0 h fun x2 =>
  aldR 6 x2 a2 h fun x3 =>
  bd (f_X41_hasContents x3 h) (fun x4 h5 =>
  if x4 = 0 then
  (f_X41_make_l4b33 v0 ih a1 a2 h5)
  else
  (ldR 40 316 v0 h5 fun x6 =>
  aldI 0 x6 a2 h5 fun x7 =>
  lt3 (a1 + x7) fun x8 =>
  f_X41_make_l4b33 v0 ih x8 a2 h5)))
noncomputable def f_X41_make_l4 (v0 : Nat) (n : Nat) : Int32 → Int32 → HP → Rs Int32 := @Nat.rec (fun _ => Int32 → Int32 → HP → Rs Int32) (fun _ _ _ => none) (fun _ ih => b_X41_make_l4 v0 ih) n
noncomputable def f_X41_make_l66b180 (v0 : Nat) (ih : Int32 → HP → Rs Unit) (a2 : Int32) (h : HP) : Rs Unit :=
  lt3 (a2 + 1) fun x1 =>
  ih x1 h
noncomputable def b_X41_make_l66 (v0 : Nat) (ih : Int32 → HP → Rs Unit) (a2 : Int32) (h : HP) : Rs Unit :=
  ldI 40 319 v0 h fun x1 =>
  if x1 < a2 then
  (rok () h)
  else
  (ldR 40 315 v0 h fun x2 =>
  aldR 6 x2 a2 h fun x3 =>
  ldR 4 32 x3 h fun x4 =>
  eqS x4 906
  (ldR 40 318 v0 h fun x26 =>
  ldR 40 315 v0 h fun x27 =>
  aldR 6 x27 a2 h fun x28 =>
  ldI 4 47 x28 h fun x29 =>
  ldR 40 316 v0 h fun x30 =>
  aldI 0 x30 a2 h fun x31 =>
  astI 0 x26 a2 (x29 + x31) h fun h32 =>
  f_X41_make_l66b180 v0 ih a2 h32)
  (ldR 40 315 v0 h fun x5 =>
  aldR 6 x5 a2 h fun x6 =>
  ldI 4 31 x6 h fun x7 =>
  if x7 = (9 : Int32) then
  (ldR 40 318 v0 h fun x18 =>
  ldR 40 309 v0 h fun x19 =>
  if kc h v0 = 40 then
  bd (f_X41_letters v0 a2 h) (fun x20 h21 =>
  if kc h21 x19 = 34 then
  bd (f_X35_text x19 x20 h21) (fun x22 h23 =>
  ldI 36 273 x22 h23 fun x24 =>
  astI 0 x18 a2 x24 h23 fun h25 =>
  f_X41_make_l66b180 v0 ih a2 h25)
  else none)
  else none)
  else
  (ldR 40 318 v0 h fun x8 =>
  ldR 40 309 v0 h fun x9 =>
  ldR 40 315 v0 h fun x10 =>
  aldR 6 x10 a2 h fun x11 =>
  ldR 40 316 v0 h fun x12 =>
  aldI 0 x12 a2 h fun x13 =>
  if kc h x9 = 34 then
  bd (f_X35_make x9 x11 x13 h) (fun x14 h15 =>
  ldI 36 273 x14 h15 fun x16 =>
  astI 0 x8 a2 x16 h15 fun h17 =>
  f_X41_make_l66b180 v0 ih a2 h17)
  else none)))
noncomputable def f_X41_make_l66 (v0 : Nat) (n : Nat) : Int32 → HP → Rs Unit := @Nat.rec (fun _ => Int32 → HP → Rs Unit) (fun _ _ => none) (fun _ ih => b_X41_make_l66 v0 ih) n
noncomputable def f_X41_make_l238b302 (v0 : Nat) (v2 : Int32) (v3 : Nat) (ih : Int32 → HP → Rs Unit) (a4 : Int32) (s0 : Nat) (s1 : Int32) (s2 : Int64) (h : HP) : Rs Unit :=
  astJ 3 s0 s1 s2 h fun h1 =>
  lt3 (a4 + 1) fun x2 =>
  ih x2 h1
noncomputable def f_X41_make_l238b288 (v0 : Nat) (v2 : Int32) (v3 : Nat) (ih : Int32 → HP → Rs Unit) (a4 : Int32) (a6 : Int64) (s0 : Nat) (s1 : Int32) (h : HP) : Rs Unit :=
  f_X41_make_l238b302 v0 v2 v3 ih a4 s0 s1 a6 h
noncomputable def b_X41_make_l238 (v0 : Nat) (v2 : Int32) (v3 : Nat) (ih : Int32 → HP → Rs Unit) (a4 : Int32) (h : HP) : Rs Unit :=
  ldR 40 316 v0 h fun x1 =>
  aldI 0 x1 v2 h fun x2 =>
  if x2 ≤ a4 then
  (rok () h)
  else
  (ldR 40 315 v0 h fun x3 =>
  aldR 6 x3 v2 h fun x4 =>
  bd (f_X41_partKind x4 a4 h) (fun x5 h6 =>
  if kc h6 v0 = 40 then
  bd (f_X41_value v0 x5 h6) (fun x7 h8 =>
  if kc h8 x5 = 4 then
  bd (f_X3_isPlain x5 h8) (fun x9 h10 =>
  if x9 = 0 then
  (if (lg_cmp x7 (0 : Int64)) = 0 then
  (f_X41_make_l238b288 v0 v2 v3 ih a4 x7 v3 a4 h10)
  else
  (ldR 40 318 v0 h10 fun x11 =>
  aldI 0 x11 (Int64.toInt32 x7) h10 fun x12 =>
  f_X41_make_l238b302 v0 v2 v3 ih a4 v3 a4 (Int32.toInt64 x12) h10))
  else
  (f_X41_make_l238b288 v0 v2 v3 ih a4 x7 v3 a4 h10))
  else none)
  else none))
noncomputable def f_X41_make_l238 (v0 : Nat) (v2 : Int32) (v3 : Nat) (n : Nat) : Int32 → HP → Rs Unit := @Nat.rec (fun _ => Int32 → HP → Rs Unit) (fun _ _ => none) (fun _ ih => b_X41_make_l238 v0 v2 v3 ih) n
noncomputable def f_X41_make_l188b309 (v0 : Nat) (ih : Int32 → HP → Rs Unit) (a2 : Int32) (h : HP) : Rs Unit :=
  lt3 (a2 + 1) fun x1 =>
  ih x1 h
noncomputable def b_X41_make_l188 (v0 : Nat) (ih : Int32 → HP → Rs Unit) (a2 : Int32) (h : HP) : Rs Unit :=
  ldI 40 319 v0 h fun x1 =>
  if x1 < a2 then
  (rok () h)
  else
  (ldR 40 315 v0 h fun x2 =>
  aldR 6 x2 a2 h fun x3 =>
  bd (f_X41_hasContents x3 h) (fun x4 h5 =>
  if x4 = 0 then
  (f_X41_make_l188b309 v0 ih a2 h5)
  else
  (ldR 40 317 v0 h5 fun x6 =>
  aldI 0 x6 a2 h5 fun x7 =>
  stI 40 313 v0 x7 h5 fun h8 =>
  ldR 40 309 v0 h8 fun x9 =>
  ldR 40 318 v0 h8 fun x10 =>
  aldI 0 x10 a2 h8 fun x11 =>
  if kc h8 x9 = 34 then
  bd (f_X35_change x9 x11 h8) (fun x12 h13 =>
  bd (f_X41_make_l238 v0 a2 x12 NN (0 : Int32) h13) (fun x14 h15 => f_X41_make_l188b309 v0 ih a2 h15))
  else none)))
noncomputable def f_X41_make_l188 (v0 : Nat) (n : Nat) : Int32 → HP → Rs Unit := @Nat.rec (fun _ => Int32 → HP → Rs Unit) (fun _ _ => none) (fun _ ih => b_X41_make_l188 v0 ih) n
noncomputable def f_X41_make (a0 : Nat) (h : HP) : Rs Int32 :=
  bd (f_X41_make_l4 a0 NN (0 : Int32) (1 : Int32) h) (fun x1 h2 => ldR 40 309 a0 h2 fun x3 =>
  if kc h2 a0 = 40 then
  bd (f_X41_newThings a0 h2) (fun x4 h5 =>
  if kc h5 x3 = 34 then
  bd (f_X35_hasRoom x3 x4 x1 h5) (fun x6 h7 =>
  if x6 = 0 then
  (ldR 40 310 a0 h7 fun x14 =>
  if kc h7 x14 = 2 then
  bd (f_X1_with x14 (12 : Int32) h7) (fun x15 h16 =>
  if kc h16 x15 = 69 then rex h16 else none)
  else none)
  else
  (bd (f_X41_make_l66 a0 NN (1 : Int32) h7) (fun x8 h9 => bd (f_X41_make_l188 a0 NN (1 : Int32) h9) (fun x10 h11 => ldR 40 318 a0 h11 fun x12 =>
  aldI 0 x12 (1 : Int32) h11 fun x13 =>
  rok x13 h11))))
  else none)
  else none)
noncomputable def f_X41_read_b40 (a0 : Nat) (a2 : Int32) (h : HP) : Rs Int32 :=
  if kc h a0 = 40 then
  bd (f_X41_wrong a0 (mxI (a2 - (4 : Int32)) (0 : Int32)) h) (fun x1 h2 =>
  if kc h2 x1 = 69 then rex h2 else none)
  else none
noncomputable def f_X41_read (a0 : Nat) (a1 : Nat) (a2 : Int32) (h : HP) : Rs Int32 :=
  stR 40 311 a0 a1 h fun h1 =>
  stI 40 312 a0 (a2 - (4 : Int32)) h1 fun h2 =>
  stI 40 313 a0 (0 : Int32) h2 fun h3 =>
  if a2 < (8 : Int32) then
  (f_X41_read_b40  a0 a2 h3)
  else
  (if kc h3 a0 = 40 then
  bd (f_X41_checkAt a0 (a2 - (4 : Int32)) h3) (fun x4 h5 =>
  bd (f_X40_checkOf a1 (a2 - (4 : Int32)) h5) (fun x6 h7 =>
  if x4 = x6 then
  (if kc h7 a0 = 40 then
  bd (f_X41_look a0 h7) (fun _ h8 =>
  if kc h8 a0 = 40 then
  bd (f_X41_fit a0 h8) (fun _ h9 =>
  if kc h9 a0 = 40 then
  bd (f_X41_make a0 h9) (fun x10 h11 =>
  rok x10 h11)
  else none)
  else none)
  else none)
  else
  (f_X41_read_b40  a0 a2 h7)))
  else none)
noncomputable def b_X0_read_l24 (v0 : Nat) (v1 : Nat) (ih : Int32 → HP → Rs Unit) (a2 : Int32) (h : HP) : Rs Unit :=
  ldI 1 2 v0 h fun x1 =>
  if x1 ≤ a2 then
  (rok () h)
  else
  (ldR 1 1 v0 h fun x2 =>
  aldI 1 x2 a2 h fun x3 =>
  astI 1 v1 a2 (vp_nar .byte x3) h fun h4 =>
  lt3 (a2 + 1) fun x5 =>
  ih x5 h4)
noncomputable def f_X0_read_l24 (v0 : Nat) (v1 : Nat) (n : Nat) : Int32 → HP → Rs Unit := @Nat.rec (fun _ => Int32 → HP → Rs Unit) (fun _ _ => none) (fun _ ih => b_X0_read_l24 v0 v1 ih) n
noncomputable def f_X0_read (a0 : Nat) (h : HP) : Rs Int32 :=
  stI 1 16 a0 (-1 : Int32) h fun h1 =>
  if kc h1 a0 = 1 then
  bd (f_X0_hasAct a0 h1) (fun x2 h3 =>
  if x2 = 0 then
  (rok (-13 : Int32) h3)
  else
  (ldI 1 2 a0 h3 fun x4 =>
  nwA 1061 x4 h3 fun p5 h6 =>
  bd (f_X0_read_l24 a0 p5 NN (0 : Int32) h6) (fun x7 h8 => stI 1 2 a0 (0 : Int32) h8 fun h9 =>
  ldR 1 10 a0 h9 fun x10 =>
  alen p5 h9 fun x11 =>
  if kc h9 x10 = 40 then
  bdc (f_X41_read x10 p5 x11 h9) (fun x12 h13 =>
  rok x12 h13) (fun h14 =>
  ldR 1 3 a0 h14 fun x15 =>
  ldI 2 29 x15 h14 fun x16 =>
  stI 1 16 a0 x16 h14 fun h17 =>
  ldR 1 3 a0 h17 fun x18 =>
  ldI 2 28 x18 h17 fun x19 =>
  rok (-x19) h17)
  else none)))
  else none
noncomputable def b_X0_recorded_l61 (v0 : Nat) (v2 : Nat) (v3 : Int32) (ih : Int32 → HP → Rs (Unit ⊕ Unit)) (a4 : Int32) (h : HP) : Rs (Unit ⊕ Unit) :=
  if v3 ≤ a4 then
  (rok (Sum.inr ()) h)
  else
  (ldR 1 18 v0 h fun x1 =>
  aldI 0 x1 a4 h fun x2 =>
  ldR 1 19 v0 h fun x3 =>
  aldJ 3 x3 a4 h fun x4 =>
  ldR 4 44 v2 h fun x5 =>
  lsGet x5 a4 h fun x6 =>
  castR [31] x6 h (
  ldR 31 235 x6 h fun x7 =>
  if kc h v0 = 1 then
  bd (f_X0_fitsIn v0 x2 x4 x7 h) (fun x8 h9 =>
  if x8 = 0 then
  (rok (Sum.inl ()) h9)
  else
  (lt3 (a4 + 1) fun x10 =>
  ih x10 h9))
  else none))
noncomputable def f_X0_recorded_l61 (v0 : Nat) (v2 : Nat) (v3 : Int32) (n : Nat) : Int32 → HP → Rs (Unit ⊕ Unit) := @Nat.rec (fun _ => Int32 → HP → Rs (Unit ⊕ Unit)) (fun _ _ => none) (fun _ ih => b_X0_recorded_l61 v0 v2 v3 ih) n
noncomputable def b_X0_recorded_l154 (v0 : Nat) (v2 : Nat) (v3 : Int32) (v4 : Nat) (v5 : Nat) (ih : Int32 → HP → Rs Unit) (a6 : Int32) (h : HP) : Rs Unit :=
  if v3 ≤ a6 then
  (rok () h)
  else
  (ldR 1 18 v0 h fun x1 =>
  aldI 0 x1 a6 h fun x2 =>
  ldR 1 19 v0 h fun x3 =>
  aldJ 3 x3 a6 h fun x4 =>
  ldR 4 44 v2 h fun x5 =>
  lsGet x5 a6 h fun x6 =>
  castR [31] x6 h (
  ldR 31 235 x6 h fun x7 =>
  if kc h v0 = 1 then
  bd (f_X0_widened v0 x2 x4 x7 h) (fun x8 h9 =>
  astJ 3 v5 a6 x8 h9 fun h10 =>
  lt3 (a6 + 1) fun x11 =>
  ih x11 h10)
  else none))
noncomputable def f_X0_recorded_l154 (v0 : Nat) (v2 : Nat) (v3 : Int32) (v4 : Nat) (v5 : Nat) (n : Nat) : Int32 → HP → Rs Unit := @Nat.rec (fun _ => Int32 → HP → Rs Unit) (fun _ _ => none) (fun _ ih => b_X0_recorded_l154 v0 v2 v3 v4 v5 ih) n
noncomputable def f_X0_recorded (a0 : Nat) (a1 : Int32) (h : HP) : Rs Int32 :=
  ldR 1 4 a0 h fun x1 =>
  if kc h x1 = 3 then
  bd (f_X2_has x1 a1 h) (fun x2 h3 =>
  if x2 = 0 then
  (rok (-14 : Int32) h3)
  else
  (if kc h3 a0 = 1 then
  bd (f_X0_hasDeadArgument a0 h3) (fun x4 h5 =>
  if x4 = 0 then
  (ldR 1 4 a0 h5 fun x6 =>
  if kc h5 x6 = 3 then
  bd (f_X2_get x6 a1 h5) (fun x7 h8 =>
  ldR 4 44 x7 h8 fun x9 =>
  lsSize x9 h8 fun x10 =>
  ldR 4 32 x7 h8 fun x11 =>
  eqS x11 905
  (ldI 1 20 a0 h8 fun x12 =>
  if x12 = x10 then
  (bd (f_X0_recorded_l61 a0 x7 x10 NN (0 : Int32) h8) (Sum.elim (fun x13 => fun h14 => rok (-1 : Int32) h14) (fun x15 => fun h16 => ldR 1 7 a0 h16 fun x17 =>
  if kc h16 x17 = 34 then
  bd (f_X35_hasRoom x17 (1 : Int32) x10 h16) (fun x18 h19 =>
  if x18 = 0 then
  (rok (-12 : Int32) h19)
  else
  (ldR 1 7 a0 h19 fun x20 =>
  if kc h19 x20 = 34 then
  bd (f_X35_make x20 x7 x10 h19) (fun x21 h22 =>
  ldR 1 7 a0 h22 fun x23 =>
  ldI 36 273 x21 h22 fun x24 =>
  if kc h22 x23 = 34 then
  bd (f_X35_change x23 x24 h22) (fun x25 h26 =>
  bd (f_X0_recorded_l154 a0 x7 x10 x21 x25 NN (0 : Int32) h26) (fun x27 h28 => ldI 36 273 x21 h28 fun x29 =>
  rok x29 h28))
  else none)
  else none))
  else none)))
  else
  (rok (-1 : Int32) h8))
  (rok (-1 : Int32) h8))
  else none)
  else
  (rok (-14 : Int32) h5))
  else none))
  else none
noncomputable def f_X0_record (a0 : Nat) (a1 : Int32) (h : HP) : Rs Int32 :=
  if kc h a0 = 1 then
  bd (f_X0_hasAct a0 h) (fun x1 h2 =>
  if x1 = 0 then
  (rok (-13 : Int32) h2)
  else
  (if kc h2 a0 = 1 then
  bd (f_X0_recorded a0 a1 h2) (fun x3 h4 =>
  stI 1 20 a0 (0 : Int32) h4 fun h5 =>
  rok x3 h5)
  else none))
  else none
noncomputable def b_X35_settle_l10 (v0 : Nat) (ih : Int32 → HP → Rs Unit) (a1 : Int32) (h : HP) : Rs Unit :=
  if (16 : Int32) ≤ a1 then
  (rok () h)
  else
  (ldR 34 257 v0 h fun x1 =>
  ldI 34 256 v0 h fun x2 =>
  ldR 34 263 v0 h fun x3 =>
  aldI 0 x3 a1 h fun x4 =>
  astI 0 x1 (((16 : Int32) * x2) + a1) x4 h fun h5 =>
  lt3 (a1 + 1) fun x6 =>
  ih x6 h5)
noncomputable def f_X35_settle_l10 (v0 : Nat) (n : Nat) : Int32 → HP → Rs Unit := @Nat.rec (fun _ => Int32 → HP → Rs Unit) (fun _ _ => none) (fun _ ih => b_X35_settle_l10 v0 ih) n
noncomputable def f_X35_settle (a0 : Nat) (h : HP) : Rs Unit :=
  ldI 34 256 a0 h fun x1 =>
  stI 34 255 a0 x1 h fun h2 =>
  bd (f_X35_settle_l10 a0 NN (0 : Int32) h2) (fun x3 h4 => rok () h4)
noncomputable def b_X42_four_l4 (v0 : Nat) (ih : Int32 → Int32 → HP → Rs Int32) (a1 : Int32) (a2 : Int32) (h : HP) : Rs Int32 :=
  if (4 : Int32) ≤ a2 then
  (rok a1 h)
  else
  (ldR 41 321 v0 h fun x1 =>
  ldR 39 307 x1 h fun x2 =>
  ldI 41 325 v0 h fun x3 =>
  aldI 1 x2 (x3 + a2) h fun x4 =>
  lt3 ((a1 <<< ((8 : Int32) &&& 31)) ||| (x4 &&& (255 : Int32))) fun x5 =>
  lt3 (a2 + 1) fun x6 =>
  ih x5 x6 h)
noncomputable def f_X42_four_l4 (v0 : Nat) (n : Nat) : Int32 → Int32 → HP → Rs Int32 := @Nat.rec (fun _ => Int32 → Int32 → HP → Rs Int32) (fun _ _ _ => none) (fun _ ih => b_X42_four_l4 v0 ih) n
noncomputable def f_X42_four (a0 : Nat) (h : HP) : Rs Int32 :=
  bd (f_X42_four_l4 a0 NN (0 : Int32) (0 : Int32) h) (fun x1 h2 => ldI 41 325 a0 h2 fun x3 =>
  stI 41 325 a0 (x3 + (4 : Int32)) h2 fun h4 =>
  rok x1 h4)
noncomputable def b_X42_behind_l48 (v0 : Nat) (v1 : Int32) (v2 : Int32) (ih : Int32 → HP → Rs (Unit ⊕ Unit)) (a3 : Int32) (h : HP) : Rs (Unit ⊕ Unit) :=
  if (v1 + v2) ≤ a3 then
  (rok (Sum.inr ()) h)
  else
  (ldR 41 321 v0 h fun x1 =>
  ldR 39 307 x1 h fun x2 =>
  aldI 1 x2 a3 h fun x3 =>
  ldR 41 322 v0 h fun x4 =>
  ldR 39 307 x4 h fun x5 =>
  aldI 1 x5 a3 h fun x6 =>
  if x3 = x6 then
  (lt3 (a3 + 1) fun x7 =>
  ih x7 h)
  else
  (rok (Sum.inl ()) h))
noncomputable def f_X42_behind_l48 (v0 : Nat) (v1 : Int32) (v2 : Int32) (n : Nat) : Int32 → HP → Rs (Unit ⊕ Unit) := @Nat.rec (fun _ => Int32 → HP → Rs (Unit ⊕ Unit)) (fun _ _ => none) (fun _ ih => b_X42_behind_l48 v0 v1 v2 ih) n
noncomputable def f_X42_behind (a0 : Nat) (a1 : Int32) (h : HP) : Rs Int32 :=
  ldR 41 321 a0 h fun x1 =>
  ldI 39 308 x1 h fun x2 =>
  if (a1 + (4 : Int32)) ≤ x2 then
  (stI 41 325 a0 a1 h fun h3 =>
  if kc h3 a0 = 41 then
  bd (f_X42_four a0 h3) (fun x4 h5 =>
  if x4 < (13 : Int32) then
  (rok (-1 : Int32) h5)
  else
  (ldR 41 321 a0 h5 fun x6 =>
  ldI 39 308 x6 h5 fun x7 =>
  if x4 ≤ (x7 - a1) then
  (bd (f_X42_behind_l48 a0 a1 x4 NN a1 h5) (Sum.elim (fun x8 => fun h9 => rok (-1 : Int32) h9) (fun x10 => fun h11 => rok (a1 + x4) h11)))
  else
  (rok (-1 : Int32) h5)))
  else none)
  else
  (rok (-1 : Int32) h)
noncomputable def f_X42_one (a0 : Nat) (h : HP) : Rs Int32 :=
  ldI 41 325 a0 h fun x1 =>
  stI 41 325 a0 (x1 + (1 : Int32)) h fun h2 =>
  ldR 41 321 a0 h2 fun x3 =>
  ldR 39 307 x3 h2 fun x4 =>
  ldI 41 325 a0 h2 fun x5 =>
  aldI 1 x4 (x5 - (1 : Int32)) h2 fun x6 =>
  rok (x6 &&& (255 : Int32)) h2
noncomputable def b_X35_kindOf_l2 (v0 : Nat) (v1 : Nat) (ih : Int32 → HP → Rs Int32) (a2 : Int32) (h : HP) : Rs Int32 :=
  txAt v1 a2 h fun x1 =>
  if x1 = (91 : Int32) then
  (lt3 (a2 + 1) fun x2 =>
  ih x2 h)
  else
  (rok a2 h)
noncomputable def f_X35_kindOf_l2 (v0 : Nat) (v1 : Nat) (n : Nat) : Int32 → HP → Rs Int32 := @Nat.rec (fun _ => Int32 → HP → Rs Int32) (fun _ _ => none) (fun _ ih => b_X35_kindOf_l2 v0 v1 ih) n
noncomputable def b_X35_kindOf_l31 (v0 : Nat) (v2 : Int32) (ih : Nat → Int32 → HP → Rs Nat) (a3 : Nat) (a4 : Int32) (h : HP) : Rs Nat :=
  if v2 ≤ a4 then
  (rok a3 h)
  else
  (ldR 34 247 v0 h fun x1 =>
  if kc h x1 = 3 then
  bd (f_X2_arrayOf x1 a3 h) (fun x2 h3 =>
  lt3 (a4 + 1) fun x4 =>
  ih x2 x4 h3)
  else none)
noncomputable def f_X35_kindOf_l31 (v0 : Nat) (v2 : Int32) (n : Nat) : Nat → Int32 → HP → Rs Nat := @Nat.rec (fun _ => Nat → Int32 → HP → Rs Nat) (fun _ _ _ => none) (fun _ ih => b_X35_kindOf_l31 v0 v2 ih) n
noncomputable def f_X35_kindOf (a0 : Nat) (a1 : Nat) (h : HP) : Rs Nat :=
  bd (f_X35_kindOf_l2 a0 a1 NN (0 : Int32) h) (fun x1 h2 => ldR 34 247 a0 h2 fun x3 =>
  if kc h2 x3 = 3 then
  bd (f_X2_base x3 a1 x1 h2) (fun x4 h5 =>
  bd (f_X35_kindOf_l31 a0 x1 NN x4 (0 : Int32) h5) (fun x6 h7 => rok x6 h7))
  else none)
noncomputable def f_X35_restore_b66 (a5 : Nat) (a6 : Nat) (h : HP) : Rs Unit :=
  nwO 60 3 h fun p1 h2 =>
  if kc h2 p1 = 60 then
  bd (f_X62_init p1 (0 : Int32) a5 0 h2) (fun _ h3 =>
  stR 36 283 a6 p1 h3 fun h4 =>
  rok () h4)
  else none
noncomputable def f_X35_restore_b40 (a0 : Nat) (a1 : Int32) (a3 : Int32) (a4 : Nat) (a5 : Nat) (a6 : Nat) (s0 : Nat) (s1 : Int32) (h : HP) : Rs Unit :=
  stI 36 281 s0 s1 h fun h1 =>
  ldR 34 249 a0 h1 fun x2 =>
  astO 8 36 x2 a1 a6 h1 fun h3 =>
  if a4 = 0 then
  (ldI 34 251 a0 h3 fun x4 =>
  stI 34 251 a0 (x4 + a3) h3 fun h5 =>
  f_X35_restore_b66  a5 a6 h5)
  else
  (f_X35_restore_b66  a5 a6 h3)
noncomputable def f_X35_restore (a0 : Nat) (a1 : Int32) (a2 : Nat) (a3 : Int32) (a4 : Nat) (a5 : Nat) (h : HP) : Rs Unit :=
  ldR 34 249 a0 h fun x1 =>
  aldR 8 x1 a1 h fun x2 =>
  if x2 = 0 then
  (nwO 36 11 h fun p3 h4 =>
  if kc h4 p3 = 36 then
  bd (f_X37_init p3 a1 a2 a3 a4 (0 : Int32) h4) (fun _ h5 =>
  if a4 = 0 then
  (f_X35_restore_b40  a0 a1 a3 a4 a5 p3 p3 (0 : Int32) h5)
  else
  (f_X35_restore_b40  a0 a1 a3 a4 a5 p3 p3 (-1 : Int32) h5))
  else none)
  else
  (f_X35_restore_b66  a5 x2 h)
noncomputable def b_X42_readThing_l22 (v0 : Nat) (v1 : Int32) (v2 : Int32) (v3 : Nat) (ih : Int32 → HP → Rs Unit) (a4 : Int32) (h : HP) : Rs Unit :=
  if v2 ≤ a4 then
  (rok () h)
  else
  (if kc h v0 = 41 then
  bd (f_X42_one v0 h) (fun x1 h2 =>
  sbApC v3 (UInt32.toInt32 (Int32.toUInt32 x1 % 65536)) h2 fun h3 =>
  lt3 (a4 + 1) fun x4 =>
  ih x4 h3)
  else none)
noncomputable def f_X42_readThing_l22 (v0 : Nat) (v1 : Int32) (v2 : Int32) (v3 : Nat) (n : Nat) : Int32 → HP → Rs Unit := @Nat.rec (fun _ => Int32 → HP → Rs Unit) (fun _ _ => none) (fun _ ih => b_X42_readThing_l22 v0 v1 v2 v3 ih) n
noncomputable def b_X42_readThing_l146 (v0 : Nat) (v1 : Int32) (v4 : Nat) (v5 : Int32) (v6 : Nat) (ih : Int32 → HP → Rs Unit) (a7 : Int32) (h : HP) : Rs Unit :=
  if v5 ≤ a7 then
  (rok () h)
  else
  (if kc h v0 = 41 then
  bd (f_X42_four v0 h) (fun x1 h2 =>
  lt3 (Int32.toInt64 x1) fun x3 =>
  if kc h2 v0 = 41 then
  bd (f_X42_four v0 h2) (fun x4 h5 =>
  astJ 3 v6 a7 ((x3 <<< (Int32.toInt64 (32 : Int32) &&& 63)) ||| ((Int32.toInt64 x4) &&& (4294967295 : Int64))) h5 fun h6 =>
  lt3 (a7 + 1) fun x7 =>
  ih x7 h6)
  else none)
  else none)
noncomputable def f_X42_readThing_l146 (v0 : Nat) (v1 : Int32) (v4 : Nat) (v5 : Int32) (v6 : Nat) (n : Nat) : Int32 → HP → Rs Unit := @Nat.rec (fun _ => Int32 → HP → Rs Unit) (fun _ _ => none) (fun _ ih => b_X42_readThing_l146 v0 v1 v4 v5 v6 ih) n
noncomputable def b_X42_readThing_l87 (v0 : Nat) (v1 : Int32) (v4 : Nat) (v5 : Int32) (v6 : Nat) (ih : Int32 → HP → Rs Unit) (a7 : Int32) (h : HP) : Rs Unit :=
  if v5 ≤ a7 then
  (rok () h)
  else
  (if kc h v0 = 41 then
  bd (f_X42_one v0 h) (fun x1 h2 =>
  sbApC v6 (UInt32.toInt32 (Int32.toUInt32 x1 % 65536)) h2 fun h3 =>
  lt3 (a7 + 1) fun x4 =>
  ih x4 h3)
  else none)
noncomputable def f_X42_readThing_l87 (v0 : Nat) (v1 : Int32) (v4 : Nat) (v5 : Int32) (v6 : Nat) (n : Nat) : Int32 → HP → Rs Unit := @Nat.rec (fun _ => Int32 → HP → Rs Unit) (fun _ _ => none) (fun _ ih => b_X42_readThing_l87 v0 v1 v4 v5 v6 ih) n
noncomputable def f_X42_readThing (a0 : Nat) (h : HP) : Rs Unit :=
  if kc h a0 = 41 then
  bd (f_X42_four a0 h) (fun x1 h2 =>
  if kc h2 a0 = 41 then
  bd (f_X42_one a0 h2) (fun x3 h4 =>
  nwC 72 4 h4 fun p5 h6 =>
  sbInitN p5 x3 h6 fun h7 =>
  bd (f_X42_readThing_l22 a0 x1 x3 p5 NN (0 : Int32) h7) (fun x8 h9 => ldR 41 320 a0 h9 fun x10 =>
  sbStr p5 h9 fun x11 h12 =>
  if kc h12 x10 = 34 then
  bd (f_X35_kindOf x10 x11 h12) (fun x13 h14 =>
  if kc h14 a0 = 41 then
  bd (f_X42_four a0 h14) (fun x15 h16 =>
  ldI 4 31 x13 h16 fun x17 =>
  if x17 = (9 : Int32) then
  (nwC 72 4 h16 fun p24 h25 =>
  sbInitN p24 x15 h25 fun h26 =>
  bd (f_X42_readThing_l87 a0 x1 x13 x15 p24 NN (0 : Int32) h26) (fun x27 h28 => ldR 41 320 a0 h28 fun x29 =>
  sbStr p24 h28 fun x30 h31 =>
  if kc h31 x29 = 34 then
  bd (f_X35_restore x29 x1 x13 x15 x30 0 h31) (fun _ h32 =>
  ldR 41 324 a0 h32 fun x33 =>
  astI 2 x33 x1 (vp_nar .boolean (1 : Int32)) h32 fun h34 =>
  rok () h34)
  else none))
  else
  (nwA 1083 x15 h16 fun p18 h19 =>
  bd (f_X42_readThing_l146 a0 x1 x13 x15 p18 NN (0 : Int32) h19) (fun x20 h21 => ldR 41 320 a0 h21 fun x22 =>
  if kc h21 x22 = 34 then
  bd (f_X35_restore x22 x1 x13 x15 0 p18 h21) (fun _ h23 =>
  rok () h23)
  else none)))
  else none)
  else none))
  else none)
  else none
noncomputable def b_X42_readKept_l29 (v0 : Nat) (v1 : Int32) (ih : Int32 → HP → Rs Unit) (a2 : Int32) (h : HP) : Rs Unit :=
  if v1 ≤ a2 then
  (rok () h)
  else
  (if kc h v0 = 41 then
  bd (f_X42_readThing v0 h) (fun _ h1 =>
  lt3 (a2 + 1) fun x2 =>
  ih x2 h1)
  else none)
noncomputable def f_X42_readKept_l29 (v0 : Nat) (v1 : Int32) (n : Nat) : Int32 → HP → Rs Unit := @Nat.rec (fun _ => Int32 → HP → Rs Unit) (fun _ _ => none) (fun _ ih => b_X42_readKept_l29 v0 v1 ih) n
noncomputable def b_X42_readKept_l51 (v0 : Nat) (v2 : Int32) (ih : Int32 → HP → Rs Unit) (a3 : Int32) (h : HP) : Rs Unit :=
  if v2 ≤ a3 then
  (rok () h)
  else
  (if kc h v0 = 41 then
  bd (f_X42_one v0 h) (fun x1 h2 =>
  ldR 41 320 v0 h2 fun x3 =>
  ldR 34 263 x3 h2 fun x4 =>
  if kc h2 v0 = 41 then
  bd (f_X42_four v0 h2) (fun x5 h6 =>
  astI 0 x4 x1 x5 h6 fun h7 =>
  lt3 (a3 + 1) fun x8 =>
  ih x8 h7)
  else none)
  else none)
noncomputable def f_X42_readKept_l51 (v0 : Nat) (v2 : Int32) (n : Nat) : Int32 → HP → Rs Unit := @Nat.rec (fun _ => Int32 → HP → Rs Unit) (fun _ _ => none) (fun _ ih => b_X42_readKept_l51 v0 v2 ih) n
noncomputable def f_X42_readKept (a0 : Nat) (h : HP) : Rs Unit :=
  ldR 41 320 a0 h fun x1 =>
  if kc h a0 = 41 then
  bd (f_X42_four a0 h) (fun x2 h3 =>
  stI 34 256 x1 x2 h3 fun h4 =>
  ldR 41 320 a0 h4 fun x5 =>
  if kc h4 a0 = 41 then
  bd (f_X42_four a0 h4) (fun x6 h7 =>
  stI 34 250 x5 x6 h7 fun h8 =>
  if kc h8 a0 = 41 then
  bd (f_X42_four a0 h8) (fun x9 h10 =>
  bd (f_X42_readKept_l29 a0 x9 NN (0 : Int32) h10) (fun x11 h12 => if kc h12 a0 = 41 then
  bd (f_X42_four a0 h12) (fun x13 h14 =>
  bd (f_X42_readKept_l51 a0 x13 NN (0 : Int32) h14) (fun x15 h16 => rok () h16))
  else none))
  else none)
  else none)
  else none
noncomputable def f_X42_readSwept_l12b54 (v0 : Nat) (v1 : Int32) (v2 : Int32) (ih : Int32 → HP → Rs Unit) (a3 : Int32) (h : HP) : Rs Unit :=
  lt3 (a3 + 1) fun x1 =>
  ih x1 h
noncomputable def b_X42_readSwept_l12 (v0 : Nat) (v1 : Int32) (v2 : Int32) (ih : Int32 → HP → Rs Unit) (a3 : Int32) (h : HP) : Rs Unit :=
  if v2 ≤ a3 then
  (rok () h)
  else
  (if v1 < 0 then
  (rok () h)
  else
  (if kc h v0 = 41 then
  bd (f_X42_four v0 h) (fun x1 h2 =>
  ldR 41 320 v0 h2 fun x3 =>
  ldR 34 249 x3 h2 fun x4 =>
  aldR 8 x4 x1 h2 fun x5 =>
  if x5 = 0 then
  (f_X42_readSwept_l12b54 v0 v1 v2 ih a3 h2)
  else
  (ldR 41 320 v0 h2 fun x6 =>
  ldR 34 249 x6 h2 fun x7 =>
  aldR 8 x7 x1 h2 fun x8 =>
  stI 36 279 x8 (1 : Int32) h2 fun h9 =>
  f_X42_readSwept_l12b54 v0 v1 v2 ih a3 h9))
  else none))
noncomputable def f_X42_readSwept_l12 (v0 : Nat) (v1 : Int32) (v2 : Int32) (n : Nat) : Int32 → HP → Rs Unit := @Nat.rec (fun _ => Int32 → HP → Rs Unit) (fun _ _ => none) (fun _ ih => b_X42_readSwept_l12 v0 v1 v2 ih) n
noncomputable def f_X42_readSwept (a0 : Nat) (h : HP) : Rs Unit :=
  if kc h a0 = 41 then
  bd (f_X42_four a0 h) (fun x1 h2 =>
  if kc h2 a0 = 41 then
  bd (f_X42_four a0 h2) (fun x3 h4 =>
  bd (f_X42_readSwept_l12 a0 x1 x3 NN (0 : Int32) h4) (fun x5 h6 => rok () h6))
  else none)
  else none
noncomputable def b_X42_open_l2 (v0 : Nat) (ih : Int32 → HP → Rs Unit) (a1 : Int32) (h : HP) : Rs Unit :=
  if (4000 : Int32) < a1 then
  (rok () h)
  else
  (ldR 41 324 v0 h fun x1 =>
  astI 2 x1 a1 (vp_nar .boolean (0 : Int32)) h fun h2 =>
  lt3 (a1 + 1) fun x3 =>
  ih x3 h2)
noncomputable def f_X42_open_l2 (v0 : Nat) (n : Nat) : Int32 → HP → Rs Unit := @Nat.rec (fun _ => Int32 → HP → Rs Unit) (fun _ _ => none) (fun _ ih => b_X42_open_l2 v0 ih) n
noncomputable def f_X42_open_l30b65 (v0 : Nat) (ih : Int32 → Int32 → HP → Rs Int32) (a2 : Int32) (h : HP) : Rs Int32 :=
  if kc h v0 = 41 then
  bd (f_X42_behind v0 a2 h) (fun x1 h2 =>
  ih a2 x1 h2)
  else none
noncomputable def b_X42_open_l30 (v0 : Nat) (ih : Int32 → Int32 → HP → Rs Int32) (a1 : Int32) (a2 : Int32) (h : HP) : Rs Int32 :=
  if a2 < 0 then
  (rok a1 h)
  else
  (stI 41 323 v0 a1 h fun h1 =>
  stI 41 325 v0 (a1 + (4 : Int32)) h1 fun h2 =>
  if kc h2 v0 = 41 then
  bd (f_X42_one v0 h2) (fun x3 h4 =>
  if x3 = (1 : Int32) then
  (if kc h4 v0 = 41 then
  bd (f_X42_readKept v0 h4) (fun _ h6 =>
  f_X42_open_l30b65 v0 ih a2 h6)
  else none)
  else
  (if kc h4 v0 = 41 then
  bd (f_X42_readSwept v0 h4) (fun _ h5 =>
  f_X42_open_l30b65 v0 ih a2 h5)
  else none))
  else none)
noncomputable def f_X42_open_l30 (v0 : Nat) (n : Nat) : Int32 → Int32 → HP → Rs Int32 := @Nat.rec (fun _ => Int32 → Int32 → HP → Rs Int32) (fun _ _ _ => none) (fun _ ih => b_X42_open_l30 v0 ih) n
noncomputable def f_X42_open (a0 : Nat) (h : HP) : Rs Unit :=
  bd (f_X42_open_l2 a0 NN (0 : Int32) h) (fun x1 h2 => if kc h2 a0 = 41 then
  bd (f_X42_behind a0 (0 : Int32) h2) (fun x3 h4 =>
  bd (f_X42_open_l30 a0 NN (0 : Int32) x3 h4) (fun x5 h6 => ldR 41 321 a0 h6 fun x7 =>
  stI 39 308 x7 x5 h6 fun h8 =>
  ldR 41 320 a0 h8 fun x9 =>
  if kc h8 x9 = 34 then
  bd (f_X35_settle x9 h8) (fun _ h10 =>
  rok () h10)
  else none))
  else none)
noncomputable def f_X0_reopen (a0 : Nat) (h : HP) : Rs Int32 :=
  ldI 1 14 a0 h fun x1 =>
  if x1 = 0 then
  (rok (-13 : Int32) h)
  else
  (ldI 1 15 a0 h fun x2 =>
  if x2 = (20 : Int32) then
  (rok (-12 : Int32) h)
  else
  (ldI 1 15 a0 h fun x3 =>
  stI 1 15 a0 (x3 + (1 : Int32)) h fun h4 =>
  stI 1 14 a0 (0 : Int32) h4 fun h5 =>
  ldR 1 7 a0 h5 fun x6 =>
  ldI 1 6 a0 h5 fun x7 =>
  if kc h5 x6 = 34 then
  bd (f_X35_clear x6 x7 h5) (fun _ h8 =>
  ldR 1 11 a0 h8 fun x9 =>
  if kc h8 x9 = 41 then
  bd (f_X42_open x9 h8) (fun _ h10 =>
  ldR 1 7 a0 h10 fun x11 =>
  ldI 34 256 x11 h10 fun x12 =>
  rok x12 h10)
  else none)
  else none))
noncomputable def f_X0_root (a0 : Nat) (a1 : Int32) (a2 : Int32) (h : HP) : Rs Int32 :=
  if kc h a0 = 1 then
  bd (f_X0_hasAct a0 h) (fun x1 h2 =>
  if x1 = 0 then
  (rok (-13 : Int32) h2)
  else
  (if kc h2 a0 = 1 then
  bd (f_X0_isDead a0 (Int32.toInt64 a2) h2) (fun x3 h4 =>
  if x3 = 0 then
  (if a1 < 0 then
  (rok (-2 : Int32) h4)
  else
  (if a1 ≤ (15 : Int32) then
  (ldR 1 7 a0 h4 fun x5 =>
  ldR 34 259 x5 h4 fun x6 =>
  ldR 35 270 x6 h4 fun x7 =>
  astI 0 x7 a1 a2 h4 fun h8 =>
  ldR 1 7 a0 h8 fun x9 =>
  ldR 34 259 x9 h8 fun x10 =>
  ldR 35 272 x10 h8 fun x11 =>
  astI 2 x11 a1 (vp_nar .boolean (1 : Int32)) h8 fun h12 =>
  rok (0 : Int32) h12)
  else
  (rok (-2 : Int32) h4)))
  else
  (rok (-14 : Int32) h4))
  else none))
  else none
noncomputable def f_X0_rootAt (a0 : Nat) (a1 : Int32) (h : HP) : Rs Int32 :=
  if kc h a0 = 1 then
  bd (f_X0_hasView a0 h) (fun x1 h2 =>
  if x1 = 0 then
  (rok (-13 : Int32) h2)
  else
  (if a1 < 0 then
  (rok (-2 : Int32) h2)
  else
  (if a1 ≤ (15 : Int32) then
  (ldR 1 7 a0 h2 fun x3 =>
  ldR 34 259 x3 h2 fun x4 =>
  if x4 = 0 then
  (ldR 1 7 a0 h2 fun x13 =>
  ldR 34 257 x13 h2 fun x14 =>
  ldR 1 7 a0 h2 fun x15 =>
  ldI 34 260 x15 h2 fun x16 =>
  aldI 0 x14 (((16 : Int32) * x16) + a1) h2 fun x17 =>
  rok x17 h2)
  else
  (ldR 1 7 a0 h2 fun x5 =>
  ldR 34 259 x5 h2 fun x6 =>
  ldR 35 271 x6 h2 fun x7 =>
  astI 2 x7 a1 (vp_nar .boolean (1 : Int32)) h2 fun h8 =>
  ldR 1 7 a0 h8 fun x9 =>
  ldR 34 259 x9 h8 fun x10 =>
  ldR 35 270 x10 h8 fun x11 =>
  aldI 0 x11 a1 h8 fun x12 =>
  rok x12 h8))
  else
  (rok (-2 : Int32) h2))))
  else none
noncomputable def f_X0_row (a0 : Nat) (a1 : Int32) (a2 : Int32) (h : HP) : Rs Int64 :=
  if kc h a0 = 1 then
  bd (f_X0_isShut a0 h) (fun x1 h2 =>
  if x1 = 0 then
  (ldR 1 9 a0 h2 fun x3 =>
  if kc h2 x3 = 38 then
  bd (f_X39_row x3 a1 a2 h2) (fun x4 h5 =>
  rok x4 h5)
  else none)
  else
  (rok (0 : Int64) h2))
  else none
noncomputable def f_X39_same_l76b166 (v0 : Nat) (v4 : Int32) (v5 : Nat) (ih : Int32 → Int32 → HP → Rs Int32) (a6 : Int32) (s0 : Int32) (h : HP) : Rs Int32 :=
  lt3 (a6 + 1) fun x1 =>
  ih s0 x1 h
noncomputable def b_X39_same_l76 (v0 : Nat) (v4 : Int32) (v5 : Nat) (ih : Int32 → Int32 → HP → Rs Int32) (a3 : Int32) (a6 : Int32) (h : HP) : Rs Int32 :=
  ldI 36 275 v5 h fun x1 =>
  if x1 ≤ a6 then
  (rok a3 h)
  else
  (if a3 = 0 then
  (rok a3 h)
  else
  (ldR 38 293 v0 h fun x2 =>
  ldI 36 273 v5 h fun x3 =>
  if kc h x2 = 34 then
  bd (f_X35_peek x2 x3 a6 h) (fun x4 h5 =>
  ldR 38 293 v0 h5 fun x6 =>
  ldR 38 296 v0 h5 fun x7 =>
  ldI 36 273 v5 h5 fun x8 =>
  aldI 0 x7 x8 h5 fun x9 =>
  if kc h5 x6 = 34 then
  bd (f_X35_peek x6 x9 a6 h5) (fun x10 h11 =>
  if kc h11 v5 = 36 then
  bd (f_X37_kindOf v5 a6 h11) (fun x12 h13 =>
  if kc h13 x12 = 4 then
  bd (f_X3_isPlain x12 h13) (fun x14 h15 =>
  if x14 = 0 then
  (if kc h15 v0 = 38 then
  bd (f_X39_isPair v0 (Int64.toInt32 x4) (Int64.toInt32 x10) h15) (fun x16 h17 =>
  f_X39_same_l76b166 v0 v4 v5 ih a6 x16 h17)
  else none)
  else
  (if (lg_cmp x4 x10) = 0 then
  (f_X39_same_l76b166 v0 v4 v5 ih a6 (1 : Int32) h15)
  else
  (f_X39_same_l76b166 v0 v4 v5 ih a6 (0 : Int32) h15)))
  else none)
  else none)
  else none)
  else none))
noncomputable def f_X39_same_l76 (v0 : Nat) (v4 : Int32) (v5 : Nat) (n : Nat) : Int32 → Int32 → HP → Rs Int32 := @Nat.rec (fun _ => Int32 → Int32 → HP → Rs Int32) (fun _ _ _ => none) (fun _ ih => b_X39_same_l76 v0 v4 v5 ih) n
noncomputable def f_X39_same_l14b173 (v0 : Nat) (ih : Int32 → Int32 → HP → Rs Int32) (a3 : Int32) (a4 : Int32) (h : HP) : Rs Int32 :=
  lt3 (a4 + 1) fun x1 =>
  ih a3 x1 h
noncomputable def b_X39_same_l14 (v0 : Nat) (ih : Int32 → Int32 → HP → Rs Int32) (a3 : Int32) (a4 : Int32) (h : HP) : Rs Int32 :=
  ldI 38 299 v0 h fun x1 =>
  if x1 ≤ a4 then
  (rok a3 h)
  else
  (if a3 = 0 then
  (rok a3 h)
  else
  (ldR 38 293 v0 h fun x2 =>
  ldR 34 249 x2 h fun x3 =>
  ldR 38 298 v0 h fun x4 =>
  aldI 0 x4 a4 h fun x5 =>
  aldR 8 x3 x5 h fun x6 =>
  ldR 38 293 v0 h fun x7 =>
  ldI 36 273 x6 h fun x8 =>
  if kc h x7 = 34 then
  bd (f_X35_noteRead x7 x8 h) (fun _ h9 =>
  ldR 38 293 v0 h9 fun x10 =>
  ldR 38 296 v0 h9 fun x11 =>
  ldI 36 273 x6 h9 fun x12 =>
  aldI 0 x11 x12 h9 fun x13 =>
  if kc h9 x10 = 34 then
  bd (f_X35_noteRead x10 x13 h9) (fun _ h14 =>
  bd (f_X39_same_l76 v0 a4 x6 NN a3 (0 : Int32) h14) (fun x15 h16 => f_X39_same_l14b173 v0 ih x15 a4 h16))
  else none)
  else none))
noncomputable def f_X39_same_l14 (v0 : Nat) (n : Nat) : Int32 → Int32 → HP → Rs Int32 := @Nat.rec (fun _ => Int32 → Int32 → HP → Rs Int32) (fun _ _ _ => none) (fun _ ih => b_X39_same_l14 v0 ih) n
noncomputable def f_X39_same (a0 : Nat) (a1 : Int32) (a2 : Int32) (h : HP) : Rs Int32 :=
  if kc h a0 = 38 then
  bd (f_X39_unpair a0 h) (fun _ h1 =>
  if kc h1 a0 = 38 then
  bd (f_X39_isPair a0 a1 a2 h1) (fun x2 h3 =>
  bd (f_X39_same_l14 a0 NN x2 (0 : Int32) h3) (fun x4 h5 => rokZ x4 h5))
  else none)
  else none
noncomputable def f_X0_same (a0 : Nat) (a1 : Int32) (a2 : Int32) (h : HP) : Rs Int32 :=
  if kc h a0 = 1 then
  bd (f_X0_twoRefusal a0 a1 a2 h) (fun x1 h2 =>
  if x1 ≤ 0 then
  (ldR 1 9 a0 h2 fun x3 =>
  if kc h2 x3 = 38 then
  bd (f_X39_same x3 a1 a2 h2) (fun x4 h5 =>
  if x4 = 0 then
  (rok (0 : Int32) h5)
  else
  (rok (1 : Int32) h5))
  else none)
  else
  (rok (-x1) h2))
  else none
noncomputable def f_X0_set (a0 : Nat) (a1 : Int32) (a2 : Int32) (a3 : Int32) (a4 : Int64) (h : HP) : Rs Int32 :=
  if kc h a0 = 1 then
  bd (f_X0_change a0 a1 a2 a3 a4 (1 : Int32) h) (fun x1 h2 =>
  rok (-x1) h2)
  else none
noncomputable def f_X0_size_b41 (a0 : Nat) (a1 : Int32) (h : HP) : Rs Int32 :=
  ldR 1 7 a0 h fun x1 =>
  if kc h x1 = 34 then
  bd (f_X35_sizeOf x1 a1 h) (fun x2 h3 =>
  rok x2 h3)
  else none
noncomputable def f_X0_size (a0 : Nat) (a1 : Int32) (h : HP) : Rs Int32 :=
  if kc h a0 = 1 then
  bd (f_X0_refusal a0 a1 h) (fun x1 h2 =>
  if x1 ≤ 0 then
  (ldR 1 7 a0 h2 fun x3 =>
  if kc h2 x3 = 34 then
  bd (f_X35_kindAt x3 a1 h2) (fun x4 h5 =>
  ldR 4 32 x4 h5 fun x6 =>
  eqS x6 907
  (f_X0_size_b41  a0 a1 h5)
  (ldI 4 31 x4 h5 fun x7 =>
  if x7 = (9 : Int32) then
  (f_X0_size_b41  a0 a1 h5)
  else
  (rok (-1 : Int32) h5)))
  else none)
  else
  (rok (-x1) h2))
  else none
noncomputable def f_X0_steps (a0 : Nat) (h : HP) : Rs Int32 :=
  ldI 1 23 a0 h fun x1 =>
  rok x1 h
noncomputable def f_X35_goes (a0 : Nat) (a1 : Int32) (h : HP) : Rs Int32 :=
  ldR 34 249 a0 h fun x1 =>
  aldR 8 x1 a1 h fun x2 =>
  if x2 = 0 then
  (rok (0 : Int32) h)
  else
  (ldI 36 279 x2 h fun x3 =>
  if x3 = 0 then
  (ldI 36 278 x2 h fun x4 =>
  if x4 = 0 then
  (ldR 34 262 a0 h fun x5 =>
  aldI 2 x5 a1 h fun x6 =>
  if x6 = 0 then
  (rok (1 : Int32) h)
  else
  (rok (0 : Int32) h))
  else
  (rok (0 : Int32) h))
  else
  (rok (0 : Int32) h))
noncomputable def f_X35_meet (a0 : Nat) (a1 : Int32) (a2 : Int32) (h : HP) : Rs Int32 :=
  if a1 = 0 then
  (rok a2 h)
  else
  (ldR 34 262 a0 h fun x1 =>
  aldI 2 x1 a1 h fun x2 =>
  if x2 = 0 then
  (ldR 34 262 a0 h fun x3 =>
  astI 2 x3 a1 (vp_nar .boolean (1 : Int32)) h fun h4 =>
  ldR 34 261 a0 h4 fun x5 =>
  astI 0 x5 a2 a1 h4 fun h6 =>
  rok (a2 + (1 : Int32)) h6)
  else
  (rok a2 h))
noncomputable def f_X35_meetAll_l6b40 (v0 : Nat) (v1 : Nat) (v2 : Nat) (ih : Int32 → Int32 → HP → Rs Int32) (a4 : Int32) (a5 : Int32) (h : HP) : Rs Int32 :=
  lt3 (a5 + 1) fun x1 =>
  ih a4 x1 h
noncomputable def b_X35_meetAll_l6 (v0 : Nat) (v1 : Nat) (v2 : Nat) (ih : Int32 → Int32 → HP → Rs Int32) (a4 : Int32) (a5 : Int32) (h : HP) : Rs Int32 :=
  ldI 36 275 v1 h fun x1 =>
  if x1 ≤ a5 then
  (rok a4 h)
  else
  (if kc h v1 = 36 then
  bd (f_X37_kindOf v1 a5 h) (fun x2 h3 =>
  if kc h3 x2 = 4 then
  bd (f_X3_isPlain x2 h3) (fun x4 h5 =>
  if x4 = 0 then
  (aldJ 3 v2 a5 h5 fun x6 =>
  if kc h5 v0 = 34 then
  bd (f_X35_meet v0 (Int64.toInt32 x6) a4 h5) (fun x7 h8 =>
  f_X35_meetAll_l6b40 v0 v1 v2 ih x7 a5 h8)
  else none)
  else
  (f_X35_meetAll_l6b40 v0 v1 v2 ih a4 a5 h5))
  else none)
  else none)
noncomputable def f_X35_meetAll_l6 (v0 : Nat) (v1 : Nat) (v2 : Nat) (n : Nat) : Int32 → Int32 → HP → Rs Int32 := @Nat.rec (fun _ => Int32 → Int32 → HP → Rs Int32) (fun _ _ _ => none) (fun _ ih => b_X35_meetAll_l6 v0 v1 v2 ih) n
noncomputable def f_X35_meetAll (a0 : Nat) (a1 : Nat) (a2 : Nat) (a3 : Int32) (h : HP) : Rs Int32 :=
  bd (f_X35_meetAll_l6 a0 a1 a2 NN a3 (0 : Int32) h) (fun x1 h2 => rok x1 h2)
noncomputable def f_X35_staysFor (a0 : Nat) (a1 : Nat) (a2 : Nat) (h : HP) : Rs Int32 :=
  ldI 36 280 a1 h fun x1 =>
  ldI 35 264 a2 h fun x2 =>
  if x1 = x2 then
  (rok (1 : Int32) h)
  else
  (ldR 35 267 a2 h fun x3 =>
  ldI 36 273 a1 h fun x4 =>
  aldI 2 x3 x4 h fun x5 =>
  if x5 = 0 then
  (ldR 35 268 a2 h fun x6 =>
  ldI 36 273 a1 h fun x7 =>
  aldI 2 x6 x7 h fun x8 =>
  if x8 = 0 then
  (ldI 35 265 a2 h fun x9 =>
  if kc h a0 = 34 then
  bd (f_X35_isSeen a0 a1 a2 x9 h) (fun x10 h11 =>
  if x10 = 0 then
  (rok (0 : Int32) h11)
  else
  (ldR 36 274 a1 h11 fun x12 =>
  if kc h11 a0 = 34 then
  bd (f_X35_isOfRead a0 x12 a2 h11) (fun x13 h14 =>
  if x13 = 0 then
  (rok (0 : Int32) h14)
  else
  (rok (1 : Int32) h14))
  else none))
  else none)
  else
  (rok (1 : Int32) h))
  else
  (rok (1 : Int32) h))
noncomputable def f_X37_hasParts (a0 : Nat) (h : HP) : Rs Int32 :=
  ldR 36 274 a0 h fun x1 =>
  if kc h x1 = 4 then
  bd (f_X3_isClassLike x1 h) (fun x2 h3 =>
  if x2 = 0 then
  (ldR 36 274 a0 h3 fun x4 =>
  ldR 4 32 x4 h3 fun x5 =>
  eqS x5 907
  (ldR 36 274 a0 h3 fun x6 =>
  ldR 4 34 x6 h3 fun x7 =>
  if kc h3 x7 = 4 then
  bd (f_X3_isPlain x7 h3) (fun x8 h9 =>
  if x8 = 0 then
  (rok (1 : Int32) h9)
  else
  (rok (0 : Int32) h9))
  else none)
  (rok (0 : Int32) h3))
  else
  (rok (1 : Int32) h3))
  else none
noncomputable def b_X35_findGone_l2 (v0 : Nat) (v1 : Int32) (ih : Int32 → HP → Rs Unit) (a2 : Int32) (h : HP) : Rs Unit :=
  if (4000 : Int32) < a2 then
  (rok () h)
  else
  (ldR 34 262 v0 h fun x1 =>
  astI 2 x1 a2 (vp_nar .boolean (0 : Int32)) h fun h2 =>
  lt3 (a2 + 1) fun x3 =>
  ih x3 h2)
noncomputable def f_X35_findGone_l2 (v0 : Nat) (v1 : Int32) (n : Nat) : Int32 → HP → Rs Unit := @Nat.rec (fun _ => Int32 → HP → Rs Unit) (fun _ _ => none) (fun _ ih => b_X35_findGone_l2 v0 v1 ih) n
noncomputable def b_X35_findGone_l37 (v0 : Nat) (v1 : Int32) (v3 : Int32) (ih : Int32 → Int32 → HP → Rs Int32) (a2 : Int32) (a4 : Int32) (h : HP) : Rs Int32 :=
  if (16 : Int32) ≤ a4 then
  (rok a2 h)
  else
  (ldR 34 257 v0 h fun x1 =>
  aldI 0 x1 (((16 : Int32) * v3) + a4) h fun x2 =>
  if kc h v0 = 34 then
  bd (f_X35_meet v0 x2 a2 h) (fun x3 h4 =>
  lt3 (a4 + 1) fun x5 =>
  ih x3 x5 h4)
  else none)
noncomputable def f_X35_findGone_l37 (v0 : Nat) (v1 : Int32) (v3 : Int32) (n : Nat) : Int32 → Int32 → HP → Rs Int32 := @Nat.rec (fun _ => Int32 → Int32 → HP → Rs Int32) (fun _ _ _ => none) (fun _ ih => b_X35_findGone_l37 v0 v1 v3 ih) n
noncomputable def b_X35_findGone_l26 (v0 : Nat) (v1 : Int32) (ih : Int32 → Int32 → HP → Rs Int32) (a2 : Int32) (a3 : Int32) (h : HP) : Rs Int32 :=
  ldI 34 256 v0 h fun x1 =>
  if x1 < a3 then
  (rok a2 h)
  else
  (bd (f_X35_findGone_l37 v0 v1 a3 NN a2 (0 : Int32) h) (fun x2 h3 => lt3 (a3 + 1) fun x4 =>
  ih x2 x4 h3))
noncomputable def f_X35_findGone_l26 (v0 : Nat) (v1 : Int32) (n : Nat) : Int32 → Int32 → HP → Rs Int32 := @Nat.rec (fun _ => Int32 → Int32 → HP → Rs Int32) (fun _ _ _ => none) (fun _ ih => b_X35_findGone_l26 v0 v1 ih) n
noncomputable def b_X35_findGone_l104 (v0 : Nat) (v1 : Int32) (v3 : Int32) (v4 : Nat) (ih : Int32 → Int32 → HP → Rs Int32) (a2 : Int32) (a5 : Int32) (h : HP) : Rs Int32 :=
  if (16 : Int32) ≤ a5 then
  (rok a2 h)
  else
  (ldR 35 270 v4 h fun x1 =>
  aldI 0 x1 a5 h fun x2 =>
  if kc h v0 = 34 then
  bd (f_X35_meet v0 x2 a2 h) (fun x3 h4 =>
  lt3 (a5 + 1) fun x5 =>
  ih x3 x5 h4)
  else none)
noncomputable def f_X35_findGone_l104 (v0 : Nat) (v1 : Int32) (v3 : Int32) (v4 : Nat) (n : Nat) : Int32 → Int32 → HP → Rs Int32 := @Nat.rec (fun _ => Int32 → Int32 → HP → Rs Int32) (fun _ _ _ => none) (fun _ ih => b_X35_findGone_l104 v0 v1 v3 v4 ih) n
noncomputable def f_X35_findGone_l134b190 (v0 : Nat) (v1 : Int32) (v3 : Int32) (v4 : Nat) (ih : Int32 → Int32 → HP → Rs Int32) (a2 : Int32) (a5 : Int32) (h : HP) : Rs Int32 :=
  lt3 (a5 + 1) fun x1 =>
  ih a2 x1 h
noncomputable def b_X35_findGone_l134 (v0 : Nat) (v1 : Int32) (v3 : Int32) (v4 : Nat) (ih : Int32 → Int32 → HP → Rs Int32) (a2 : Int32) (a5 : Int32) (h : HP) : Rs Int32 :=
  ldI 34 250 v0 h fun x1 =>
  if x1 ≤ a5 then
  (rok a2 h)
  else
  (ldR 34 249 v0 h fun x2 =>
  aldR 8 x2 a5 h fun x3 =>
  if x3 = 0 then
  (f_X35_findGone_l134b190 v0 v1 v3 v4 ih a2 a5 h)
  else
  (ldR 34 249 v0 h fun x4 =>
  aldR 8 x4 a5 h fun x5 =>
  ldI 36 279 x5 h fun x6 =>
  if x6 = 0 then
  (ldR 34 249 v0 h fun x7 =>
  aldR 8 x7 a5 h fun x8 =>
  if kc h v0 = 34 then
  bd (f_X35_staysFor v0 x8 v4 h) (fun x9 h10 =>
  if x9 = 0 then
  (f_X35_findGone_l134b190 v0 v1 v3 v4 ih a2 a5 h10)
  else
  (if kc h10 v0 = 34 then
  bd (f_X35_meet v0 a5 a2 h10) (fun x11 h12 =>
  f_X35_findGone_l134b190 v0 v1 v3 v4 ih x11 a5 h12)
  else none))
  else none)
  else
  (f_X35_findGone_l134b190 v0 v1 v3 v4 ih a2 a5 h)))
noncomputable def f_X35_findGone_l134 (v0 : Nat) (v1 : Int32) (v3 : Int32) (v4 : Nat) (n : Nat) : Int32 → Int32 → HP → Rs Int32 := @Nat.rec (fun _ => Int32 → Int32 → HP → Rs Int32) (fun _ _ _ => none) (fun _ ih => b_X35_findGone_l134 v0 v1 v3 v4 ih) n
noncomputable def f_X35_findGone_l76b196 (v0 : Nat) (v1 : Int32) (ih : Int32 → Int32 → HP → Rs Int32) (a2 : Int32) (a3 : Int32) (h : HP) : Rs Int32 :=
  lt3 (a3 + 1) fun x1 =>
  ih a2 x1 h
noncomputable def b_X35_findGone_l76 (v0 : Nat) (v1 : Int32) (ih : Int32 → Int32 → HP → Rs Int32) (a2 : Int32) (a3 : Int32) (h : HP) : Rs Int32 :=
  if (8 : Int32) ≤ a3 then
  (rok a2 h)
  else
  (ldR 34 253 v0 h fun x1 =>
  aldR 5 x1 a3 h fun x2 =>
  ldI 35 264 x2 h fun x3 =>
  if x3 = 0 then
  (f_X35_findGone_l76b196 v0 v1 ih a2 a3 h)
  else
  (bd (f_X35_findGone_l104 v0 v1 a3 x2 NN a2 (0 : Int32) h) (fun x4 h5 => bd (f_X35_findGone_l134 v0 v1 a3 x2 NN x4 (1 : Int32) h5) (fun x6 h7 => f_X35_findGone_l76b196 v0 v1 ih x6 a3 h7))))
noncomputable def f_X35_findGone_l76 (v0 : Nat) (v1 : Int32) (n : Nat) : Int32 → Int32 → HP → Rs Int32 := @Nat.rec (fun _ => Int32 → Int32 → HP → Rs Int32) (fun _ _ _ => none) (fun _ ih => b_X35_findGone_l76 v0 v1 ih) n
noncomputable def f_X35_findGone_l237b272 (v0 : Nat) (v1 : Int32) (v3 : Nat) (ih : Int32 → Nat → HP → Rs Int32) (a2 : Int32) (s0 : Nat) (h : HP) : Rs Int32 :=
  ih a2 s0 h
noncomputable def b_X35_findGone_l237 (v0 : Nat) (v1 : Int32) (v3 : Nat) (ih : Int32 → Nat → HP → Rs Int32) (a2 : Int32) (a4 : Nat) (h : HP) : Rs Int32 :=
  if a4 = 0 then
  (rok a2 h)
  else
  (ldR 60 444 a4 h fun x1 =>
  if kc h v0 = 34 then
  bd (f_X35_meetAll v0 v3 x1 a2 h) (fun x2 h3 =>
  ldI 60 443 a4 h3 fun x4 =>
  if x4 ≤ v1 then
  (f_X35_findGone_l237b272 v0 v1 v3 ih x2 0 h3)
  else
  (ldR 60 445 a4 h3 fun x5 =>
  f_X35_findGone_l237b272 v0 v1 v3 ih x2 x5 h3))
  else none)
noncomputable def f_X35_findGone_l237 (v0 : Nat) (v1 : Int32) (v3 : Nat) (n : Nat) : Int32 → Nat → HP → Rs Int32 := @Nat.rec (fun _ => Int32 → Nat → HP → Rs Int32) (fun _ _ _ => none) (fun _ ih => b_X35_findGone_l237 v0 v1 v3 ih) n
noncomputable def f_X35_findGone_l280b343 (v0 : Nat) (v1 : Int32) (v3 : Nat) (ih : Int32 → Int32 → HP → Rs Int32) (a2 : Int32) (a4 : Int32) (h : HP) : Rs Int32 :=
  lt3 (a4 + 1) fun x1 =>
  ih a2 x1 h
noncomputable def b_X35_findGone_l280 (v0 : Nat) (v1 : Int32) (v3 : Nat) (ih : Int32 → Int32 → HP → Rs Int32) (a2 : Int32) (a4 : Int32) (h : HP) : Rs Int32 :=
  if (8 : Int32) ≤ a4 then
  (rok a2 h)
  else
  (ldR 34 253 v0 h fun x1 =>
  aldR 5 x1 a4 h fun x2 =>
  ldI 35 264 x2 h fun x3 =>
  if x3 ≤ 0 then
  (f_X35_findGone_l280b343 v0 v1 v3 ih a2 a4 h)
  else
  (ldR 34 253 v0 h fun x4 =>
  aldR 5 x4 a4 h fun x5 =>
  ldR 35 266 x5 h fun x6 =>
  ldI 36 273 v3 h fun x7 =>
  aldR 7 x6 x7 h fun x8 =>
  if x8 = 0 then
  (f_X35_findGone_l280b343 v0 v1 v3 ih a2 a4 h)
  else
  (ldR 34 253 v0 h fun x9 =>
  aldR 5 x9 a4 h fun x10 =>
  ldR 35 266 x10 h fun x11 =>
  ldI 36 273 v3 h fun x12 =>
  aldR 7 x11 x12 h fun x13 =>
  ldR 60 444 x13 h fun x14 =>
  if kc h v0 = 34 then
  bd (f_X35_meetAll v0 v3 x14 a2 h) (fun x15 h16 =>
  f_X35_findGone_l280b343 v0 v1 v3 ih x15 a4 h16)
  else none)))
noncomputable def f_X35_findGone_l280 (v0 : Nat) (v1 : Int32) (v3 : Nat) (n : Nat) : Int32 → Int32 → HP → Rs Int32 := @Nat.rec (fun _ => Int32 → Int32 → HP → Rs Int32) (fun _ _ _ => none) (fun _ ih => b_X35_findGone_l280 v0 v1 v3 ih) n
noncomputable def b_X35_findGone_l202 (v0 : Nat) (v1 : Int32) (ih : Int32 → HP → Rs Unit) (a2 : Int32) (h : HP) : Rs Unit :=
  if a2 ≤ 0 then
  (rok () h)
  else
  (lt3 (a2 + (-1)) fun x1 =>
  ldR 34 249 v0 h fun x2 =>
  ldR 34 261 v0 h fun x3 =>
  aldI 0 x3 x1 h fun x4 =>
  aldR 8 x2 x4 h fun x5 =>
  if kc h x5 = 36 then
  bd (f_X37_hasParts x5 h) (fun x6 h7 =>
  if x6 = 0 then
  (ih x1 h7)
  else
  (ldR 36 283 x5 h7 fun x8 =>
  bd (f_X35_findGone_l237 v0 v1 x5 NN x1 x8 h7) (fun x9 h10 => bd (f_X35_findGone_l280 v0 v1 x5 NN x9 (0 : Int32) h10) (fun x11 h12 => ih x11 h12))))
  else none)
noncomputable def f_X35_findGone_l202 (v0 : Nat) (v1 : Int32) (n : Nat) : Int32 → HP → Rs Unit := @Nat.rec (fun _ => Int32 → HP → Rs Unit) (fun _ _ => none) (fun _ ih => b_X35_findGone_l202 v0 v1 ih) n
noncomputable def f_X35_findGone_l357b378 (v0 : Nat) (ih : Int32 → Int32 → HP → Rs Int32) (a3 : Int32) (a4 : Int32) (h : HP) : Rs Int32 :=
  lt3 (a4 + 1) fun x1 =>
  ih a3 x1 h
noncomputable def b_X35_findGone_l357 (v0 : Nat) (ih : Int32 → Int32 → HP → Rs Int32) (a3 : Int32) (a4 : Int32) (h : HP) : Rs Int32 :=
  ldI 34 250 v0 h fun x1 =>
  if x1 ≤ a4 then
  (rok a3 h)
  else
  (if kc h v0 = 34 then
  bd (f_X35_goes v0 a4 h) (fun x2 h3 =>
  if x2 = 0 then
  (f_X35_findGone_l357b378 v0 ih a3 a4 h3)
  else
  (lt3 (a3 + 1) fun x4 =>
  f_X35_findGone_l357b378 v0 ih x4 a4 h3))
  else none)
noncomputable def f_X35_findGone_l357 (v0 : Nat) (n : Nat) : Int32 → Int32 → HP → Rs Int32 := @Nat.rec (fun _ => Int32 → Int32 → HP → Rs Int32) (fun _ _ _ => none) (fun _ ih => b_X35_findGone_l357 v0 ih) n
noncomputable def f_X35_findGone (a0 : Nat) (a1 : Int32) (h : HP) : Rs Int32 :=
  bd (f_X35_findGone_l2 a0 a1 NN (0 : Int32) h) (fun x1 h2 => bd (f_X35_findGone_l26 a0 a1 NN (0 : Int32) a1 h2) (fun x3 h4 => bd (f_X35_findGone_l76 a0 a1 NN x3 (0 : Int32) h4) (fun x5 h6 => bd (f_X35_findGone_l202 a0 a1 NN x5 h6) (fun x7 h8 => bd (f_X35_findGone_l357 a0 NN (0 : Int32) (1 : Int32) h8) (fun x9 h10 => rok x9 h10)))))
noncomputable def f_X35_sweep_l2b28 (v0 : Nat) (v1 : Int32) (ih : Int32 → HP → Rs Unit) (a2 : Int32) (h : HP) : Rs Unit :=
  lt3 (a2 + 1) fun x1 =>
  ih x1 h
noncomputable def b_X35_sweep_l2 (v0 : Nat) (v1 : Int32) (ih : Int32 → HP → Rs Unit) (a2 : Int32) (h : HP) : Rs Unit :=
  ldI 34 250 v0 h fun x1 =>
  if x1 ≤ a2 then
  (rok () h)
  else
  (if kc h v0 = 34 then
  bd (f_X35_goes v0 a2 h) (fun x2 h3 =>
  if x2 = 0 then
  (f_X35_sweep_l2b28 v0 v1 ih a2 h3)
  else
  (ldR 34 249 v0 h3 fun x4 =>
  aldR 8 x4 a2 h3 fun x5 =>
  stI 36 279 x5 (1 : Int32) h3 fun h6 =>
  f_X35_sweep_l2b28 v0 v1 ih a2 h6))
  else none)
noncomputable def f_X35_sweep_l2 (v0 : Nat) (v1 : Int32) (n : Nat) : Int32 → HP → Rs Unit := @Nat.rec (fun _ => Int32 → HP → Rs Unit) (fun _ _ => none) (fun _ ih => b_X35_sweep_l2 v0 v1 ih) n
noncomputable def f_X35_sweep (a0 : Nat) (a1 : Int32) (h : HP) : Rs Unit :=
  bd (f_X35_sweep_l2 a0 a1 NN (1 : Int32) h) (fun x1 h2 => stI 34 255 a0 a1 h2 fun h3 =>
  rok () h3)
noncomputable def f_X42_sweep_l67b109 (v0 : Nat) (v3 : Int32) (ih : Int32 → Int32 → HP → Rs Int32) (a4 : Int32) (a5 : Int32) (h : HP) : Rs Int32 :=
  lt3 (a5 + 1) fun x1 =>
  ih a4 x1 h
noncomputable def b_X42_sweep_l67 (v0 : Nat) (v3 : Int32) (ih : Int32 → Int32 → HP → Rs Int32) (a4 : Int32) (a5 : Int32) (h : HP) : Rs Int32 :=
  ldR 41 320 v0 h fun x1 =>
  ldI 34 250 x1 h fun x2 =>
  if x2 ≤ a5 then
  (rok a4 h)
  else
  (if a4 = 0 then
  (rok a4 h)
  else
  (ldR 41 320 v0 h fun x3 =>
  if kc h x3 = 34 then
  bd (f_X35_goes x3 a5 h) (fun x4 h5 =>
  if x4 = 0 then
  (f_X42_sweep_l67b109 v0 v3 ih a4 a5 h5)
  else
  (ldR 41 321 v0 h5 fun x6 =>
  if kc h5 x6 = 39 then
  bd (f_X40_number x6 (Int32.toInt64 a5) (4 : Int32) h5) (fun x7 h8 =>
  f_X42_sweep_l67b109 v0 v3 ih x7 a5 h8)
  else none))
  else none))
noncomputable def f_X42_sweep_l67 (v0 : Nat) (v3 : Int32) (n : Nat) : Int32 → Int32 → HP → Rs Int32 := @Nat.rec (fun _ => Int32 → Int32 → HP → Rs Int32) (fun _ _ _ => none) (fun _ ih => b_X42_sweep_l67 v0 v3 ih) n
noncomputable def f_X42_sweep_b62 (a0 : Nat) (a3 : Int32) (s0 : Int32) (h : HP) : Rs Int32 :=
  bd (f_X42_sweep_l67 a0 a3 NN s0 (1 : Int32) h) (fun x1 h2 => if kc h2 a0 = 41 then
  bd (f_X42_finish a0 a3 x1 h2) (fun x3 h4 =>
  rokZ x3 h4)
  else none)
noncomputable def f_X42_sweep_b61 (a0 : Nat) (a3 : Int32) (h : HP) : Rs Int32 :=
  f_X42_sweep_b62  a0 a3 (0 : Int32) h
noncomputable def f_X42_sweep (a0 : Nat) (a1 : Int32) (a2 : Int32) (h : HP) : Rs Int32 :=
  ldR 41 321 a0 h fun x1 =>
  ldI 39 308 x1 h fun x2 =>
  ldR 41 321 a0 h fun x3 =>
  if kc h x3 = 39 then
  bd (f_X40_number x3 (0 : Int64) (4 : Int32) h) (fun x4 h5 =>
  if x4 = 0 then
  (f_X42_sweep_b61  a0 x2 h5)
  else
  (ldR 41 321 a0 h5 fun x6 =>
  if kc h5 x6 = 39 then
  bd (f_X40_put x6 (2 : Int32) h5) (fun x7 h8 =>
  if x7 = 0 then
  (f_X42_sweep_b61  a0 x2 h8)
  else
  (ldR 41 321 a0 h8 fun x9 =>
  if kc h8 x9 = 39 then
  bd (f_X40_number x9 (Int32.toInt64 a1) (4 : Int32) h8) (fun x10 h11 =>
  if x10 = 0 then
  (f_X42_sweep_b61  a0 x2 h11)
  else
  (ldR 41 321 a0 h11 fun x12 =>
  if kc h11 x12 = 39 then
  bd (f_X40_number x12 (Int32.toInt64 a2) (4 : Int32) h11) (fun x13 h14 =>
  if x13 = 0 then
  (f_X42_sweep_b61  a0 x2 h14)
  else
  (f_X42_sweep_b62  a0 x2 (1 : Int32) h14))
  else none))
  else none))
  else none))
  else none
noncomputable def f_X0_sweep_l74b120 (v0 : Nat) (v1 : Int32) (ih : Int32 → Int32 → HP → Rs Int32) (a3 : Int32) (s0 : Int32) (h : HP) : Rs Int32 :=
  lt3 (a3 + 1) fun x1 =>
  ih s0 x1 h
noncomputable def f_X0_sweep_l74b115 (v0 : Nat) (v1 : Int32) (ih : Int32 → Int32 → HP → Rs Int32) (a3 : Int32) (h : HP) : Rs Int32 :=
  f_X0_sweep_l74b120 v0 v1 ih a3 (1 : Int32) h
noncomputable def f_X0_sweep_l74b119 (v0 : Nat) (v1 : Int32) (ih : Int32 → Int32 → HP → Rs Int32) (a3 : Int32) (h : HP) : Rs Int32 :=
  f_X0_sweep_l74b120 v0 v1 ih a3 (0 : Int32) h
noncomputable def b_X0_sweep_l74 (v0 : Nat) (v1 : Int32) (ih : Int32 → Int32 → HP → Rs Int32) (a2 : Int32) (a3 : Int32) (h : HP) : Rs Int32 :=
  if (8 : Int32) ≤ a3 then
  (rok a2 h)
  else
  (if a2 = 0 then
  (ldR 1 7 v0 h fun x1 =>
  ldR 34 253 x1 h fun x2 =>
  aldR 5 x2 a3 h fun x3 =>
  ldI 35 264 x3 h fun x4 =>
  if x4 ≤ 0 then
  (f_X0_sweep_l74b119 v0 v1 ih a3 h)
  else
  (ldR 1 7 v0 h fun x5 =>
  ldR 34 253 x5 h fun x6 =>
  aldR 5 x6 a3 h fun x7 =>
  ldI 35 265 x7 h fun x8 =>
  if v1 ≤ x8 then
  (f_X0_sweep_l74b119 v0 v1 ih a3 h)
  else
  (f_X0_sweep_l74b115 v0 v1 ih a3 h)))
  else
  (f_X0_sweep_l74b115 v0 v1 ih a3 h))
noncomputable def f_X0_sweep_l74 (v0 : Nat) (v1 : Int32) (n : Nat) : Int32 → Int32 → HP → Rs Int32 := @Nat.rec (fun _ => Int32 → Int32 → HP → Rs Int32) (fun _ _ _ => none) (fun _ ih => b_X0_sweep_l74 v0 v1 ih) n
noncomputable def f_X0_sweep_b71 (a0 : Nat) (a1 : Int32) (s0 : Int32) (h : HP) : Rs Int32 :=
  bd (f_X0_sweep_l74 a0 a1 NN s0 (0 : Int32) h) (fun x1 h2 => if x1 = 0 then
  (ldR 1 7 a0 h2 fun x3 =>
  if kc h2 x3 = 34 then
  bd (f_X35_findGone x3 a1 h2) (fun x4 h5 =>
  ldR 1 11 a0 h5 fun x6 =>
  if kc h5 x6 = 41 then
  bd (f_X42_sweep x6 a1 x4 h5) (fun x7 h8 =>
  if x7 = 0 then
  (rok (-12 : Int32) h8)
  else
  (ldR 1 7 a0 h8 fun x9 =>
  if kc h8 x9 = 34 then
  bd (f_X35_sweep x9 a1 h8) (fun _ h10 =>
  rok x4 h10)
  else none))
  else none)
  else none)
  else
  (rok (-1 : Int32) h2))
noncomputable def f_X0_sweep_b70 (a0 : Nat) (a1 : Int32) (h : HP) : Rs Int32 :=
  f_X0_sweep_b71  a0 a1 (0 : Int32) h
noncomputable def f_X0_sweep (a0 : Nat) (a1 : Int32) (h : HP) : Rs Int32 :=
  if kc h a0 = 1 then
  bd (f_X0_isShut a0 h) (fun x1 h2 =>
  if x1 = 0 then
  (ldR 1 7 a0 h2 fun x3 =>
  ldI 34 255 x3 h2 fun x4 =>
  if a1 < x4 then
  (rok (-14 : Int32) h2)
  else
  (ldR 1 7 a0 h2 fun x5 =>
  ldI 34 256 x5 h2 fun x6 =>
  if a1 ≤ x6 then
  (ldR 1 7 a0 h2 fun x7 =>
  ldR 34 259 x7 h2 fun x8 =>
  if x8 = 0 then
  (ldR 1 7 a0 h2 fun x9 =>
  ldI 34 260 x9 h2 fun x10 =>
  if x10 < 0 then
  (f_X0_sweep_b70  a0 a1 h2)
  else
  (ldR 1 7 a0 h2 fun x11 =>
  ldI 34 260 x11 h2 fun x12 =>
  if a1 ≤ x12 then
  (f_X0_sweep_b70  a0 a1 h2)
  else
  (f_X0_sweep_b71  a0 a1 (1 : Int32) h2)))
  else
  (f_X0_sweep_b70  a0 a1 h2))
  else
  (rok (-14 : Int32) h2)))
  else
  (rok (-13 : Int32) h2))
  else none
noncomputable def b_X0_text_l31 (v0 : Nat) (v1 : Int32) (ih : Int32 → HP → Rs (Unit ⊕ Unit)) (a2 : Int32) (h : HP) : Rs (Unit ⊕ Unit) :=
  if v1 ≤ a2 then
  (rok (Sum.inr ()) h)
  else
  (ldR 1 1 v0 h fun x1 =>
  aldI 1 x1 a2 h fun x2 =>
  if x2 < (32 : Int32) then
  (rok (Sum.inl ()) h)
  else
  (ldR 1 1 v0 h fun x3 =>
  aldI 1 x3 a2 h fun x4 =>
  if x4 ≤ (126 : Int32) then
  (lt3 (a2 + 1) fun x5 =>
  ih x5 h)
  else
  (rok (Sum.inl ()) h)))
noncomputable def f_X0_text_l31 (v0 : Nat) (v1 : Int32) (n : Nat) : Int32 → HP → Rs (Unit ⊕ Unit) := @Nat.rec (fun _ => Int32 → HP → Rs (Unit ⊕ Unit)) (fun _ _ => none) (fun _ ih => b_X0_text_l31 v0 v1 ih) n
noncomputable def f_X0_text_b95 (a0 : Nat) (a2 : Nat) (h : HP) : Rs Int32 :=
  ldR 1 7 a0 h fun x1 =>
  if kc h x1 = 34 then
  bd (f_X35_text x1 a2 h) (fun x2 h3 =>
  ldI 36 273 x2 h3 fun x4 =>
  rok x4 h3)
  else none
noncomputable def f_X0_text (a0 : Nat) (h : HP) : Rs Int32 :=
  if kc h a0 = 1 then
  bd (f_X0_isShut a0 h) (fun x1 h2 =>
  if x1 = 0 then
  (ldI 1 2 a0 h2 fun x3 =>
  stI 1 2 a0 (0 : Int32) h2 fun h4 =>
  if x3 ≤ (1000 : Int32) then
  (bd (f_X0_text_l31 a0 x3 NN (0 : Int32) h4) (Sum.elim (fun x5 => fun h6 => rok (-1 : Int32) h6) (fun x7 => fun h8 => if kc h8 a0 = 1 then
  bd (f_X0_textOf a0 x3 h8) (fun x9 h10 =>
  ldR 1 7 a0 h10 fun x11 =>
  if kc h10 x11 = 34 then
  bd (f_X35_hasText x11 x9 h10) (fun x12 h13 =>
  if x12 = 0 then
  (ldR 1 7 a0 h13 fun x14 =>
  if kc h13 x14 = 34 then
  bd (f_X35_hasRoom x14 (1 : Int32) (0 : Int32) h13) (fun x15 h16 =>
  if x15 = 0 then
  (rok (-12 : Int32) h16)
  else
  (f_X0_text_b95  a0 x9 h16))
  else none)
  else
  (f_X0_text_b95  a0 x9 h13))
  else none)
  else none)))
  else
  (rok (-1 : Int32) h4))
  else
  (rok (-13 : Int32) h2))
  else none
noncomputable def f_X35_use (a0 : Nat) (a1 : Nat) (h : HP) : Rs Unit :=
  stR 34 259 a0 a1 h fun h1 =>
  stI 34 260 a0 (-1 : Int32) h1 fun h2 =>
  rok () h2
noncomputable def f_X0_use_b19 (a0 : Nat) (s0 : Nat) (h : HP) : Rs Int32 :=
  if s0 = 0 then
  (rok (0 : Int32) h)
  else
  (ldR 1 7 a0 h fun x1 =>
  if kc h x1 = 34 then
  bd (f_X35_use x1 s0 h) (fun _ h2 =>
  rok (1 : Int32) h2)
  else none)
noncomputable def f_X0_use (a0 : Nat) (a1 : Int32) (h : HP) : Rs Int32 :=
  if kc h a0 = 1 then
  bd (f_X0_isShut a0 h) (fun x1 h2 =>
  if x1 = 0 then
  (ldR 1 7 a0 h2 fun x3 =>
  if kc h2 x3 = 34 then
  bd (f_X35_find x3 a1 h2) (fun x4 h5 =>
  f_X0_use_b19  a0 x4 h5)
  else none)
  else
  (f_X0_use_b19  a0 0 h2))
  else none
noncomputable def f_X35_view (a0 : Nat) (a1 : Int32) (h : HP) : Rs Unit :=
  stR 34 259 a0 0 h fun h1 =>
  stI 34 260 a0 a1 h1 fun h2 =>
  rok () h2
noncomputable def f_X0_view (a0 : Nat) (a1 : Int32) (h : HP) : Rs Int32 :=
  if kc h a0 = 1 then
  bd (f_X0_isShut a0 h) (fun x1 h2 =>
  if x1 = 0 then
  (ldR 1 7 a0 h2 fun x3 =>
  ldI 34 255 x3 h2 fun x4 =>
  if a1 < x4 then
  (rok (0 : Int32) h2)
  else
  (ldR 1 7 a0 h2 fun x5 =>
  ldI 34 256 x5 h2 fun x6 =>
  if a1 ≤ x6 then
  (ldR 1 7 a0 h2 fun x7 =>
  if kc h2 x7 = 34 then
  bd (f_X35_view x7 a1 h2) (fun _ h8 =>
  rok (1 : Int32) h8)
  else none)
  else
  (rok (0 : Int32) h2)))
  else
  (rok (0 : Int32) h2))
  else none
noncomputable def b_X39_find_l2 (v0 : Nat) (v1 : Nat) (ih : Int32 → HP → Rs Int32) (a2 : Int32) (h : HP) : Rs Int32 :=
  lsSize v0 h fun x1 =>
  if x1 ≤ a2 then
  (rok a2 h)
  else
  (lsGet v0 a2 h fun x2 =>
  eqR h x2 v1
  (rok a2 h)
  (lt3 (a2 + 1) fun x3 =>
  ih x3 h))
noncomputable def f_X39_find_l2 (v0 : Nat) (v1 : Nat) (n : Nat) : Int32 → HP → Rs Int32 := @Nat.rec (fun _ => Int32 → HP → Rs Int32) (fun _ _ => none) (fun _ ih => b_X39_find_l2 v0 v1 ih) n
noncomputable def f_X39_find (a0 : Nat) (a1 : Nat) (h : HP) : Rs Int32 :=
  bd (f_X39_find_l2 a0 a1 NN (0 : Int32) h) (fun x1 h2 => rok x1 h2)
noncomputable def f_X39_meet (a0 : Nat) (a1 : Int32) (h : HP) : Rs Unit :=
  if a1 = 0 then
  (rok () h)
  else
  (ldR 38 296 a0 h fun x1 =>
  aldI 0 x1 a1 h fun x2 =>
  if x2 ≤ 0 then
  (ldR 38 298 a0 h fun x3 =>
  ldI 38 299 a0 h fun x4 =>
  astI 0 x3 x4 a1 h fun h5 =>
  ldI 38 299 a0 h5 fun x6 =>
  stI 38 299 a0 (x6 + (1 : Int32)) h5 fun h7 =>
  ldR 38 296 a0 h7 fun x8 =>
  ldI 38 299 a0 h7 fun x9 =>
  astI 0 x8 a1 x9 h7 fun h10 =>
  rok () h10)
  else
  (rok () h))
noncomputable def b_X39_walk_l2 (v0 : Nat) (v1 : Int32) (ih : Int32 → HP → Rs Unit) (a2 : Int32) (h : HP) : Rs Unit :=
  if (4000 : Int32) < a2 then
  (rok () h)
  else
  (ldR 38 296 v0 h fun x1 =>
  astI 0 x1 a2 (0 : Int32) h fun h2 =>
  lt3 (a2 + 1) fun x3 =>
  ih x3 h2)
noncomputable def f_X39_walk_l2 (v0 : Nat) (v1 : Int32) (n : Nat) : Int32 → HP → Rs Unit := @Nat.rec (fun _ => Int32 → HP → Rs Unit) (fun _ _ => none) (fun _ ih => b_X39_walk_l2 v0 v1 ih) n
noncomputable def f_X39_walk_l60b106 (v0 : Nat) (v2 : Int32) (v3 : Nat) (ih : Int32 → HP → Rs Unit) (a4 : Int32) (h : HP) : Rs Unit :=
  lt3 (a4 + 1) fun x1 =>
  ih x1 h
noncomputable def b_X39_walk_l60 (v0 : Nat) (v2 : Int32) (v3 : Nat) (ih : Int32 → HP → Rs Unit) (a4 : Int32) (h : HP) : Rs Unit :=
  if kc h v3 = 36 then
  bd (f_X37_hasParts v3 h) (fun x1 h2 =>
  if x1 = 0 then
  (rok () h2)
  else
  (ldI 36 275 v3 h2 fun x3 =>
  if x3 ≤ a4 then
  (rok () h2)
  else
  (if kc h2 v3 = 36 then
  bd (f_X37_kindOf v3 a4 h2) (fun x4 h5 =>
  if kc h5 x4 = 4 then
  bd (f_X3_isPlain x4 h5) (fun x6 h7 =>
  if x6 = 0 then
  (ldR 38 293 v0 h7 fun x8 =>
  ldI 36 273 v3 h7 fun x9 =>
  if kc h7 x8 = 34 then
  bd (f_X35_peek x8 x9 a4 h7) (fun x10 h11 =>
  if kc h11 v0 = 38 then
  bd (f_X39_meet v0 (Int64.toInt32 x10) h11) (fun _ h12 =>
  f_X39_walk_l60b106 v0 v2 v3 ih a4 h12)
  else none)
  else none)
  else
  (f_X39_walk_l60b106 v0 v2 v3 ih a4 h7))
  else none)
  else none)))
  else none
noncomputable def f_X39_walk_l60 (v0 : Nat) (v2 : Int32) (v3 : Nat) (n : Nat) : Int32 → HP → Rs Unit := @Nat.rec (fun _ => Int32 → HP → Rs Unit) (fun _ _ => none) (fun _ ih => b_X39_walk_l60 v0 v2 v3 ih) n
noncomputable def f_X39_walk_l34b112 (v0 : Nat) (ih : Int32 → HP → Rs Unit) (a2 : Int32) (h : HP) : Rs Unit :=
  lt3 (a2 + 1) fun x1 =>
  ih x1 h
noncomputable def b_X39_walk_l34 (v0 : Nat) (ih : Int32 → HP → Rs Unit) (a2 : Int32) (h : HP) : Rs Unit :=
  ldI 38 299 v0 h fun x1 =>
  if x1 ≤ a2 then
  (rok () h)
  else
  (ldR 38 293 v0 h fun x2 =>
  ldR 34 249 x2 h fun x3 =>
  ldR 38 298 v0 h fun x4 =>
  aldI 0 x4 a2 h fun x5 =>
  aldR 8 x3 x5 h fun x6 =>
  bd (f_X39_walk_l60 v0 a2 x6 NN (0 : Int32) h) (fun x7 h8 => f_X39_walk_l34b112 v0 ih a2 h8))
noncomputable def f_X39_walk_l34 (v0 : Nat) (n : Nat) : Int32 → HP → Rs Unit := @Nat.rec (fun _ => Int32 → HP → Rs Unit) (fun _ _ => none) (fun _ ih => b_X39_walk_l34 v0 ih) n
noncomputable def f_X39_walk (a0 : Nat) (a1 : Int32) (h : HP) : Rs Unit :=
  bd (f_X39_walk_l2 a0 a1 NN (0 : Int32) h) (fun x1 h2 => stI 38 299 a0 (0 : Int32) h2 fun h3 =>
  if kc h3 a0 = 38 then
  bd (f_X39_meet a0 a1 h3) (fun _ h4 =>
  bd (f_X39_walk_l34 a0 NN (0 : Int32) h4) (fun x5 h6 => rok () h6))
  else none)
noncomputable def f_X40_small_l4b34 (v0 : Nat) (ih : Int32 → Int32 → HP → Rs (Int32 × Int32)) (a2 : Int32) (s0 : Int32) (h : HP) : Rs (Int32 × Int32) :=
  lt3 (a2 >>> ((7 : Int32) &&& 31)) fun x1 =>
  ih x1 s0 h
noncomputable def f_X40_small_l4b33 (v0 : Nat) (ih : Int32 → Int32 → HP → Rs (Int32 × Int32)) (a2 : Int32) (h : HP) : Rs (Int32 × Int32) :=
  f_X40_small_l4b34 v0 ih a2 (0 : Int32) h
noncomputable def b_X40_small_l4 (v0 : Nat) (ih : Int32 → Int32 → HP → Rs (Int32 × Int32)) (a2 : Int32) (a3 : Int32) (h : HP) : Rs (Int32 × Int32) :=
  if a2 ≤ (127 : Int32) then
  (rok (a2, a3) h)
  else
  (if kc h v0 = 39 then
  bd (f_X40_put v0 ((a2 &&& (127 : Int32)) ||| (128 : Int32)) h) (fun x1 h2 =>
  if x1 = 0 then
  (f_X40_small_l4b33 v0 ih a2 h2)
  else
  (if a3 = 0 then
  (f_X40_small_l4b33 v0 ih a2 h2)
  else
  (f_X40_small_l4b34 v0 ih a2 (1 : Int32) h2)))
  else none)
noncomputable def f_X40_small_l4 (v0 : Nat) (n : Nat) : Int32 → Int32 → HP → Rs (Int32 × Int32) := @Nat.rec (fun _ => Int32 → Int32 → HP → Rs (Int32 × Int32)) (fun _ _ _ => none) (fun _ ih => b_X40_small_l4 v0 ih) n
noncomputable def f_X40_small (a0 : Nat) (a1 : Int32) (h : HP) : Rs Int32 :=
  bd (f_X40_small_l4 a0 NN a1 (1 : Int32) h) (fun x1 h2 => if kc h2 a0 = 39 then
  bd (f_X40_put a0 x1.1 h2) (fun x3 h4 =>
  if x3 = 0 then
  (rok (0 : Int32) h4)
  else
  (if x1.2 = 0 then
  (rok (0 : Int32) h4)
  else
  (rok (1 : Int32) h4)))
  else none)
noncomputable def f_X39_writeThing_l125b209 (v0 : Nat) (v1 : Nat) (ih : Int32 → Int32 → HP → Rs Int32) (a4 : Int32) (s0 : Int32) (h : HP) : Rs Int32 :=
  lt3 (a4 + 1) fun x1 =>
  ih s0 x1 h
noncomputable def f_X39_writeThing_l125b192 (v0 : Nat) (v1 : Nat) (ih : Int32 → Int32 → HP → Rs Int32) (a4 : Int32) (s0 : Nat) (s1 : Int32) (h : HP) : Rs Int32 :=
  if kc h s0 = 39 then
  bd (f_X40_small s0 s1 h) (fun x1 h2 =>
  f_X39_writeThing_l125b209 v0 v1 ih a4 x1 h2)
  else none
noncomputable def b_X39_writeThing_l125 (v0 : Nat) (v1 : Nat) (ih : Int32 → Int32 → HP → Rs Int32) (a3 : Int32) (a4 : Int32) (h : HP) : Rs Int32 :=
  ldI 36 275 v1 h fun x1 =>
  if x1 ≤ a4 then
  (rok a3 h)
  else
  (if a3 = 0 then
  (rok a3 h)
  else
  (ldR 38 293 v0 h fun x2 =>
  ldI 36 273 v1 h fun x3 =>
  if kc h x2 = 34 then
  bd (f_X35_peek x2 x3 a4 h) (fun x4 h5 =>
  if kc h5 v1 = 36 then
  bd (f_X37_kindOf v1 a4 h5) (fun x6 h7 =>
  bd (f_X0_width x6 h7) (fun x8 h9 =>
  if x8 = 0 then
  (ldR 38 295 v0 h9 fun x13 =>
  if (lg_cmp x4 (0 : Int64)) = 0 then
  (f_X39_writeThing_l125b192 v0 v1 ih a4 x13 (0 : Int32) h9)
  else
  (ldR 38 296 v0 h9 fun x14 =>
  aldI 0 x14 (Int64.toInt32 x4) h9 fun x15 =>
  f_X39_writeThing_l125b192 v0 v1 ih a4 x13 x15 h9))
  else
  (ldR 38 295 v0 h9 fun x10 =>
  if kc h9 x10 = 39 then
  bd (f_X40_number x10 x4 x8 h9) (fun x11 h12 =>
  f_X39_writeThing_l125b209 v0 v1 ih a4 x11 h12)
  else none)))
  else none)
  else none))
noncomputable def f_X39_writeThing_l125 (v0 : Nat) (v1 : Nat) (n : Nat) : Int32 → Int32 → HP → Rs Int32 := @Nat.rec (fun _ => Int32 → Int32 → HP → Rs Int32) (fun _ _ _ => none) (fun _ ih => b_X39_writeThing_l125 v0 v1 ih) n
noncomputable def f_X39_writeThing_b122 (a0 : Nat) (a1 : Nat) (a3 : Int32) (h : HP) : Rs Int32 :=
  bd (f_X39_writeThing_l125 a0 a1 NN a3 (0 : Int32) h) (fun x1 h2 => rokZ x1 h2)
noncomputable def f_X39_writeThing_b121 (a0 : Nat) (a1 : Nat) (s0 : Int32) (h : HP) : Rs Int32 :=
  f_X39_writeThing_b122  a0 a1 s0 h
noncomputable def f_X39_writeThing_b120 (a0 : Nat) (a1 : Nat) (h : HP) : Rs Int32 :=
  f_X39_writeThing_b121  a0 a1 (0 : Int32) h
noncomputable def f_X39_writeThing (a0 : Nat) (a1 : Nat) (a2 : Int32) (h : HP) : Rs Int32 :=
  ldR 38 295 a0 h fun x1 =>
  if kc h x1 = 39 then
  bd (f_X40_small x1 a2 h) (fun x2 h3 =>
  if kc h3 a1 = 36 then
  bd (f_X37_isConstant a1 h3) (fun x4 h5 =>
  if x4 = 0 then
  (if kc h5 a1 = 36 then
  bd (f_X37_isText a1 h5) (fun x6 h7 =>
  if x6 = 0 then
  (ldR 36 274 a1 h7 fun x8 =>
  ldR 4 32 x8 h7 fun x9 =>
  eqS x9 907
  (ldR 38 295 a0 h7 fun x10 =>
  ldI 36 275 a1 h7 fun x11 =>
  if kc h7 x10 = 39 then
  bd (f_X40_small x10 x11 h7) (fun x12 h13 =>
  if x12 = 0 then
  (f_X39_writeThing_b120  a0 a1 h13)
  else
  (if x2 = 0 then
  (f_X39_writeThing_b120  a0 a1 h13)
  else
  (f_X39_writeThing_b121  a0 a1 (1 : Int32) h13)))
  else none)
  (f_X39_writeThing_b122  a0 a1 x2 h7))
  else
  (ldR 38 295 a0 h7 fun x14 =>
  ldI 36 275 a1 h7 fun x15 =>
  if kc h7 x14 = 39 then
  bd (f_X40_small x14 x15 h7) (fun x16 h17 =>
  if x16 = 0 then
  (rok (0 : Int32) h17)
  else
  (ldR 38 295 a0 h17 fun x18 =>
  ldR 36 276 a1 h17 fun x19 =>
  if kc h17 x18 = 39 then
  bd (f_X40_letters x18 x19 h17) (fun x20 h21 =>
  if x20 = 0 then
  (rok (0 : Int32) h21)
  else
  (if x2 = 0 then
  (rok (0 : Int32) h21)
  else
  (rok (1 : Int32) h21)))
  else none))
  else none))
  else none)
  else
  (ldR 38 295 a0 h5 fun x22 =>
  ldI 36 277 a1 h5 fun x23 =>
  if kc h5 x22 = 39 then
  bd (f_X40_small x22 x23 h5) (fun x24 h25 =>
  if x24 = 0 then
  (rok (0 : Int32) h25)
  else
  (if x2 = 0 then
  (rok (0 : Int32) h25)
  else
  (rok (1 : Int32) h25)))
  else none))
  else none)
  else none
noncomputable def f_X40_check (a0 : Nat) (a1 : Int32) (h : HP) : Rs Int32 :=
  ldR 39 307 a0 h fun x1 =>
  bd (f_X40_checkOf x1 a1 h) (fun x2 h3 =>
  rok x2 h3)
noncomputable def f_X39_write_l14b67 (v0 : Nat) (ih : Int32 → HP → Rs Unit) (a2 : Int32) (h : HP) : Rs Unit :=
  lt3 (a2 + 1) fun x1 =>
  ih x1 h
noncomputable def b_X39_write_l14 (v0 : Nat) (ih : Int32 → HP → Rs Unit) (a2 : Int32) (h : HP) : Rs Unit :=
  ldI 38 299 v0 h fun x1 =>
  if x1 ≤ a2 then
  (rok () h)
  else
  (ldR 38 293 v0 h fun x2 =>
  ldR 34 249 x2 h fun x3 =>
  ldR 38 298 v0 h fun x4 =>
  aldI 0 x4 a2 h fun x5 =>
  aldR 8 x3 x5 h fun x6 =>
  ldR 36 274 x6 h fun x7 =>
  ldR 38 300 v0 h fun x8 =>
  bd (f_X39_find x8 x7 h) (fun x9 h10 =>
  ldR 38 300 v0 h10 fun x11 =>
  lsSize x11 h10 fun x12 =>
  if x9 = x12 then
  (ldR 38 300 v0 h10 fun x13 =>
  lsAdd x13 x7 h10 fun h14 =>
  f_X39_write_l14b67 v0 ih a2 h14)
  else
  (f_X39_write_l14b67 v0 ih a2 h10)))
noncomputable def f_X39_write_l14 (v0 : Nat) (n : Nat) : Int32 → HP → Rs Unit := @Nat.rec (fun _ => Int32 → HP → Rs Unit) (fun _ _ => none) (fun _ ih => b_X39_write_l14 v0 ih) n
noncomputable def f_X39_write_l152b215 (v0 : Nat) (ih : Int32 → Int32 → HP → Rs Int32) (a3 : Int32) (s0 : Int32) (h : HP) : Rs Int32 :=
  lt3 (a3 + 1) fun x1 =>
  ih s0 x1 h
noncomputable def f_X39_write_l152b214 (v0 : Nat) (ih : Int32 → Int32 → HP → Rs Int32) (a3 : Int32) (h : HP) : Rs Int32 :=
  f_X39_write_l152b215 v0 ih a3 (0 : Int32) h
noncomputable def b_X39_write_l152 (v0 : Nat) (ih : Int32 → Int32 → HP → Rs Int32) (a2 : Int32) (a3 : Int32) (h : HP) : Rs Int32 :=
  ldR 38 300 v0 h fun x1 =>
  lsSize x1 h fun x2 =>
  if x2 ≤ a3 then
  (rok a2 h)
  else
  (ldR 38 300 v0 h fun x3 =>
  lsGet x3 a3 h fun x4 =>
  castR [4] x4 h (
  ldR 4 36 x4 h fun x5 =>
  ldR 38 295 v0 h fun x6 =>
  txLen x5 h fun x7 =>
  if kc h x6 = 39 then
  bd (f_X40_put x6 x7 h) (fun x8 h9 =>
  if x8 = 0 then
  (f_X39_write_l152b214 v0 ih a3 h9)
  else
  (ldR 38 295 v0 h9 fun x10 =>
  if kc h9 x10 = 39 then
  bd (f_X40_letters x10 x5 h9) (fun x11 h12 =>
  if x11 = 0 then
  (f_X39_write_l152b214 v0 ih a3 h12)
  else
  (if a2 = 0 then
  (f_X39_write_l152b214 v0 ih a3 h12)
  else
  (f_X39_write_l152b215 v0 ih a3 (1 : Int32) h12)))
  else none))
  else none))
noncomputable def f_X39_write_l152 (v0 : Nat) (n : Nat) : Int32 → Int32 → HP → Rs Int32 := @Nat.rec (fun _ => Int32 → Int32 → HP → Rs Int32) (fun _ _ _ => none) (fun _ ih => b_X39_write_l152 v0 ih) n
noncomputable def b_X39_write_l248 (v0 : Nat) (ih : Int32 → Int32 → HP → Rs Int32) (a2 : Int32) (a3 : Int32) (h : HP) : Rs Int32 :=
  ldI 38 299 v0 h fun x1 =>
  if x1 ≤ a3 then
  (rok a2 h)
  else
  (if a2 = 0 then
  (rok a2 h)
  else
  (ldR 38 293 v0 h fun x2 =>
  ldR 34 249 x2 h fun x3 =>
  ldR 38 298 v0 h fun x4 =>
  aldI 0 x4 a3 h fun x5 =>
  aldR 8 x3 x5 h fun x6 =>
  ldR 38 300 v0 h fun x7 =>
  ldR 38 293 v0 h fun x8 =>
  ldR 34 249 x8 h fun x9 =>
  ldR 38 298 v0 h fun x10 =>
  aldI 0 x10 a3 h fun x11 =>
  aldR 8 x9 x11 h fun x12 =>
  ldR 36 274 x12 h fun x13 =>
  bd (f_X39_find x7 x13 h) (fun x14 h15 =>
  if kc h15 v0 = 38 then
  bd (f_X39_writeThing v0 x6 x14 h15) (fun x16 h17 =>
  lt3 (a3 + 1) fun x18 =>
  ih x16 x18 h17)
  else none)))
noncomputable def f_X39_write_l248 (v0 : Nat) (n : Nat) : Int32 → Int32 → HP → Rs Int32 := @Nat.rec (fun _ => Int32 → Int32 → HP → Rs Int32) (fun _ _ _ => none) (fun _ ih => b_X39_write_l248 v0 ih) n
noncomputable def b_X39_write_l311 (v0 : Nat) (v2 : Int32) (ih : Int32 → HP → Rs Unit) (a3 : Int32) (h : HP) : Rs Unit :=
  ldI 38 299 v0 h fun x1 =>
  if x1 ≤ a3 then
  (rok () h)
  else
  (ldR 38 293 v0 h fun x2 =>
  ldR 38 298 v0 h fun x3 =>
  aldI 0 x3 a3 h fun x4 =>
  if kc h x2 = 34 then
  bd (f_X35_noteRead x2 x4 h) (fun _ h5 =>
  lt3 (a3 + 1) fun x6 =>
  ih x6 h5)
  else none)
noncomputable def f_X39_write_l311 (v0 : Nat) (v2 : Int32) (n : Nat) : Int32 → HP → Rs Unit := @Nat.rec (fun _ => Int32 → HP → Rs Unit) (fun _ _ => none) (fun _ ih => b_X39_write_l311 v0 v2 ih) n
noncomputable def f_X39_write_b309 (a0 : Nat) (a2 : Int32) (h : HP) : Rs Int32 :=
  bd (f_X39_write_l311 a0 a2 NN (0 : Int32) h) (fun x1 h2 => ldR 38 295 a0 h2 fun x3 =>
  ldR 38 295 a0 h2 fun x4 =>
  ldI 39 308 x4 h2 fun x5 =>
  if kc h2 x3 = 39 then
  bd (f_X40_check x3 x5 h2) (fun x6 h7 =>
  if a2 = 0 then
  (rok (-1 : Int32) h7)
  else
  (ldR 38 295 a0 h7 fun x8 =>
  if kc h7 x8 = 39 then
  bd (f_X40_number x8 (Int32.toInt64 x6) (4 : Int32) h7) (fun x9 h10 =>
  if x9 = 0 then
  (rok (-1 : Int32) h10)
  else
  (ldR 38 294 a0 h10 fun x11 =>
  ldR 38 295 a0 h10 fun x12 =>
  stR 38 294 a0 x12 h10 fun h13 =>
  stR 38 295 a0 x11 h13 fun h14 =>
  ldR 38 294 a0 h14 fun x15 =>
  ldI 39 308 x15 h14 fun x16 =>
  rok x16 h14))
  else none))
  else none)
noncomputable def f_X39_write_b245 (a0 : Nat) (s0 : Int32) (h : HP) : Rs Int32 :=
  bd (f_X39_write_l248 a0 NN s0 (0 : Int32) h) (fun x1 h2 => f_X39_write_b309  a0 x1 h2)
noncomputable def f_X39_write_b244 (a0 : Nat) (h : HP) : Rs Int32 :=
  f_X39_write_b245  a0 (0 : Int32) h
noncomputable def f_X39_write_b149 (a0 : Nat) (s0 : Int32) (h : HP) : Rs Int32 :=
  bd (f_X39_write_l152 a0 NN s0 (0 : Int32) h) (fun x1 h2 => ldR 38 295 a0 h2 fun x3 =>
  ldI 38 299 a0 h2 fun x4 =>
  if kc h2 x3 = 39 then
  bd (f_X40_small x3 x4 h2) (fun x5 h6 =>
  if x5 = 0 then
  (f_X39_write_b244  a0 h6)
  else
  (if x1 = 0 then
  (f_X39_write_b244  a0 h6)
  else
  (f_X39_write_b245  a0 (1 : Int32) h6)))
  else none)
noncomputable def f_X39_write_b148 (a0 : Nat) (h : HP) : Rs Int32 :=
  f_X39_write_b149  a0 (0 : Int32) h
noncomputable def f_X39_write_b98 (a0 : Nat) (s0 : Int32) (h : HP) : Rs Int32 :=
  ldR 38 295 a0 h fun x1 =>
  if kc h x1 = 39 then
  bd (f_X40_put x1 (79 : Int32) h) (fun x2 h3 =>
  if x2 = 0 then
  (f_X39_write_b148  a0 h3)
  else
  (ldR 38 295 a0 h3 fun x4 =>
  if kc h3 x4 = 39 then
  bd (f_X40_put x4 (71 : Int32) h3) (fun x5 h6 =>
  if x5 = 0 then
  (f_X39_write_b148  a0 h6)
  else
  (ldR 38 295 a0 h6 fun x7 =>
  ldR 38 300 a0 h6 fun x8 =>
  lsSize x8 h6 fun x9 =>
  if kc h6 x7 = 39 then
  bd (f_X40_small x7 x9 h6) (fun x10 h11 =>
  if x10 = 0 then
  (f_X39_write_b148  a0 h11)
  else
  (if s0 = 0 then
  (f_X39_write_b148  a0 h11)
  else
  (f_X39_write_b149  a0 (1 : Int32) h11)))
  else none))
  else none))
  else none
noncomputable def f_X39_write (a0 : Nat) (a1 : Int32) (h : HP) : Rs Int32 :=
  if kc h a0 = 38 then
  bd (f_X39_walk a0 a1 h) (fun _ h1 =>
  ldR 38 300 a0 h1 fun x2 =>
  lsClr x2 h1 fun h3 =>
  bd (f_X39_write_l14 a0 NN (0 : Int32) h3) (fun x4 h5 => ldR 38 295 a0 h5 fun x6 =>
  stI 39 308 x6 (0 : Int32) h5 fun h7 =>
  ldR 38 300 a0 h7 fun x8 =>
  lsSize x8 h7 fun x9 =>
  if (100 : Int32) < x9 then
  (f_X39_write_b98  a0 (0 : Int32) h7)
  else
  (f_X39_write_b98  a0 (1 : Int32) h7)))
  else none
noncomputable def f_X0_write (a0 : Nat) (a1 : Int32) (h : HP) : Rs Int32 :=
  if kc h a0 = 1 then
  bd (f_X0_refusal a0 a1 h) (fun x1 h2 =>
  if x1 ≤ 0 then
  (ldR 1 9 a0 h2 fun x3 =>
  if kc h2 x3 = 38 then
  bd (f_X39_write x3 a1 h2) (fun x4 h5 =>
  if 0 ≤ x4 then
  (rok x4 h5)
  else
  (rok (-12 : Int32) h5))
  else none)
  else
  (rok (-x1) h2))
  else none
noncomputable def f_X45_init (a0 : Nat) (a1 : Int32) (a2 : Int32) (a3 : Nat) (a4 : Int64) (h : HP) : Rs Unit :=
  if a0 = 0 then none else (
  stI 44 349 a0 a1 h fun h1 =>
  stI 44 350 a0 a2 h1 fun h2 =>
  stR 44 351 a0 a3 h2 fun h3 =>
  stJ 44 352 a0 a4 h3 fun h4 =>
  rok () h4)
noncomputable def f_X44_add (a0 : Nat) (a1 : Int32) (a2 : Int32) (a3 : Int32) (a4 : Nat) (a5 : Int64) (h : HP) : Rs Int32 :=
  ldR 43 347 a0 h fun x1 =>
  nwO 44 4 h fun p2 h3 =>
  if kc h3 p2 = 44 then
  bd (f_X45_init p2 a1 a2 a4 a5 h3) (fun _ h4 =>
  lsAdd x1 p2 h4 fun h5 =>
  rok a3 h5)
  else none
noncomputable def f_X44_code (a0 : Nat) (a1 : Int32) (h : HP) : Rs Int32 :=
  ldR 43 346 a0 h fun x1 =>
  alen x1 h fun x2 =>
  if x2 ≤ a1 then
  (rok (-1 : Int32) h)
  else
  (ldR 43 346 a0 h fun x3 =>
  aldI 1 x3 a1 h fun x4 =>
  rok (x4 &&& (255 : Int32)) h)
noncomputable def f_X44_longSignOf (a0 : Int32) (a1 : Int32) (a2 : Int32) (h : HP) : Rs Nat :=
  if a2 = (3 : Int32) then
  (rok 27 h)
  else
  (if a0 = (62 : Int32) then
  (if a1 = (62 : Int32) then
  (rok 26 h)
  else
  (rok 25 h))
  else
  (if a0 = (60 : Int32) then
  (if a1 = (60 : Int32) then
  (rok 20 h)
  else
  (rok 21 h))
  else
  (if a0 = (61 : Int32) then
  (rok 23 h)
  else
  (if a0 = (33 : Int32) then
  (rok 5 h)
  else
  (if a0 = (38 : Int32) then
  (rok 8 h)
  else
  (rok 75 h))))))
noncomputable def f_X44_none (a0 : Nat) (a1 : Int32) (h : HP) : Rs Int32 :=
  if kc h a0 = 43 then
  bd (f_X44_add a0 (9 : Int32) a1 (-1 : Int32) 1 (0 : Int64) h) (fun x1 h2 =>
  rok x1 h2)
  else none
noncomputable def f_X44_spelled_l47b81 (v0 : Nat) (v1 : Int32) (v2 : Int32) (v3 : Int32) (v4 : Nat) (ih : Int32 → Int32 → HP → Rs Int32) (a6 : Int32) (s0 : Int32) (h : HP) : Rs Int32 :=
  lt3 (a6 + 1) fun x1 =>
  ih s0 x1 h
noncomputable def b_X44_spelled_l47 (v0 : Nat) (v1 : Int32) (v2 : Int32) (v3 : Int32) (v4 : Nat) (ih : Int32 → Int32 → HP → Rs Int32) (a5 : Int32) (a6 : Int32) (h : HP) : Rs Int32 :=
  if a5 = 0 then
  (rok a5 h)
  else
  (if v2 ≤ a6 then
  (rok a5 h)
  else
  (txAt v4 (a6 - v1) h fun x1 =>
  if kc h v0 = 43 then
  bd (f_X44_code v0 a6 h) (fun x2 h3 =>
  if x1 = x2 then
  (f_X44_spelled_l47b81 v0 v1 v2 v3 v4 ih a6 (1 : Int32) h3)
  else
  (f_X44_spelled_l47b81 v0 v1 v2 v3 v4 ih a6 (0 : Int32) h3))
  else none))
noncomputable def f_X44_spelled_l47 (v0 : Nat) (v1 : Int32) (v2 : Int32) (v3 : Int32) (v4 : Nat) (n : Nat) : Int32 → Int32 → HP → Rs Int32 := @Nat.rec (fun _ => Int32 → Int32 → HP → Rs Int32) (fun _ _ _ => none) (fun _ ih => b_X44_spelled_l47 v0 v1 v2 v3 v4 ih) n
noncomputable def f_X44_spelled_l2b89 (v0 : Nat) (v1 : Int32) (v2 : Int32) (ih : Int32 → HP → Rs (Nat ⊕ Unit)) (a3 : Int32) (a4 : Nat) (a5 : Int32) (h : HP) : Rs (Nat ⊕ Unit) :=
  if a5 = 0 then
  (lt3 (a3 + 1) fun x1 =>
  ih x1 h)
  else
  (rok (Sum.inl a4) h)
noncomputable def f_X44_spelled_l2b42 (v0 : Nat) (v1 : Int32) (v2 : Int32) (ih : Int32 → HP → Rs (Nat ⊕ Unit)) (a3 : Int32) (a4 : Nat) (s0 : Int32) (h : HP) : Rs (Nat ⊕ Unit) :=
  bd (f_X44_spelled_l47 v0 v1 v2 a3 a4 NN s0 v1 h) (fun x1 h2 => f_X44_spelled_l2b89 v0 v1 v2 ih a3 a4 x1 h2)
noncomputable def b_X44_spelled_l2 (v0 : Nat) (v1 : Int32) (v2 : Int32) (ih : Int32 → HP → Rs (Nat ⊕ Unit)) (a3 : Int32) (h : HP) : Rs (Nat ⊕ Unit) :=
  ldR 43 348 v0 h fun x1 =>
  lsSize x1 h fun x2 =>
  if x2 ≤ a3 then
  (rok (Sum.inr ()) h)
  else
  (ldR 43 348 v0 h fun x3 =>
  lsGet x3 a3 h fun x4 =>
  castR [71] x4 h (
  txLen x4 h fun x5 =>
  if x5 = (v2 - v1) then
  (f_X44_spelled_l2b42 v0 v1 v2 ih a3 x4 (1 : Int32) h)
  else
  (f_X44_spelled_l2b42 v0 v1 v2 ih a3 x4 (0 : Int32) h)))
noncomputable def f_X44_spelled_l2 (v0 : Nat) (v1 : Int32) (v2 : Int32) (n : Nat) : Int32 → HP → Rs (Nat ⊕ Unit) := @Nat.rec (fun _ => Int32 → HP → Rs (Nat ⊕ Unit)) (fun _ _ => none) (fun _ ih => b_X44_spelled_l2 v0 v1 v2 ih) n
noncomputable def b_X44_spelled_l114 (v0 : Nat) (v2 : Int32) (v3 : Nat) (ih : Int32 → HP → Rs Unit) (a4 : Int32) (h : HP) : Rs Unit :=
  if v2 ≤ a4 then
  (rok () h)
  else
  (if kc h v0 = 43 then
  bd (f_X44_code v0 a4 h) (fun x1 h2 =>
  sbApC v3 (UInt32.toInt32 (Int32.toUInt32 x1 % 65536)) h2 fun h3 =>
  lt3 (a4 + 1) fun x4 =>
  ih x4 h3)
  else none)
noncomputable def f_X44_spelled_l114 (v0 : Nat) (v2 : Int32) (v3 : Nat) (n : Nat) : Int32 → HP → Rs Unit := @Nat.rec (fun _ => Int32 → HP → Rs Unit) (fun _ _ => none) (fun _ ih => b_X44_spelled_l114 v0 v2 v3 ih) n
noncomputable def f_X44_spelled (a0 : Nat) (a1 : Int32) (a2 : Int32) (h : HP) : Rs Nat :=
  bd (f_X44_spelled_l2 a0 a1 a2 NN (0 : Int32) h) (Sum.elim (fun x1 => fun h2 => rok x1 h2) (fun x3 => fun h4 => nwC 72 4 h4 fun p5 h6 =>
  sbInit p5 h6 fun h7 =>
  bd (f_X44_spelled_l114 a0 a2 p5 NN a1 h7) (fun x8 h9 => ldR 43 348 a0 h9 fun x10 =>
  sbStr p5 h9 fun x11 h12 =>
  lsAdd x10 x11 h12 fun h13 =>
  ldR 43 348 a0 h13 fun x14 =>
  ldR 43 348 a0 h13 fun x15 =>
  lsSize x15 h13 fun x16 =>
  lsGet x14 (x16 - (1 : Int32)) h13 fun x17 =>
  castR [71] x17 h13 (
  rok x17 h13))))
noncomputable def f_X4_among_l53b88 (v0 : Nat) (v1 : Nat) (v2 : Int32) (v3 : Int32) (ih : Int32 → Int32 → HP → Rs Int32) (a5 : Int32) (s0 : Int32) (h : HP) : Rs Int32 :=
  lt3 (a5 + 1) fun x1 =>
  ih s0 x1 h
noncomputable def b_X4_among_l53 (v0 : Nat) (v1 : Nat) (v2 : Int32) (v3 : Int32) (ih : Int32 → Int32 → HP → Rs Int32) (a4 : Int32) (a5 : Int32) (h : HP) : Rs Int32 :=
  if a4 = 0 then
  (rok a4 h)
  else
  (if v2 ≤ a5 then
  (rok a4 h)
  else
  (txAt v0 ((v3 + (1 : Int32)) + a5) h fun x1 =>
  txAt v1 a5 h fun x2 =>
  if x1 = x2 then
  (f_X4_among_l53b88 v0 v1 v2 v3 ih a5 (1 : Int32) h)
  else
  (f_X4_among_l53b88 v0 v1 v2 v3 ih a5 (0 : Int32) h)))
noncomputable def f_X4_among_l53 (v0 : Nat) (v1 : Nat) (v2 : Int32) (v3 : Int32) (n : Nat) : Int32 → Int32 → HP → Rs Int32 := @Nat.rec (fun _ => Int32 → Int32 → HP → Rs Int32) (fun _ _ _ => none) (fun _ ih => b_X4_among_l53 v0 v1 v2 v3 ih) n
noncomputable def f_X4_among_l7b96 (v0 : Nat) (v1 : Nat) (v2 : Int32) (ih : Int32 → HP → Rs (Unit ⊕ Unit)) (a3 : Int32) (a4 : Int32) (h : HP) : Rs (Unit ⊕ Unit) :=
  if a4 = 0 then
  (lt3 (a3 + 1) fun x1 =>
  ih x1 h)
  else
  (rok (Sum.inl ()) h)
noncomputable def f_X4_among_l7b48 (v0 : Nat) (v1 : Nat) (v2 : Int32) (ih : Int32 → HP → Rs (Unit ⊕ Unit)) (a3 : Int32) (s0 : Int32) (h : HP) : Rs (Unit ⊕ Unit) :=
  bd (f_X4_among_l53 v0 v1 v2 a3 NN s0 (0 : Int32) h) (fun x1 h2 => f_X4_among_l7b96 v0 v1 v2 ih a3 x1 h2)
noncomputable def f_X4_among_l7b47 (v0 : Nat) (v1 : Nat) (v2 : Int32) (ih : Int32 → HP → Rs (Unit ⊕ Unit)) (a3 : Int32) (h : HP) : Rs (Unit ⊕ Unit) :=
  f_X4_among_l7b48 v0 v1 v2 ih a3 (0 : Int32) h
noncomputable def b_X4_among_l7 (v0 : Nat) (v1 : Nat) (v2 : Int32) (ih : Int32 → HP → Rs (Unit ⊕ Unit)) (a3 : Int32) (h : HP) : Rs (Unit ⊕ Unit) :=
  txLen v0 h fun x1 =>
  if x1 ≤ ((a3 + v2) + (1 : Int32)) then
  (rok (Sum.inr ()) h)
  else
  (txAt v0 a3 h fun x2 =>
  if x2 = (32 : Int32) then
  (txAt v0 ((a3 + v2) + (1 : Int32)) h fun x3 =>
  if x3 = (32 : Int32) then
  (f_X4_among_l7b48 v0 v1 v2 ih a3 (1 : Int32) h)
  else
  (f_X4_among_l7b47 v0 v1 v2 ih a3 h))
  else
  (f_X4_among_l7b47 v0 v1 v2 ih a3 h))
noncomputable def f_X4_among_l7 (v0 : Nat) (v1 : Nat) (v2 : Int32) (n : Nat) : Int32 → HP → Rs (Unit ⊕ Unit) := @Nat.rec (fun _ => Int32 → HP → Rs (Unit ⊕ Unit)) (fun _ _ => none) (fun _ ih => b_X4_among_l7 v0 v1 v2 ih) n
noncomputable def f_X4_among (a0 : Nat) (a1 : Nat) (h : HP) : Rs Int32 :=
  txLen a1 h fun x1 =>
  bd (f_X4_among_l7 a0 a1 x1 NN (0 : Int32) h) (Sum.elim (fun x2 => fun h3 => rok (1 : Int32) h3) (fun x4 => fun h5 => rok (0 : Int32) h5))
noncomputable def f_X4_isDigit (a0 : Int32) (h : HP) : Rs Int32 :=
  if a0 < (48 : Int32) then
  (rok (0 : Int32) h)
  else
  (if (57 : Int32) < a0 then
  (rok (0 : Int32) h)
  else
  (rok (1 : Int32) h))
noncomputable def f_X4_isLetter_b24 (a0 : Int32) (h : HP) : Rs Int32 :=
  if a0 = (95 : Int32) then
  (rok (1 : Int32) h)
  else
  (rok (0 : Int32) h)
noncomputable def f_X4_isLetter_b12 (a0 : Int32) (h : HP) : Rs Int32 :=
  if a0 < (65 : Int32) then
  (f_X4_isLetter_b24  a0 h)
  else
  (if a0 ≤ (90 : Int32) then
  (rok (1 : Int32) h)
  else
  (f_X4_isLetter_b24  a0 h))
noncomputable def f_X4_isLetter (a0 : Int32) (h : HP) : Rs Int32 :=
  if a0 < (97 : Int32) then
  (f_X4_isLetter_b12  a0 h)
  else
  (if a0 ≤ (122 : Int32) then
  (rok (1 : Int32) h)
  else
  (f_X4_isLetter_b12  a0 h))
noncomputable def f_X44_name_l2b24 (v0 : Nat) (v1 : Int32) (ih : Int32 → HP → Rs Int32) (a2 : Int32) (h : HP) : Rs Int32 :=
  lt3 (a2 + 1) fun x1 =>
  ih x1 h
noncomputable def b_X44_name_l2 (v0 : Nat) (v1 : Int32) (ih : Int32 → HP → Rs Int32) (a2 : Int32) (h : HP) : Rs Int32 :=
  if kc h v0 = 43 then
  bd (f_X44_code v0 a2 h) (fun x1 h2 =>
  bd (f_X4_isLetter x1 h2) (fun x3 h4 =>
  if x3 = 0 then
  (if kc h4 v0 = 43 then
  bd (f_X44_code v0 a2 h4) (fun x5 h6 =>
  bd (f_X4_isDigit x5 h6) (fun x7 h8 =>
  if x7 = 0 then
  (rok a2 h8)
  else
  (f_X44_name_l2b24 v0 v1 ih a2 h8)))
  else none)
  else
  (f_X44_name_l2b24 v0 v1 ih a2 h4)))
  else none
noncomputable def f_X44_name_l2 (v0 : Nat) (v1 : Int32) (n : Nat) : Int32 → HP → Rs Int32 := @Nat.rec (fun _ => Int32 → HP → Rs Int32) (fun _ _ => none) (fun _ ih => b_X44_name_l2 v0 v1 ih) n
noncomputable def f_X44_name_b66 (a1 : Int32) (a2 : Int32) (a3 : Nat) (s0 : Nat) (s1 : Int32) (h : HP) : Rs Int32 :=
  if kc h s0 = 43 then
  bd (f_X44_add s0 s1 a1 a2 a3 (0 : Int64) h) (fun x1 h2 =>
  rok x1 h2)
  else none
noncomputable def f_X44_name (a0 : Nat) (a1 : Int32) (h : HP) : Rs Int32 :=
  bd (f_X44_name_l2 a0 a1 NN a1 h) (fun x1 h2 => if (x1 - a1) ≤ (30 : Int32) then
  (if kc h2 a0 = 43 then
  bd (f_X44_spelled a0 a1 x1 h2) (fun x3 h4 =>
  bd (f_X4_among 2 x3 h4) (fun x5 h6 =>
  if x5 = 0 then
  (f_X44_name_b66  a1 x1 x3 a0 (1 : Int32) h6)
  else
  (f_X44_name_b66  a1 x1 x3 a0 (2 : Int32) h6)))
  else none)
  else
  (if kc h2 a0 = 43 then
  bd (f_X44_none a0 a1 h2) (fun x7 h8 =>
  rok x7 h8)
  else none))
noncomputable def b_X46_exponent_l31 (ih : Int32 → Int64 → HP → Rs Int32) (a3 : Int32) (a4 : Int64) (h : HP) : Rs Int32 :=
  if 0 ≤ (lg_cmp a4 (4503599627370496 : Int64)) then
  (rok a3 h)
  else
  (lt3 (a3 + (-1)) fun x1 =>
  lt3 (a4 <<< (Int32.toInt64 (1 : Int32) &&& 63)) fun x2 =>
  ih x1 x2 h)
noncomputable def f_X46_exponent_l31 (n : Nat) : Int32 → Int64 → HP → Rs Int32 := @Nat.rec (fun _ => Int32 → Int64 → HP → Rs Int32) (fun _ _ _ => none) (fun _ ih => b_X46_exponent_l31  ih) n
noncomputable def f_X46_exponent (a0 : Int64) (h : HP) : Rs Int32 :=
  lt3 (Int64.toInt32 ((a0 >>> (Int32.toInt64 (52 : Int32) &&& 63)) &&& (2047 : Int64))) fun x1 =>
  if x1 ≤ 0 then
  (lt3 (a0 &&& (4503599627370495 : Int64)) fun x2 =>
  bd (f_X46_exponent_l31  NN (-1074 : Int32) x2 h) (fun x3 h4 => rok x3 h4))
  else
  (rok (x1 - (1075 : Int32)) h)
noncomputable def f_X46_isInfinite (a0 : Int64) (h : HP) : Rs Int32 :=
  if (lg_cmp (a0 &&& (9223372036854775807 : Int64)) (9218868437227405312 : Int64)) = 0 then
  (rok (1 : Int32) h)
  else
  (rok (0 : Int32) h)
noncomputable def f_X46_isZero (a0 : Int64) (h : HP) : Rs Int32 :=
  if (lg_cmp (a0 &&& (9223372036854775807 : Int64)) (0 : Int64)) = 0 then
  (rok (1 : Int32) h)
  else
  (rok (0 : Int32) h)
noncomputable def b_X46_rounded_l6 (v3 : Int32) (v4 : Int32) (v5 : Int32) (ih : Int64 → Int32 → HP → Rs (Int64 × Int32)) (a6 : Int64) (a8 : Int32) (h : HP) : Rs (Int64 × Int32) :=
  if 0 ≤ (lg_cmp a6 (2305843009213693952 : Int64)) then
  (rok (a6, a8) h)
  else
  (lt3 (a6 <<< (Int32.toInt64 (1 : Int32) &&& 63)) fun x1 =>
  lt3 (a8 + (-1)) fun x2 =>
  ih x1 x2 h)
noncomputable def f_X46_rounded_l6 (v3 : Int32) (v4 : Int32) (v5 : Int32) (n : Nat) : Int64 → Int32 → HP → Rs (Int64 × Int32) := @Nat.rec (fun _ => Int64 → Int32 → HP → Rs (Int64 × Int32)) (fun _ _ _ => none) (fun _ ih => b_X46_rounded_l6 v3 v4 v5 ih) n
noncomputable def f_X46_rounded_b152 (a4 : Int32) (a9 : Int32) (a12 : Int64) (h : HP) : Rs Int64 :=
  if 0 < a9 then
  (rok (((Int32.toInt64 (a9 - (1 : Int32))) <<< (Int32.toInt64 (a4 - (1 : Int32)) &&& 63)) + a12) h)
  else
  (rok a12 h)
noncomputable def f_X46_rounded_b146 (a4 : Int32) (a9 : Int32) (a12 : Int64) (h : HP) : Rs Int64 :=
  lt3 (a12 + (1 : Int64)) fun x1 =>
  f_X46_rounded_b152  a4 a9 x1 h
noncomputable def f_X46_rounded_b82 (a3 : Int32) (a4 : Int32) (a6 : Int64) (a9 : Int32) (a11 : Int32) (h : HP) : Rs Int64 :=
  if a11 ≤ (62 : Int32) then
  (lt3 (UInt64.toInt64 (Int64.toUInt64 a6 >>> (Int64.toUInt64 (Int32.toInt64 a11) &&& Int64.toUInt64 63))) fun x1 =>
  lt3 (a6 &&& (((1 : Int64) <<< (Int32.toInt64 a11 &&& 63)) - (1 : Int64))) fun x2 =>
  lt3 ((1 : Int64) <<< (Int32.toInt64 (a11 - (1 : Int32)) &&& 63)) fun x3 =>
  if 0 < (lg_cmp x2 x3) then
  (f_X46_rounded_b146  a4 a9 x1 h)
  else
  (if (lg_cmp x2 x3) = 0 then
  (if a3 = 0 then
  (if (lg_cmp (x1 &&& (1 : Int64)) (1 : Int64)) = 0 then
  (f_X46_rounded_b146  a4 a9 x1 h)
  else
  (f_X46_rounded_b152  a4 a9 x1 h))
  else
  (f_X46_rounded_b146  a4 a9 x1 h))
  else
  (f_X46_rounded_b152  a4 a9 x1 h)))
  else
  (rok (0 : Int64) h)
noncomputable def f_X46_rounded (a0 : Int64) (a2 : Int32) (a3 : Int32) (a4 : Int32) (a5 : Int32) (h : HP) : Rs Int64 :=
  bd (f_X46_rounded_l6 a3 a4 a5 NN a0 a2 h) (fun x1 h2 => lt3 ((x1.2 + (61 : Int32)) + a5) fun x3 =>
  lt3 (((2 : Int32) * a5) + (1 : Int32)) fun x4 =>
  if x3 < x4 then
  (lt3 ((62 : Int32) - a4) fun x5 =>
  if 0 < x3 then
  (f_X46_rounded_b82  a3 a4 x1.1 x3 x5 h2)
  else
  (lt3 ((x5 + (1 : Int32)) - x3) fun x6 =>
  f_X46_rounded_b82  a3 a4 x1.1 x3 x6 h2))
  else
  (rok ((Int32.toInt64 x4) <<< (Int32.toInt64 (a4 - (1 : Int32)) &&& 63)) h2))
noncomputable def f_X46_made (a0 : Int32) (a1 : Int64) (a3 : Int32) (a4 : Int32) (h : HP) : Rs Int64 :=
  bd (f_X46_rounded a1 a3 a4 (53 : Int32) (1023 : Int32) h) (fun x1 h2 =>
  if a0 = 0 then
  (rok x1 h2)
  else
  (rok (x1 ||| (-9223372036854775808 : Int64)) h2))
noncomputable def b_X46_significand_l25 (ih : Int64 → HP → Rs Int64) (a2 : Int64) (h : HP) : Rs Int64 :=
  if 0 ≤ (lg_cmp a2 (4503599627370496 : Int64)) then
  (rok a2 h)
  else
  (lt3 (a2 <<< (Int32.toInt64 (1 : Int32) &&& 63)) fun x1 =>
  ih x1 h)
noncomputable def f_X46_significand_l25 (n : Nat) : Int64 → HP → Rs Int64 := @Nat.rec (fun _ => Int64 → HP → Rs Int64) (fun _ _ => none) (fun _ ih => b_X46_significand_l25  ih) n
noncomputable def f_X46_significand (a0 : Int64) (h : HP) : Rs Int64 :=
  lt3 (a0 &&& (4503599627370495 : Int64)) fun x1 =>
  if (lg_cmp ((a0 >>> (Int32.toInt64 (52 : Int32) &&& 63)) &&& (2047 : Int64)) (0 : Int64)) ≤ 0 then
  (bd (f_X46_significand_l25  NN x1 h) (fun x2 h3 => rok x2 h3))
  else
  (rok (x1 ||| (4503599627370496 : Int64)) h)
noncomputable def f_X46_divide_l65b99 (v0 : Int64) (v2 : Int64) (v4 : Int64) (v8 : Int64) (ih : Int64 → Int64 → Int32 → HP → Rs (Int64 × Int64)) (a6 : Int64) (a10 : Int64) (a12 : Int32) (h : HP) : Rs (Int64 × Int64) :=
  lt3 (a6 <<< (Int32.toInt64 (1 : Int32) &&& 63)) fun x1 =>
  lt3 (a12 + 1) fun x2 =>
  ih x1 a10 x2 h
noncomputable def b_X46_divide_l65 (v0 : Int64) (v2 : Int64) (v4 : Int64) (v8 : Int64) (ih : Int64 → Int64 → Int32 → HP → Rs (Int64 × Int64)) (a6 : Int64) (a10 : Int64) (a12 : Int32) (h : HP) : Rs (Int64 × Int64) :=
  if (57 : Int32) ≤ a12 then
  (rok (a6, a10) h)
  else
  (lt3 (a10 <<< (Int32.toInt64 (1 : Int32) &&& 63)) fun x1 =>
  if (lg_cmp a6 v8) < 0 then
  (f_X46_divide_l65b99 v0 v2 v4 v8 ih a6 x1 a12 h)
  else
  (lt3 (a6 - v8) fun x2 =>
  lt3 (x1 ||| (1 : Int64)) fun x3 =>
  f_X46_divide_l65b99 v0 v2 v4 v8 ih x2 x3 a12 h))
noncomputable def f_X46_divide_l65 (v0 : Int64) (v2 : Int64) (v4 : Int64) (v8 : Int64) (n : Nat) : Int64 → Int64 → Int32 → HP → Rs (Int64 × Int64) := @Nat.rec (fun _ => Int64 → Int64 → Int32 → HP → Rs (Int64 × Int64)) (fun _ _ _ _ => none) (fun _ ih => b_X46_divide_l65 v0 v2 v4 v8 ih) n
noncomputable def f_X46_divide_b123 (a0 : Int64) (a2 : Int64) (a6 : Int64) (a10 : Int64) (s0 : Int32) (h : HP) : Rs Int64 :=
  bd (f_X46_exponent a0 h) (fun x1 h2 =>
  bd (f_X46_exponent a2 h2) (fun x3 h4 =>
  if (lg_cmp a6 (0 : Int64)) = 0 then
  (bd (f_X46_made s0 a10 ((x1 - x3) - (56 : Int32)) (0 : Int32) h4) (fun x5 h6 =>
  rok x5 h6))
  else
  (bd (f_X46_made s0 a10 ((x1 - x3) - (56 : Int32)) (1 : Int32) h4) (fun x7 h8 =>
  rok x7 h8))))
noncomputable def f_X46_divide (a0 : Int64) (a2 : Int64) (h : HP) : Rs Int64 :=
  lt3 ((a0 ^^^ a2) &&& (-9223372036854775808 : Int64)) fun x1 =>
  bd (f_X46_isInfinite a0 h) (fun x2 h3 =>
  if x2 = 0 then
  (bd (f_X46_isZero a2 h3) (fun x4 h5 =>
  if x4 = 0 then
  (bd (f_X46_isZero a0 h5) (fun x6 h7 =>
  if x6 = 0 then
  (bd (f_X46_isInfinite a2 h7) (fun x8 h9 =>
  if x8 = 0 then
  (bd (f_X46_significand a0 h9) (fun x10 h11 =>
  bd (f_X46_significand a2 h11) (fun x12 h13 =>
  bd (f_X46_divide_l65 a0 a2 x1 x12 NN x10 (0 : Int64) (0 : Int32) h13) (fun x14 h15 => if (lg_cmp x1 (0 : Int64)) = 0 then
  (f_X46_divide_b123  a0 a2 x14.1 x14.2 (0 : Int32) h15)
  else
  (f_X46_divide_b123  a0 a2 x14.1 x14.2 (1 : Int32) h15)))))
  else
  (rok x1 h9)))
  else
  (rok x1 h7)))
  else
  (rok (x1 ||| (9218868437227405312 : Int64)) h5)))
  else
  (rok (x1 ||| (9218868437227405312 : Int64)) h3))
noncomputable def f_X46_of_b61 (a3 : Int32) (a4 : Int64) (h : HP) : Rs Int64 :=
  if (lg_cmp (a4 &&& (3 : Int64)) (0 : Int64)) = 0 then
  (bd (f_X46_made a3 (UInt64.toInt64 (Int64.toUInt64 a4 >>> (Int64.toUInt64 (Int32.toInt64 (2 : Int32)) &&& Int64.toUInt64 63))) (2 : Int32) (0 : Int32) h) (fun x1 h2 =>
  rok x1 h2))
  else
  (bd (f_X46_made a3 (UInt64.toInt64 (Int64.toUInt64 a4 >>> (Int64.toUInt64 (Int32.toInt64 (2 : Int32)) &&& Int64.toUInt64 63))) (2 : Int32) (1 : Int32) h) (fun x3 h4 =>
  rok x3 h4))
noncomputable def f_X46_of_b34 (a3 : Int32) (s0 : Int64) (h : HP) : Rs Int64 :=
  if (lg_cmp s0 (0 : Int64)) ≤ 0 then
  (f_X46_of_b61  a3 s0 h)
  else
  (if 0 ≤ (lg_cmp s0 (4611686018427387904 : Int64)) then
  (f_X46_of_b61  a3 s0 h)
  else
  (bd (f_X46_made a3 s0 (0 : Int32) (0 : Int32) h) (fun x1 h2 =>
  rok x1 h2)))
noncomputable def f_X46_of_b23 (a0 : Int64) (s0 : Int32) (h : HP) : Rs Int64 :=
  if s0 = 0 then
  (f_X46_of_b34  s0 a0 h)
  else
  (f_X46_of_b34  s0 (-a0) h)
noncomputable def f_X46_of_b22 (a0 : Int64) (h : HP) : Rs Int64 :=
  f_X46_of_b23  a0 (0 : Int32) h
noncomputable def f_X46_of (a0 : Int64) (a2 : Int32) (h : HP) : Rs Int64 :=
  if (lg_cmp a0 (0 : Int64)) = 0 then
  (rok (0 : Int64) h)
  else
  (if 0 ≤ (lg_cmp a0 (0 : Int64)) then
  (f_X46_of_b22  a0 h)
  else
  (if a2 = 0 then
  (f_X46_of_b23  a0 (1 : Int32) h)
  else
  (f_X46_of_b22  a0 h)))
noncomputable def f_X44_number_l7b74 (v0 : Nat) (v1 : Int32) (ih : Int32 → Int64 → Int32 → HP → Rs (Int32 × Int64 × Int32)) (a2 : Int32) (a5 : Int32) (s0 : Int64) (h : HP) : Rs (Int32 × Int64 × Int32) :=
  lt3 (a2 + 1) fun x1 =>
  ih x1 s0 a5 h
noncomputable def f_X44_number_l7b54 (v0 : Nat) (v1 : Int32) (ih : Int32 → Int64 → Int32 → HP → Rs (Int32 × Int64 × Int32)) (a2 : Int32) (a3 : Int64) (a6 : Int32) (s0 : Int32) (h : HP) : Rs (Int32 × Int64 × Int32) :=
  if s0 = 0 then
  (f_X44_number_l7b74 v0 v1 ih a2 s0 (((10 : Int64) * a3) + (Int32.toInt64 a6)) h)
  else
  (f_X44_number_l7b74 v0 v1 ih a2 s0 (0 : Int64) h)
noncomputable def f_X44_number_l7b49 (v0 : Nat) (v1 : Int32) (ih : Int32 → Int64 → Int32 → HP → Rs (Int32 × Int64 × Int32)) (a2 : Int32) (a3 : Int64) (a6 : Int32) (h : HP) : Rs (Int32 × Int64 × Int32) :=
  f_X44_number_l7b54 v0 v1 ih a2 a3 a6 (1 : Int32) h
noncomputable def b_X44_number_l7 (v0 : Nat) (v1 : Int32) (ih : Int32 → Int64 → Int32 → HP → Rs (Int32 × Int64 × Int32)) (a2 : Int32) (a3 : Int64) (a5 : Int32) (h : HP) : Rs (Int32 × Int64 × Int32) :=
  if kc h v0 = 43 then
  bd (f_X44_code v0 a2 h) (fun x1 h2 =>
  bd (f_X4_isDigit x1 h2) (fun x3 h4 =>
  if x3 = 0 then
  (rok (a2, a3, a5) h4)
  else
  (if kc h4 v0 = 43 then
  bd (f_X44_code v0 a2 h4) (fun x5 h6 =>
  lt3 (x5 - (48 : Int32)) fun x7 =>
  if a5 = 0 then
  (dvJ (10 : Int64) (
  if (lg_cmp a3 (((9223372036854775807 : Int64) - (Int32.toInt64 x7)) / (10 : Int64))) ≤ 0 then
  (f_X44_number_l7b54 v0 v1 ih a2 a3 x7 (0 : Int32) h6)
  else
  (f_X44_number_l7b49 v0 v1 ih a2 a3 x7 h6)))
  else
  (f_X44_number_l7b49 v0 v1 ih a2 a3 x7 h6))
  else none)))
  else none
noncomputable def f_X44_number_l7 (v0 : Nat) (v1 : Int32) (n : Nat) : Int32 → Int64 → Int32 → HP → Rs (Int32 × Int64 × Int32) := @Nat.rec (fun _ => Int32 → Int64 → Int32 → HP → Rs (Int32 × Int64 × Int32)) (fun _ _ _ _ => none) (fun _ ih => b_X44_number_l7 v0 v1 ih) n
noncomputable def f_X44_number_b140 (a0 : Nat) (a1 : Int32) (a2 : Int32) (a3 : Int64) (a5 : Int32) (h : HP) : Rs Int32 :=
  if a5 = 0 then
  (if (lg_cmp a3 (2147483647 : Int64)) ≤ 0 then
  (if kc h a0 = 43 then
  bd (f_X44_add a0 (3 : Int32) a1 a2 1 a3 h) (fun x3 h4 =>
  rok x3 h4)
  else none)
  else
  (if kc h a0 = 43 then
  bd (f_X44_none a0 a1 h) (fun x5 h6 =>
  rok x5 h6)
  else none))
  else
  (if kc h a0 = 43 then
  bd (f_X44_none a0 a1 h) (fun x1 h2 =>
  rok x1 h2)
  else none)
noncomputable def b_X44_number_l178 (v0 : Nat) (v1 : Int32) (v6 : Int32) (ih : Int32 → HP → Rs Int32) (a2 : Int32) (h : HP) : Rs Int32 :=
  if kc h v0 = 43 then
  bd (f_X44_code v0 a2 h) (fun x1 h2 =>
  bd (f_X4_isDigit x1 h2) (fun x3 h4 =>
  if x3 = 0 then
  (rok a2 h4)
  else
  (lt3 (a2 + 1) fun x5 =>
  ih x5 h4)))
  else none
noncomputable def f_X44_number_l178 (v0 : Nat) (v1 : Int32) (v6 : Int32) (n : Nat) : Int32 → HP → Rs Int32 := @Nat.rec (fun _ => Int32 → HP → Rs Int32) (fun _ _ => none) (fun _ ih => b_X44_number_l178 v0 v1 v6 ih) n
noncomputable def f_X44_number_l220b268 (v0 : Nat) (v1 : Int32) (v2 : Int32) (v6 : Int32) (ih : Int64 → Int64 → Int32 → HP → Rs (Int64 × Int64)) (a7 : Int64) (a9 : Int64) (a11 : Int32) (h : HP) : Rs (Int64 × Int64) :=
  lt3 (a11 + 1) fun x1 =>
  ih a7 a9 x1 h
noncomputable def f_X44_number_l220b253 (v0 : Nat) (v1 : Int32) (v2 : Int32) (v6 : Int32) (ih : Int64 → Int64 → Int32 → HP → Rs (Int64 × Int64)) (a7 : Int64) (a9 : Int64) (a11 : Int32) (h : HP) : Rs (Int64 × Int64) :=
  if a11 ≤ v6 then
  (f_X44_number_l220b268 v0 v1 v2 v6 ih a7 a9 a11 h)
  else
  (lt3 ((10 : Int64) * a9) fun x1 =>
  f_X44_number_l220b268 v0 v1 v2 v6 ih a7 x1 a11 h)
noncomputable def b_X44_number_l220 (v0 : Nat) (v1 : Int32) (v2 : Int32) (v6 : Int32) (ih : Int64 → Int64 → Int32 → HP → Rs (Int64 × Int64)) (a7 : Int64) (a9 : Int64) (a11 : Int32) (h : HP) : Rs (Int64 × Int64) :=
  if v2 ≤ a11 then
  (rok (a7, a9) h)
  else
  (if a11 = v6 then
  (f_X44_number_l220b253 v0 v1 v2 v6 ih a7 a9 a11 h)
  else
  (if kc h v0 = 43 then
  bd (f_X44_code v0 a11 h) (fun x1 h2 =>
  lt3 ((((10 : Int64) * a7) + (Int32.toInt64 x1)) - (48 : Int64)) fun x3 =>
  f_X44_number_l220b253 v0 v1 v2 v6 ih x3 a9 a11 h2)
  else none))
noncomputable def f_X44_number_l220 (v0 : Nat) (v1 : Int32) (v2 : Int32) (v6 : Int32) (n : Nat) : Int64 → Int64 → Int32 → HP → Rs (Int64 × Int64) := @Nat.rec (fun _ => Int64 → Int64 → Int32 → HP → Rs (Int64 × Int64)) (fun _ _ _ _ => none) (fun _ ih => b_X44_number_l220 v0 v1 v2 v6 ih) n
noncomputable def f_X44_number (a0 : Nat) (a1 : Int32) (h : HP) : Rs Int32 :=
  bd (f_X44_number_l7 a0 a1 NN a1 (0 : Int64) (0 : Int32) h) (fun x1 h2 => if kc h2 a0 = 43 then
  bd (f_X44_code a0 x1.1 h2) (fun x3 h4 =>
  if x3 = (76 : Int32) then
  (if x1.2.2 = 0 then
  (if kc h4 a0 = 43 then
  bd (f_X44_add a0 (4 : Int32) a1 (x1.1 + (1 : Int32)) 1 x1.2.1 h4) (fun x28 h29 =>
  rok x28 h29)
  else none)
  else
  (if kc h4 a0 = 43 then
  bd (f_X44_none a0 a1 h4) (fun x30 h31 =>
  rok x30 h31)
  else none))
  else
  (if kc h4 a0 = 43 then
  bd (f_X44_code a0 x1.1 h4) (fun x5 h6 =>
  if x5 = (46 : Int32) then
  (if kc h6 a0 = 43 then
  bd (f_X44_code a0 (x1.1 + (1 : Int32)) h6) (fun x7 h8 =>
  bd (f_X4_isDigit x7 h8) (fun x9 h10 =>
  if x9 = 0 then
  (f_X44_number_b140  a0 a1 x1.1 x1.2.1 x1.2.2 h10)
  else
  (lt3 (x1.1 + 1) fun x11 =>
  bd (f_X44_number_l178 a0 a1 x1.1 NN x11 h10) (fun x12 h13 => if ((x12 - a1) - (1 : Int32)) ≤ (15 : Int32) then
  (bd (f_X44_number_l220 a0 a1 x12 x1.1 NN (0 : Int64) (1 : Int64) a1 h13) (fun x14 h15 => if (lg_cmp x14.1 (0 : Int64)) = 0 then
  (if kc h15 a0 = 43 then
  bd (f_X44_add a0 (5 : Int32) a1 x12 1 (0 : Int64) h15) (fun x24 h25 =>
  rok x24 h25)
  else none)
  else
  (bd (f_X46_of x14.1 (0 : Int32) h15) (fun x16 h17 =>
  bd (f_X46_of x14.2 (0 : Int32) h17) (fun x18 h19 =>
  bd (f_X46_divide x16 x18 h19) (fun x20 h21 =>
  if kc h21 a0 = 43 then
  bd (f_X44_add a0 (5 : Int32) a1 x12 1 x20 h21) (fun x22 h23 =>
  rok x22 h23)
  else none))))))
  else
  (if kc h13 a0 = 43 then
  bd (f_X44_none a0 a1 h13) (fun x26 h27 =>
  rok x26 h27)
  else none)))))
  else none)
  else
  (f_X44_number_b140  a0 a1 x1.1 x1.2.1 x1.2.2 h6))
  else none))
  else none)
noncomputable def f_X44_sign_b230 (s0 : Int32) (h : HP) : Rs Int32 :=
  if s0 = 0 then
  (rok (0 : Int32) h)
  else
  (rok (1 : Int32) h)
noncomputable def f_X44_sign_b225 (h : HP) : Rs Int32 :=
  f_X44_sign_b230  (1 : Int32) h
noncomputable def f_X44_sign_b81 (a0 : Int32) (h : HP) : Rs Int32 :=
  if a0 = (123 : Int32) then
  (f_X44_sign_b225  h)
  else
  (if a0 = (125 : Int32) then
  (f_X44_sign_b225  h)
  else
  (if a0 = (40 : Int32) then
  (f_X44_sign_b225  h)
  else
  (if a0 = (41 : Int32) then
  (f_X44_sign_b225  h)
  else
  (if a0 = (91 : Int32) then
  (f_X44_sign_b225  h)
  else
  (if a0 = (93 : Int32) then
  (f_X44_sign_b225  h)
  else
  (if a0 = (44 : Int32) then
  (f_X44_sign_b225  h)
  else
  (if a0 = (59 : Int32) then
  (f_X44_sign_b225  h)
  else
  (if a0 = (46 : Int32) then
  (f_X44_sign_b225  h)
  else
  (if a0 = (63 : Int32) then
  (f_X44_sign_b225  h)
  else
  (if a0 = (58 : Int32) then
  (f_X44_sign_b225  h)
  else
  (if a0 = (61 : Int32) then
  (f_X44_sign_b225  h)
  else
  (if a0 = (43 : Int32) then
  (f_X44_sign_b225  h)
  else
  (if a0 = (45 : Int32) then
  (f_X44_sign_b225  h)
  else
  (if a0 = (42 : Int32) then
  (f_X44_sign_b225  h)
  else
  (if a0 = (47 : Int32) then
  (f_X44_sign_b225  h)
  else
  (if a0 = (37 : Int32) then
  (f_X44_sign_b225  h)
  else
  (if a0 = (60 : Int32) then
  (f_X44_sign_b225  h)
  else
  (if a0 = (62 : Int32) then
  (f_X44_sign_b225  h)
  else
  (if a0 = (33 : Int32) then
  (f_X44_sign_b225  h)
  else
  (if a0 = (126 : Int32) then
  (f_X44_sign_b225  h)
  else
  (if a0 = (38 : Int32) then
  (f_X44_sign_b225  h)
  else
  (if a0 = (94 : Int32) then
  (f_X44_sign_b225  h)
  else
  (if a0 = (124 : Int32) then
  (f_X44_sign_b225  h)
  else
  (f_X44_sign_b230  (0 : Int32) h))))))))))))))))))))))))
noncomputable def f_X44_sign_b56 (a0 : Int32) (a1 : Int32) (h : HP) : Rs Int32 :=
  if a1 = a0 then
  (if a0 = (60 : Int32) then
  (rok (2 : Int32) h)
  else
  (if a0 = (38 : Int32) then
  (rok (2 : Int32) h)
  else
  (if a0 = (124 : Int32) then
  (rok (2 : Int32) h)
  else
  (f_X44_sign_b81  a0 h))))
  else
  (f_X44_sign_b81  a0 h)
noncomputable def f_X44_sign_b24 (a0 : Int32) (a1 : Int32) (h : HP) : Rs Int32 :=
  if a1 = (61 : Int32) then
  (if a0 = (60 : Int32) then
  (rok (2 : Int32) h)
  else
  (if a0 = (62 : Int32) then
  (rok (2 : Int32) h)
  else
  (if a0 = (61 : Int32) then
  (rok (2 : Int32) h)
  else
  (if a0 = (33 : Int32) then
  (rok (2 : Int32) h)
  else
  (f_X44_sign_b56  a0 a1 h)))))
  else
  (f_X44_sign_b56  a0 a1 h)
noncomputable def f_X44_sign (a0 : Int32) (a1 : Int32) (a2 : Int32) (h : HP) : Rs Int32 :=
  if a0 = (62 : Int32) then
  (if a1 = (62 : Int32) then
  (if a2 = (62 : Int32) then
  (rok (3 : Int32) h)
  else
  (rok (2 : Int32) h))
  else
  (f_X44_sign_b24  a0 a1 h))
  else
  (f_X44_sign_b24  a0 a1 h)
noncomputable def f_X44_signOf (a0 : Int32) (h : HP) : Rs Nat :=
  if a0 = 33 then
  (rok 4 h)
  else
  if a0 = 34 then
  (rok 74 h)
  else
  if a0 = 35 then
  (rok 74 h)
  else
  if a0 = 36 then
  (rok 74 h)
  else
  if a0 = 37 then
  (rok 6 h)
  else
  if a0 = 38 then
  (rok 7 h)
  else
  if a0 = 39 then
  (rok 74 h)
  else
  if a0 = 40 then
  (rok 9 h)
  else
  if a0 = 41 then
  (rok 10 h)
  else
  if a0 = 42 then
  (rok 11 h)
  else
  if a0 = 43 then
  (rok 12 h)
  else
  if a0 = 44 then
  (rok 13 h)
  else
  if a0 = 45 then
  (rok 14 h)
  else
  if a0 = 46 then
  (rok 15 h)
  else
  if a0 = 47 then
  (rok 16 h)
  else
  if a0 = 48 then
  (rok 74 h)
  else
  if a0 = 49 then
  (rok 74 h)
  else
  if a0 = 50 then
  (rok 74 h)
  else
  if a0 = 51 then
  (rok 74 h)
  else
  if a0 = 52 then
  (rok 74 h)
  else
  if a0 = 53 then
  (rok 74 h)
  else
  if a0 = 54 then
  (rok 74 h)
  else
  if a0 = 55 then
  (rok 74 h)
  else
  if a0 = 56 then
  (rok 74 h)
  else
  if a0 = 57 then
  (rok 74 h)
  else
  if a0 = 58 then
  (rok 17 h)
  else
  if a0 = 59 then
  (rok 18 h)
  else
  if a0 = 60 then
  (rok 19 h)
  else
  if a0 = 61 then
  (rok 22 h)
  else
  if a0 = 62 then
  (rok 24 h)
  else
  if a0 = 63 then
  (rok 28 h)
  else
  if a0 = 64 then
  (rok 74 h)
  else
  if a0 = 65 then
  (rok 74 h)
  else
  if a0 = 66 then
  (rok 74 h)
  else
  if a0 = 67 then
  (rok 74 h)
  else
  if a0 = 68 then
  (rok 74 h)
  else
  if a0 = 69 then
  (rok 74 h)
  else
  if a0 = 70 then
  (rok 74 h)
  else
  if a0 = 71 then
  (rok 74 h)
  else
  if a0 = 72 then
  (rok 74 h)
  else
  if a0 = 73 then
  (rok 74 h)
  else
  if a0 = 74 then
  (rok 74 h)
  else
  if a0 = 75 then
  (rok 74 h)
  else
  if a0 = 76 then
  (rok 74 h)
  else
  if a0 = 77 then
  (rok 74 h)
  else
  if a0 = 78 then
  (rok 74 h)
  else
  if a0 = 79 then
  (rok 74 h)
  else
  if a0 = 80 then
  (rok 74 h)
  else
  if a0 = 81 then
  (rok 74 h)
  else
  if a0 = 82 then
  (rok 74 h)
  else
  if a0 = 83 then
  (rok 74 h)
  else
  if a0 = 84 then
  (rok 74 h)
  else
  if a0 = 85 then
  (rok 74 h)
  else
  if a0 = 86 then
  (rok 74 h)
  else
  if a0 = 87 then
  (rok 74 h)
  else
  if a0 = 88 then
  (rok 74 h)
  else
  if a0 = 89 then
  (rok 74 h)
  else
  if a0 = 90 then
  (rok 74 h)
  else
  if a0 = 91 then
  (rok 33 h)
  else
  if a0 = 92 then
  (rok 74 h)
  else
  if a0 = 93 then
  (rok 34 h)
  else
  if a0 = 94 then
  (rok 35 h)
  else
  if a0 = 95 then
  (rok 74 h)
  else
  if a0 = 96 then
  (rok 74 h)
  else
  if a0 = 97 then
  (rok 74 h)
  else
  if a0 = 98 then
  (rok 74 h)
  else
  if a0 = 99 then
  (rok 74 h)
  else
  if a0 = 100 then
  (rok 74 h)
  else
  if a0 = 101 then
  (rok 74 h)
  else
  if a0 = 102 then
  (rok 74 h)
  else
  if a0 = 103 then
  (rok 74 h)
  else
  if a0 = 104 then
  (rok 74 h)
  else
  if a0 = 105 then
  (rok 74 h)
  else
  if a0 = 106 then
  (rok 74 h)
  else
  if a0 = 107 then
  (rok 74 h)
  else
  if a0 = 108 then
  (rok 74 h)
  else
  if a0 = 109 then
  (rok 74 h)
  else
  if a0 = 110 then
  (rok 74 h)
  else
  if a0 = 111 then
  (rok 74 h)
  else
  if a0 = 112 then
  (rok 74 h)
  else
  if a0 = 113 then
  (rok 74 h)
  else
  if a0 = 114 then
  (rok 74 h)
  else
  if a0 = 115 then
  (rok 74 h)
  else
  if a0 = 116 then
  (rok 74 h)
  else
  if a0 = 117 then
  (rok 74 h)
  else
  if a0 = 118 then
  (rok 74 h)
  else
  if a0 = 119 then
  (rok 74 h)
  else
  if a0 = 120 then
  (rok 74 h)
  else
  if a0 = 121 then
  (rok 74 h)
  else
  if a0 = 122 then
  (rok 74 h)
  else
  if a0 = 123 then
  (rok 72 h)
  else
  if a0 = 124 then
  (rok 74 h)
  else
  if a0 = 125 then
  (rok 76 h)
  else
  if a0 = 126 then
  (rok 77 h)
  else
  (rok 74 h)
noncomputable def f_X4_isBlank (a0 : Int32) (h : HP) : Rs Int32 :=
  if a0 = (9 : Int32) then
  (rok (1 : Int32) h)
  else
  (if a0 = (10 : Int32) then
  (rok (1 : Int32) h)
  else
  (if a0 = (13 : Int32) then
  (rok (1 : Int32) h)
  else
  (if a0 = (32 : Int32) then
  (rok (1 : Int32) h)
  else
  (rok (0 : Int32) h))))
noncomputable def b_X44_one_l2 (v0 : Nat) (ih : Int32 → HP → Rs Int32) (a2 : Int32) (h : HP) : Rs Int32 :=
  if kc h v0 = 43 then
  bd (f_X44_code v0 a2 h) (fun x1 h2 =>
  bd (f_X4_isBlank x1 h2) (fun x3 h4 =>
  if x3 = 0 then
  (rok a2 h4)
  else
  (lt3 (a2 + 1) fun x5 =>
  ih x5 h4)))
  else none
noncomputable def f_X44_one_l2 (v0 : Nat) (n : Nat) : Int32 → HP → Rs Int32 := @Nat.rec (fun _ => Int32 → HP → Rs Int32) (fun _ _ => none) (fun _ ih => b_X44_one_l2 v0 ih) n
noncomputable def b_X44_one_l154 (v0 : Nat) (v2 : Int32) (ih : Int32 → HP → Rs Int32) (a4 : Int32) (h : HP) : Rs Int32 :=
  if kc h v0 = 43 then
  bd (f_X44_code v0 a4 h) (fun x1 h2 =>
  if x1 < (32 : Int32) then
  (rok a4 h2)
  else
  (if kc h2 v0 = 43 then
  bd (f_X44_code v0 a4 h2) (fun x3 h4 =>
  if (126 : Int32) < x3 then
  (rok a4 h4)
  else
  (if kc h4 v0 = 43 then
  bd (f_X44_code v0 a4 h4) (fun x5 h6 =>
  if x5 = (34 : Int32) then
  (rok a4 h6)
  else
  (if kc h6 v0 = 43 then
  bd (f_X44_code v0 a4 h6) (fun x7 h8 =>
  if x7 = (92 : Int32) then
  (rok a4 h8)
  else
  (lt3 (a4 + 1) fun x9 =>
  ih x9 h8))
  else none))
  else none))
  else none))
  else none
noncomputable def f_X44_one_l154 (v0 : Nat) (v2 : Int32) (n : Nat) : Int32 → HP → Rs Int32 := @Nat.rec (fun _ => Int32 → HP → Rs Int32) (fun _ _ => none) (fun _ ih => b_X44_one_l154 v0 v2 ih) n
noncomputable def f_X44_one_b204 (a0 : Nat) (a2 : Int32) (a4 : Int32) (h : HP) : Rs Int32 :=
  if kc h a0 = 43 then
  bd (f_X44_code a0 a4 h) (fun x1 h2 =>
  if x1 = (34 : Int32) then
  (if ((a4 - a2) - (1 : Int32)) ≤ (100 : Int32) then
  (if kc h2 a0 = 43 then
  bd (f_X44_spelled a0 (a2 + (1 : Int32)) a4 h2) (fun x5 h6 =>
  if kc h6 a0 = 43 then
  bd (f_X44_add a0 (7 : Int32) a2 (a4 + (1 : Int32)) x5 (0 : Int64) h6) (fun x7 h8 =>
  rok x7 h8)
  else none)
  else none)
  else
  (if kc h2 a0 = 43 then
  bd (f_X44_none a0 a2 h2) (fun x9 h10 =>
  rok x9 h10)
  else none))
  else
  (if kc h2 a0 = 43 then
  bd (f_X44_none a0 a2 h2) (fun x3 h4 =>
  rok x3 h4)
  else none))
  else none
noncomputable def f_X44_one (a0 : Nat) (a1 : Int32) (h : HP) : Rs Int32 :=
  bd (f_X44_one_l2 a0 NN a1 h) (fun x1 h2 => if kc h2 a0 = 43 then
  bd (f_X44_code a0 x1 h2) (fun x3 h4 =>
  if 0 ≤ x3 then
  (bd (f_X4_isLetter x3 h4) (fun x5 h6 =>
  if x5 = 0 then
  (bd (f_X4_isDigit x3 h6) (fun x7 h8 =>
  if x7 = 0 then
  (if x3 = (39 : Int32) then
  (if kc h8 a0 = 43 then
  bd (f_X44_code a0 (x1 + (1 : Int32)) h8) (fun x30 h31 =>
  if x30 < (32 : Int32) then
  (if kc h31 a0 = 43 then
  bd (f_X44_none a0 x1 h31) (fun x32 h33 =>
  rok x32 h33)
  else none)
  else
  (if (126 : Int32) < x30 then
  (if kc h31 a0 = 43 then
  bd (f_X44_none a0 x1 h31) (fun x34 h35 =>
  rok x34 h35)
  else none)
  else
  (if x30 = (39 : Int32) then
  (if kc h31 a0 = 43 then
  bd (f_X44_none a0 x1 h31) (fun x36 h37 =>
  rok x36 h37)
  else none)
  else
  (if x30 = (92 : Int32) then
  (if kc h31 a0 = 43 then
  bd (f_X44_none a0 x1 h31) (fun x38 h39 =>
  rok x38 h39)
  else none)
  else
  (if kc h31 a0 = 43 then
  bd (f_X44_code a0 (x1 + (2 : Int32)) h31) (fun x40 h41 =>
  if x40 = (39 : Int32) then
  (if kc h41 a0 = 43 then
  bd (f_X44_add a0 (6 : Int32) x1 (x1 + (3 : Int32)) 1 (Int32.toInt64 x30) h41) (fun x42 h43 =>
  rok x42 h43)
  else none)
  else
  (if kc h41 a0 = 43 then
  bd (f_X44_none a0 x1 h41) (fun x44 h45 =>
  rok x44 h45)
  else none))
  else none)))))
  else none)
  else
  (if x3 = (34 : Int32) then
  (lt3 (x1 + (1 : Int32)) fun x27 =>
  bd (f_X44_one_l154 a0 x1 NN x27 h8) (fun x28 h29 => f_X44_one_b204  a0 x1 x28 h29))
  else
  (if kc h8 a0 = 43 then
  bd (f_X44_code a0 (x1 + (1 : Int32)) h8) (fun x9 h10 =>
  if kc h10 a0 = 43 then
  bd (f_X44_code a0 (x1 + (2 : Int32)) h10) (fun x11 h12 =>
  bd (f_X44_sign x3 x9 x11 h12) (fun x13 h14 =>
  if x13 = 0 then
  (if kc h14 a0 = 43 then
  bd (f_X44_none a0 x1 h14) (fun x25 h26 =>
  rok x25 h26)
  else none)
  else
  (if x13 = (1 : Int32) then
  (bd (f_X44_signOf x3 h14) (fun x21 h22 =>
  if kc h22 a0 = 43 then
  bd (f_X44_add a0 (8 : Int32) x1 (x1 + x13) x21 (0 : Int64) h22) (fun x23 h24 =>
  rok x23 h24)
  else none))
  else
  (if kc h14 a0 = 43 then
  bd (f_X44_code a0 (x1 + (1 : Int32)) h14) (fun x15 h16 =>
  bd (f_X44_longSignOf x3 x15 x13 h16) (fun x17 h18 =>
  if kc h18 a0 = 43 then
  bd (f_X44_add a0 (8 : Int32) x1 (x1 + x13) x17 (0 : Int64) h18) (fun x19 h20 =>
  rok x19 h20)
  else none))
  else none))))
  else none)
  else none)))
  else
  (if kc h8 a0 = 43 then
  bd (f_X44_number a0 x1 h8) (fun x46 h47 =>
  rok x46 h47)
  else none)))
  else
  (if kc h6 a0 = 43 then
  bd (f_X44_name a0 x1 h6) (fun x48 h49 =>
  rok x48 h49)
  else none)))
  else
  (if kc h4 a0 = 43 then
  bd (f_X44_add a0 (0 : Int32) x1 (-1 : Int32) 1 (0 : Int64) h4) (fun x50 h51 =>
  rok x50 h51)
  else none))
  else none)
noncomputable def b_X44_init_l33 (v0 : Nat) (ih : Int32 → HP → Rs Unit) (a2 : Int32) (h : HP) : Rs Unit :=
  if a2 < 0 then
  (rok () h)
  else
  (if kc h v0 = 43 then
  bd (f_X44_one v0 a2 h) (fun x1 h2 =>
  ih x1 h2)
  else none)
noncomputable def f_X44_init_l33 (v0 : Nat) (n : Nat) : Int32 → HP → Rs Unit := @Nat.rec (fun _ => Int32 → HP → Rs Unit) (fun _ _ => none) (fun _ ih => b_X44_init_l33 v0 ih) n
noncomputable def f_X44_init (a0 : Nat) (a1 : Nat) (h : HP) : Rs Unit :=
  if a0 = 0 then none else (
  nwC 131 3 h fun p1 h2 =>
  lsInit p1 h2 fun h3 =>
  stR 43 347 a0 p1 h3 fun h4 =>
  nwC 130 3 h4 fun p5 h6 =>
  lsInit p5 h6 fun h7 =>
  stR 43 348 a0 p5 h7 fun h8 =>
  stR 43 346 a0 a1 h8 fun h9 =>
  bd (f_X44_init_l33 a0 NN (0 : Int32) h9) (fun x10 h11 => rok () h11))
noncomputable def f_X46_add_b14 (a0 : Int64) (a2 : Int64) (h : HP) : Rs Int64 :=
  bd (f_X46_isZero a0 h) (fun x1 h2 =>
  if x1 = 0 then
  (rok a0 h2)
  else
  (bd (f_X46_isZero a2 h2) (fun x3 h4 =>
  if x3 = 0 then
  (rok a0 h4)
  else
  (rok (a0 &&& a2) h4))))
noncomputable def f_X46_add_b290 (a5 : Int64) (a9 : Int32) (a17 : Int32) (a18 : Int64) (h : HP) : Rs Int64 :=
  if 0 ≤ (lg_cmp a5 (0 : Int64)) then
  (bd (f_X46_made (0 : Int32) a18 a9 a17 h) (fun x1 h2 =>
  rok x1 h2))
  else
  (bd (f_X46_made (1 : Int32) a18 a9 a17 h) (fun x3 h4 =>
  rok x3 h4))
noncomputable def f_X46_add_b270 (a5 : Int64) (a9 : Int32) (a17 : Int32) (s0 : Int64) (s1 : Int32) (h : HP) : Rs Int64 :=
  lt3 (s0 - (Int32.toInt64 s1)) fun x1 =>
  if (lg_cmp x1 (0 : Int64)) = 0 then
  (if a17 = 0 then
  (rok (0 : Int64) h)
  else
  (f_X46_add_b290  a5 a9 a17 x1 h))
  else
  (f_X46_add_b290  a5 a9 a17 x1 h)
noncomputable def f_X46_add_b242 (a9 : Int32) (a11 : Int64) (a15 : Int64) (a17 : Int32) (s0 : Int32) (h : HP) : Rs Int64 :=
  bd (f_X46_made s0 (a11 + a15) a9 a17 h) (fun x1 h2 =>
  rok x1 h2)
noncomputable def f_X46_add_b227 (a5 : Int64) (a9 : Int32) (a11 : Int64) (a15 : Int64) (a17 : Int32) (s0 : Int32) (s1 : Int32) (h : HP) : Rs Int64 :=
  if s0 = s1 then
  (if 0 ≤ (lg_cmp a5 (0 : Int64)) then
  (f_X46_add_b242  a9 a11 a15 a17 (0 : Int32) h)
  else
  (f_X46_add_b242  a9 a11 a15 a17 (1 : Int32) h))
  else
  (if a17 = 0 then
  (f_X46_add_b270  a5 a9 a17 (a11 - a15) (0 : Int32) h)
  else
  (f_X46_add_b270  a5 a9 a17 (a11 - a15) (1 : Int32) h))
noncomputable def f_X46_add_b215 (a5 : Int64) (a7 : Int64) (a9 : Int32) (a11 : Int64) (a15 : Int64) (a17 : Int32) (s0 : Int32) (h : HP) : Rs Int64 :=
  if 0 ≤ (lg_cmp a7 (0 : Int64)) then
  (f_X46_add_b227  a5 a9 a11 a15 a17 s0 (0 : Int32) h)
  else
  (f_X46_add_b227  a5 a9 a11 a15 a17 s0 (1 : Int32) h)
noncomputable def f_X46_add_b201 (a5 : Int64) (a7 : Int64) (a9 : Int32) (a11 : Int64) (a15 : Int64) (s0 : Int32) (h : HP) : Rs Int64 :=
  if 0 ≤ (lg_cmp a5 (0 : Int64)) then
  (f_X46_add_b215  a5 a7 a9 a11 a15 s0 (0 : Int32) h)
  else
  (f_X46_add_b215  a5 a7 a9 a11 a15 s0 (1 : Int32) h)
noncomputable def f_X46_add_b196 (a5 : Int64) (a7 : Int64) (a9 : Int32) (a11 : Int64) (a15 : Int64) (h : HP) : Rs Int64 :=
  f_X46_add_b201  a5 a7 a9 a11 a15 (1 : Int32) h
noncomputable def f_X46_add_b176 (a5 : Int64) (a7 : Int64) (a9 : Int32) (a10 : Int32) (a11 : Int64) (a13 : Int64) (s0 : Int64) (h : HP) : Rs Int64 :=
  if (62 : Int32) < a10 then
  (f_X46_add_b196  a5 a7 a9 a11 s0 h)
  else
  (if (lg_cmp (s0 <<< (Int32.toInt64 a10 &&& 63)) a13) = 0 then
  (f_X46_add_b201  a5 a7 a9 a11 s0 (0 : Int32) h)
  else
  (f_X46_add_b196  a5 a7 a9 a11 s0 h))
noncomputable def f_X46_add_b115 (a5 : Int64) (s0 : Int64) (h : HP) : Rs Int64 :=
  bd (f_X46_exponent a5 h) (fun x1 h2 =>
  lt3 (x1 - (8 : Int32)) fun x3 =>
  bd (f_X46_exponent a5 h2) (fun x4 h5 =>
  bd (f_X46_exponent s0 h5) (fun x6 h7 =>
  lt3 (x4 - x6) fun x8 =>
  bd (f_X46_significand a5 h7) (fun x9 h10 =>
  lt3 (x9 <<< (Int32.toInt64 (8 : Int32) &&& 63)) fun x11 =>
  bd (f_X46_significand s0 h10) (fun x12 h13 =>
  lt3 (x12 <<< (Int32.toInt64 (8 : Int32) &&& 63)) fun x14 =>
  if x8 ≤ (62 : Int32) then
  (f_X46_add_b176  a5 s0 x3 x8 x11 x14 (UInt64.toInt64 (Int64.toUInt64 x14 >>> (Int64.toUInt64 (Int32.toInt64 x8) &&& Int64.toUInt64 63))) h13)
  else
  (f_X46_add_b176  a5 s0 x3 x8 x11 x14 (0 : Int64) h13))))))
noncomputable def f_X46_add_b103 (a0 : Int64) (a2 : Int64) (a4 : Int32) (s0 : Int64) (h : HP) : Rs Int64 :=
  if a4 = 0 then
  (f_X46_add_b115  s0 a0 h)
  else
  (f_X46_add_b115  s0 a2 h)
noncomputable def f_X46_add_b91 (a0 : Int64) (a2 : Int64) (s0 : Int32) (h : HP) : Rs Int64 :=
  if s0 = 0 then
  (f_X46_add_b103  a0 a2 s0 a2 h)
  else
  (f_X46_add_b103  a0 a2 s0 a0 h)
noncomputable def f_X46_add_b86 (a0 : Int64) (a2 : Int64) (h : HP) : Rs Int64 :=
  f_X46_add_b91  a0 a2 (1 : Int32) h
noncomputable def f_X46_add_b90 (a0 : Int64) (a2 : Int64) (h : HP) : Rs Int64 :=
  f_X46_add_b91  a0 a2 (0 : Int32) h
noncomputable def f_X46_add (a0 : Int64) (a2 : Int64) (h : HP) : Rs Int64 :=
  bd (f_X46_isInfinite a0 h) (fun x1 h2 =>
  if x1 = 0 then
  (bd (f_X46_isZero a2 h2) (fun x3 h4 =>
  if x3 = 0 then
  (bd (f_X46_isInfinite a2 h4) (fun x5 h6 =>
  if x5 = 0 then
  (bd (f_X46_isZero a0 h6) (fun x7 h8 =>
  if x7 = 0 then
  (bd (f_X46_exponent a0 h8) (fun x9 h10 =>
  bd (f_X46_exponent a2 h10) (fun x11 h12 =>
  if x11 < x9 then
  (f_X46_add_b86  a0 a2 h12)
  else
  (bd (f_X46_exponent a0 h12) (fun x13 h14 =>
  bd (f_X46_exponent a2 h14) (fun x15 h16 =>
  if x13 = x15 then
  (bd (f_X46_significand a0 h16) (fun x17 h18 =>
  bd (f_X46_significand a2 h18) (fun x19 h20 =>
  if (lg_cmp x17 x19) < 0 then
  (f_X46_add_b90  a0 a2 h20)
  else
  (f_X46_add_b86  a0 a2 h20))))
  else
  (f_X46_add_b90  a0 a2 h16)))))))
  else
  (rok a2 h8)))
  else
  (rok a2 h6)))
  else
  (f_X46_add_b14  a0 a2 h4)))
  else
  (f_X46_add_b14  a0 a2 h2))
noncomputable def f_X46_compare_b48 (a4 : Int64) (s0 : Int64) (h : HP) : Rs Int32 :=
  if 0 ≤ (lg_cmp a4 s0) then
  (if (lg_cmp a4 s0) ≤ 0 then
  (rok (0 : Int32) h)
  else
  (rok (1 : Int32) h))
  else
  (rok (-1 : Int32) h)
noncomputable def f_X46_compare_b31 (a2 : Int64) (s0 : Int64) (h : HP) : Rs Int32 :=
  if 0 ≤ (lg_cmp a2 (0 : Int64)) then
  (f_X46_compare_b48  s0 a2 h)
  else
  (f_X46_compare_b48  s0 (a2 ^^^ (9223372036854775807 : Int64)) h)
noncomputable def f_X46_compare_b16 (a0 : Int64) (a2 : Int64) (h : HP) : Rs Int32 :=
  if 0 ≤ (lg_cmp a0 (0 : Int64)) then
  (f_X46_compare_b31  a2 a0 h)
  else
  (f_X46_compare_b31  a2 (a0 ^^^ (9223372036854775807 : Int64)) h)
noncomputable def f_X46_compare (a0 : Int64) (a2 : Int64) (h : HP) : Rs Int32 :=
  bd (f_X46_isZero a0 h) (fun x1 h2 =>
  if x1 = 0 then
  (f_X46_compare_b16  a0 a2 h2)
  else
  (bd (f_X46_isZero a2 h2) (fun x3 h4 =>
  if x3 = 0 then
  (f_X46_compare_b16  a0 a2 h4)
  else
  (rok (0 : Int32) h4))))
noncomputable def f_X46_cut (a0 : Int64) (h : HP) : Rs Int64 :=
  bd (f_X46_isZero a0 h) (fun x1 h2 =>
  if x1 = 0 then
  (bd (f_X46_exponent a0 h2) (fun x3 h4 =>
  bd (f_X46_significand a0 h4) (fun x5 h6 =>
  if x3 < 0 then
  (if (-52 : Int32) ≤ x3 then
  (rok (UInt64.toInt64 (Int64.toUInt64 x5 >>> (Int64.toUInt64 (Int32.toInt64 (-x3)) &&& Int64.toUInt64 63))) h6)
  else
  (rok (0 : Int64) h6))
  else
  (rok (x5 <<< (Int32.toInt64 x3 &&& 63)) h6))))
  else
  (rok (0 : Int64) h2))
noncomputable def f_X46_wide_b81 (a1 : Int64) (s0 : Int64) (s1 : Int32) (h : HP) : Rs Int64 :=
  bd (f_X46_rounded s0 (s1 - (150 : Int32)) (0 : Int32) (53 : Int32) (1023 : Int32) h) (fun x1 h2 =>
  rok (a1 ||| x1) h2)
noncomputable def f_X46_wide_b72 (a1 : Int64) (a3 : Int32) (s0 : Int64) (h : HP) : Rs Int64 :=
  if a3 = 0 then
  (f_X46_wide_b81  a1 s0 (1 : Int32) h)
  else
  (f_X46_wide_b81  a1 s0 a3 h)
noncomputable def f_X46_wide_b57 (a1 : Int64) (a3 : Int32) (a4 : Int64) (h : HP) : Rs Int64 :=
  if a3 = 0 then
  (f_X46_wide_b72  a1 a3 a4 h)
  else
  (f_X46_wide_b72  a1 a3 (a4 ||| (8388608 : Int64)) h)
noncomputable def f_X46_wide_b11 (a0 : Int32) (s0 : Int64) (h : HP) : Rs Int64 :=
  lt3 ((a0 >>> ((23 : Int32) &&& 31)) &&& (255 : Int32)) fun x1 =>
  lt3 (Int32.toInt64 (a0 &&& (8388607 : Int32))) fun x2 =>
  if x1 = (255 : Int32) then
  (rok ((s0 ||| (9218868437227405312 : Int64)) ||| x2) h)
  else
  (if x1 = 0 then
  (if (lg_cmp x2 (0 : Int64)) = 0 then
  (rok s0 h)
  else
  (f_X46_wide_b57  s0 x1 x2 h))
  else
  (f_X46_wide_b57  s0 x1 x2 h))
noncomputable def f_X46_wide (a0 : Int32) (h : HP) : Rs Int64 :=
  if 0 ≤ a0 then
  (f_X46_wide_b11  a0 (0 : Int64) h)
  else
  (f_X46_wide_b11  a0 (-9223372036854775808 : Int64) h)
noncomputable def f_X46_floatOf_b104 (a3 : Int32) (s0 : Int64) (s1 : Int32) (s2 : Int32) (h : HP) : Rs Int64 :=
  bd (f_X46_rounded s0 s1 s2 (24 : Int32) (127 : Int32) h) (fun x1 h2 =>
  if a3 = 0 then
  (bd (f_X46_wide ((Int64.toInt32 x1) ||| (0 : Int32)) h2) (fun x3 h4 =>
  rok x3 h4))
  else
  (bd (f_X46_wide ((Int64.toInt32 x1) ||| (-2147483648 : Int32)) h2) (fun x5 h6 =>
  rok x5 h6)))
noncomputable def f_X46_floatOf_b103 (a3 : Int32) (s0 : Int64) (s1 : Int32) (h : HP) : Rs Int64 :=
  f_X46_floatOf_b104  a3 s0 s1 (0 : Int32) h
noncomputable def f_X46_floatOf_b83 (a3 : Int32) (a4 : Int64) (a6 : Int32) (s0 : Int64) (s1 : Int32) (h : HP) : Rs Int64 :=
  if a6 = 0 then
  (if (lg_cmp (a4 &&& (3 : Int64)) (0 : Int64)) = 0 then
  (f_X46_floatOf_b103  a3 s0 s1 h)
  else
  (f_X46_floatOf_b104  a3 s0 s1 (1 : Int32) h))
  else
  (f_X46_floatOf_b103  a3 s0 s1 h)
noncomputable def f_X46_floatOf_b73 (a3 : Int32) (a4 : Int64) (a6 : Int32) (s0 : Int64) (h : HP) : Rs Int64 :=
  if a6 = 0 then
  (f_X46_floatOf_b83  a3 a4 a6 s0 (2 : Int32) h)
  else
  (f_X46_floatOf_b83  a3 a4 a6 s0 (0 : Int32) h)
noncomputable def f_X46_floatOf_b57 (a3 : Int32) (a4 : Int64) (s0 : Int32) (h : HP) : Rs Int64 :=
  if s0 = 0 then
  (f_X46_floatOf_b73  a3 a4 s0 (UInt64.toInt64 (Int64.toUInt64 a4 >>> (Int64.toUInt64 (Int32.toInt64 (2 : Int32)) &&& Int64.toUInt64 63))) h)
  else
  (f_X46_floatOf_b73  a3 a4 s0 a4 h)
noncomputable def f_X46_floatOf_b56 (a3 : Int32) (a4 : Int64) (h : HP) : Rs Int64 :=
  f_X46_floatOf_b57  a3 a4 (0 : Int32) h
noncomputable def f_X46_floatOf_b34 (a3 : Int32) (s0 : Int64) (h : HP) : Rs Int64 :=
  if (lg_cmp s0 (0 : Int64)) ≤ 0 then
  (f_X46_floatOf_b56  a3 s0 h)
  else
  (if 0 ≤ (lg_cmp s0 (4611686018427387904 : Int64)) then
  (f_X46_floatOf_b56  a3 s0 h)
  else
  (f_X46_floatOf_b57  a3 s0 (1 : Int32) h))
noncomputable def f_X46_floatOf_b23 (a0 : Int64) (s0 : Int32) (h : HP) : Rs Int64 :=
  if s0 = 0 then
  (f_X46_floatOf_b34  s0 a0 h)
  else
  (f_X46_floatOf_b34  s0 (-a0) h)
noncomputable def f_X46_floatOf_b22 (a0 : Int64) (h : HP) : Rs Int64 :=
  f_X46_floatOf_b23  a0 (0 : Int32) h
noncomputable def f_X46_floatOf (a0 : Int64) (a2 : Int32) (h : HP) : Rs Int64 :=
  if (lg_cmp a0 (0 : Int64)) = 0 then
  (rok (0 : Int64) h)
  else
  (if 0 ≤ (lg_cmp a0 (0 : Int64)) then
  (f_X46_floatOf_b22  a0 h)
  else
  (if a2 = 0 then
  (f_X46_floatOf_b23  a0 (1 : Int32) h)
  else
  (f_X46_floatOf_b22  a0 h)))
noncomputable def f_X46_isGreat (a0 : Int64) (h : HP) : Rs Int32 :=
  bd (f_X46_isInfinite a0 h) (fun x1 h2 =>
  if x1 = 0 then
  (bd (f_X46_isZero a0 h2) (fun x3 h4 =>
  if x3 = 0 then
  (bd (f_X46_exponent a0 h4) (fun x5 h6 =>
  if x5 ≤ (11 : Int32) then
  (rok (0 : Int32) h6)
  else
  (rok (1 : Int32) h6)))
  else
  (rok (0 : Int32) h4)))
  else
  (rok (1 : Int32) h2))
noncomputable def f_X46_isNone (a0 : Int64) (h : HP) : Rs Int32 :=
  if (lg_cmp (a0 &&& (9223372036854775807 : Int64)) (9218868437227405312 : Int64)) ≤ 0 then
  (rok (0 : Int32) h)
  else
  (rok (1 : Int32) h)
noncomputable def f_X46_multiply_b174 (a0 : Int64) (a2 : Int64) (a16 : Int64) (a18 : Int64) (a20 : Int32) (s0 : Int32) (h : HP) : Rs Int64 :=
  bd (f_X46_exponent a0 h) (fun x1 h2 =>
  bd (f_X46_exponent a2 h2) (fun x3 h4 =>
  bd (f_X46_made s0 ((a16 <<< (Int32.toInt64 (8 : Int32) &&& 63)) ||| (UInt64.toInt64 (Int64.toUInt64 a18 >>> (Int64.toUInt64 (Int32.toInt64 (19 : Int32)) &&& Int64.toUInt64 63)))) ((x1 + x3) + (46 : Int32)) a20 h4) (fun x5 h6 =>
  rok x5 h6)))
noncomputable def f_X46_multiply_b160 (a0 : Int64) (a2 : Int64) (a4 : Int64) (a16 : Int64) (a18 : Int64) (s0 : Int32) (h : HP) : Rs Int64 :=
  if (lg_cmp a4 (0 : Int64)) = 0 then
  (f_X46_multiply_b174  a0 a2 a16 a18 s0 (0 : Int32) h)
  else
  (f_X46_multiply_b174  a0 a2 a16 a18 s0 (1 : Int32) h)
noncomputable def f_X46_multiply_b155 (a0 : Int64) (a2 : Int64) (a4 : Int64) (a16 : Int64) (a18 : Int64) (h : HP) : Rs Int64 :=
  f_X46_multiply_b160  a0 a2 a4 a16 a18 (1 : Int32) h
noncomputable def f_X46_multiply (a0 : Int64) (a2 : Int64) (h : HP) : Rs Int64 :=
  lt3 ((a0 ^^^ a2) &&& (-9223372036854775808 : Int64)) fun x1 =>
  bd (f_X46_isInfinite a0 h) (fun x2 h3 =>
  if x2 = 0 then
  (bd (f_X46_isInfinite a2 h3) (fun x4 h5 =>
  if x4 = 0 then
  (bd (f_X46_isZero a0 h5) (fun x6 h7 =>
  if x6 = 0 then
  (bd (f_X46_isZero a2 h7) (fun x8 h9 =>
  if x8 = 0 then
  (bd (f_X46_significand a0 h9) (fun x10 h11 =>
  bd (f_X46_significand a2 h11) (fun x12 h13 =>
  lt3 ((x10 &&& (134217727 : Int64)) * (x12 &&& (134217727 : Int64))) fun x14 =>
  lt3 ((((UInt64.toInt64 (Int64.toUInt64 x10 >>> (Int64.toUInt64 (Int32.toInt64 (27 : Int32)) &&& Int64.toUInt64 63))) * (x12 &&& (134217727 : Int64))) + ((x10 &&& (134217727 : Int64)) * (UInt64.toInt64 (Int64.toUInt64 x12 >>> (Int64.toUInt64 (Int32.toInt64 (27 : Int32)) &&& Int64.toUInt64 63))))) + (UInt64.toInt64 (Int64.toUInt64 x14 >>> (Int64.toUInt64 (Int32.toInt64 (27 : Int32)) &&& Int64.toUInt64 63)))) fun x15 =>
  lt3 (((UInt64.toInt64 (Int64.toUInt64 x10 >>> (Int64.toUInt64 (Int32.toInt64 (27 : Int32)) &&& Int64.toUInt64 63))) * (UInt64.toInt64 (Int64.toUInt64 x12 >>> (Int64.toUInt64 (Int32.toInt64 (27 : Int32)) &&& Int64.toUInt64 63)))) + (UInt64.toInt64 (Int64.toUInt64 x15 >>> (Int64.toUInt64 (Int32.toInt64 (27 : Int32)) &&& Int64.toUInt64 63)))) fun x16 =>
  lt3 (x15 &&& (134217727 : Int64)) fun x17 =>
  if (lg_cmp (x14 &&& (134217727 : Int64)) (0 : Int64)) = 0 then
  (if (lg_cmp (x17 &&& (524287 : Int64)) (0 : Int64)) = 0 then
  (f_X46_multiply_b160  a0 a2 x1 x16 x17 (0 : Int32) h13)
  else
  (f_X46_multiply_b155  a0 a2 x1 x16 x17 h13))
  else
  (f_X46_multiply_b155  a0 a2 x1 x16 x17 h13))))
  else
  (rok x1 h9)))
  else
  (rok x1 h7)))
  else
  (rok (x1 ||| (9218868437227405312 : Int64)) h5)))
  else
  (rok (x1 ||| (9218868437227405312 : Int64)) h3))
noncomputable def f_X46_narrow_b12 (a0 : Int64) (s0 : Int32) (h : HP) : Rs Int32 :=
  bd (f_X46_isInfinite a0 h) (fun x1 h2 =>
  if x1 = 0 then
  (bd (f_X46_isZero a0 h2) (fun x3 h4 =>
  if x3 = 0 then
  (bd (f_X46_significand a0 h4) (fun x5 h6 =>
  bd (f_X46_exponent a0 h6) (fun x7 h8 =>
  bd (f_X46_rounded x5 x7 (0 : Int32) (24 : Int32) (127 : Int32) h8) (fun x9 h10 =>
  rok ((Int64.toInt32 x9) ||| s0) h10))))
  else
  (rok s0 h4)))
  else
  (rok (s0 ||| (2139095040 : Int32)) h2))
noncomputable def f_X46_narrow (a0 : Int64) (h : HP) : Rs Int32 :=
  if 0 ≤ (lg_cmp a0 (0 : Int64)) then
  (f_X46_narrow_b12  a0 (0 : Int32) h)
  else
  (f_X46_narrow_b12  a0 (-2147483648 : Int32) h)
noncomputable def f_X46_negative (a0 : Int64) (h : HP) : Rs Int64 :=
  rok (a0 ^^^ (-9223372036854775808 : Int64)) h
noncomputable def f_X47_init (a0 : Nat) (a1 : Nat) (a2 : Int32) (h : HP) : Rs Unit :=
  if a0 = 0 then none else (
  stR 45 353 a0 a1 h fun h1 =>
  stI 45 354 a0 a2 h1 fun h2 =>
  rok () h2)
noncomputable def f_X48_token (a0 : Nat) (h : HP) : Rs Nat :=
  ldR 46 356 a0 h fun x1 =>
  ldI 46 358 a0 h fun x2 =>
  lsGet x1 x2 h fun x3 =>
  castR [44] x3 h (
  rok x3 h)
noncomputable def f_X48_isSign (a0 : Nat) (a1 : Nat) (h : HP) : Rs Int32 :=
  if kc h a0 = 46 then
  bd (f_X48_token a0 h) (fun x1 h2 =>
  ldI 44 349 x1 h2 fun x3 =>
  if x3 = (8 : Int32) then
  (if kc h2 a0 = 46 then
  bd (f_X48_token a0 h2) (fun x4 h5 =>
  ldR 44 351 x4 h5 fun x6 =>
  txEq x6 a1 h5 fun x7 =>
  if x7 = 0 then
  (rok (0 : Int32) h5)
  else
  (rok (1 : Int32) h5))
  else none)
  else
  (rok (0 : Int32) h2))
  else none
noncomputable def f_X48_gone (a0 : Nat) (a1 : Nat) (h : HP) : Rs Int32 :=
  if kc h a0 = 46 then
  bd (f_X48_isSign a0 a1 h) (fun x1 h2 =>
  if x1 = 0 then
  (rokZ x1 h2)
  else
  (ldI 46 358 a0 h2 fun x3 =>
  stI 46 358 a0 (x3 + (1 : Int32)) h2 fun h4 =>
  rokZ x1 h4))
  else none
noncomputable def f_X5_at (a0 : Nat) (a1 : Int32) (a2 : Int32) (h : HP) : Rs Nat :=
  stI 6 131 a0 a1 h fun h1 =>
  stI 6 132 a0 a2 h1 fun h2 =>
  nwE h2 fun p3 h4 =>
  isInit p3 h4 fun h5 =>
  rok p3 h5
noncomputable def f_X48_wrong (a0 : Nat) (h : HP) : Rs Nat :=
  ldR 46 355 a0 h fun x1 =>
  if kc h a0 = 46 then
  bd (f_X48_token a0 h) (fun x2 h3 =>
  ldI 44 350 x2 h3 fun x4 =>
  if kc h3 x1 = 6 then
  bd (f_X5_at x1 (1 : Int32) x4 h3) (fun x5 h6 =>
  rok x5 h6)
  else none)
  else none
noncomputable def f_X48_name (a0 : Nat) (h : HP) : Rs Nat :=
  if kc h a0 = 46 then
  bd (f_X48_token a0 h) (fun x1 h2 =>
  ldI 44 349 x1 h2 fun x3 =>
  if x3 = (1 : Int32) then
  (ldI 46 358 a0 h2 fun x4 =>
  stI 46 358 a0 (x4 + (1 : Int32)) h2 fun h5 =>
  nwO 45 2 h5 fun p6 h7 =>
  ldR 44 351 x1 h7 fun x8 =>
  ldI 44 350 x1 h7 fun x9 =>
  if kc h7 p6 = 45 then
  bd (f_X47_init p6 x8 x9 h7) (fun _ h10 =>
  rok p6 h10)
  else none)
  else
  (if kc h2 a0 = 46 then
  bd (f_X48_wrong a0 h2) (fun x11 h12 =>
  if kc h12 x11 = 69 then rex h12 else none)
  else none))
  else none
noncomputable def f_X48_sign (a0 : Nat) (a1 : Nat) (h : HP) : Rs Unit :=
  if kc h a0 = 46 then
  bd (f_X48_isSign a0 a1 h) (fun x1 h2 =>
  if x1 = 0 then
  (if kc h2 a0 = 46 then
  bd (f_X48_wrong a0 h2) (fun x5 h6 =>
  if kc h6 x5 = 69 then rex h6 else none)
  else none)
  else
  (ldI 46 358 a0 h2 fun x3 =>
  stI 46 358 a0 (x3 + (1 : Int32)) h2 fun h4 =>
  rok () h4))
  else none
noncomputable def f_X4_plainKind_b195 (a2 : Int32) (h : HP) : Rs Int32 :=
  if a2 = 0 then
  (rok (0 : Int32) h)
  else
  if a2 = 1 then
  (rok (1 : Int32) h)
  else
  if a2 = 2 then
  (rok (2 : Int32) h)
  else
  if a2 = 3 then
  (rok (3 : Int32) h)
  else
  if a2 = 4 then
  (rok (4 : Int32) h)
  else
  if a2 = 5 then
  (rok (5 : Int32) h)
  else
  if a2 = 6 then
  (rok (6 : Int32) h)
  else
  if a2 = 7 then
  (rok (7 : Int32) h)
  else
  (rok (-1 : Int32) h)
noncomputable def f_X4_plainKind (a0 : Nat) (h : HP) : Rs Int32 :=
  txHash a0 h fun x1 =>
  if x1 = (-1325958191) then
  (txEq a0 46 h fun x2 =>
  if x2 = 0 then
  (f_X4_plainKind_b195  (-1 : Int32) h)
  else
  (f_X4_plainKind_b195  (7 : Int32) h))
  else
  if x1 = (104431) then
  (txEq a0 58 h fun x3 =>
  if x3 = 0 then
  (f_X4_plainKind_b195  (-1 : Int32) h)
  else
  (f_X4_plainKind_b195  (4 : Int32) h))
  else
  if x1 = (3039496) then
  (txEq a0 41 h fun x4 =>
  if x4 = 0 then
  (f_X4_plainKind_b195  (-1 : Int32) h)
  else
  (f_X4_plainKind_b195  (1 : Int32) h))
  else
  if x1 = (3052374) then
  (txEq a0 42 h fun x5 =>
  if x5 = 0 then
  (f_X4_plainKind_b195  (-1 : Int32) h)
  else
  (f_X4_plainKind_b195  (3 : Int32) h))
  else
  if x1 = (3327612) then
  (txEq a0 61 h fun x6 =>
  if x6 = 0 then
  (f_X4_plainKind_b195  (-1 : Int32) h)
  else
  (f_X4_plainKind_b195  (5 : Int32) h))
  else
  if x1 = (64711720) then
  (txEq a0 39 h fun x7 =>
  if x7 = 0 then
  (f_X4_plainKind_b195  (-1 : Int32) h)
  else
  (f_X4_plainKind_b195  (0 : Int32) h))
  else
  if x1 = (97526364) then
  (txEq a0 52 h fun x8 =>
  if x8 = 0 then
  (f_X4_plainKind_b195  (-1 : Int32) h)
  else
  (f_X4_plainKind_b195  (6 : Int32) h))
  else
  if x1 = (109413500) then
  (txEq a0 67 h fun x9 =>
  if x9 = 0 then
  (f_X4_plainKind_b195  (-1 : Int32) h)
  else
  (f_X4_plainKind_b195  (2 : Int32) h))
  else
  (f_X4_plainKind_b195  (-1 : Int32) h)
noncomputable def f_X48_beginsType (a0 : Nat) (h : HP) : Rs Int32 :=
  if kc h a0 = 46 then
  bd (f_X48_token a0 h) (fun x1 h2 =>
  ldI 44 349 x1 h2 fun x3 =>
  if x3 = (1 : Int32) then
  (rok (1 : Int32) h2)
  else
  (if kc h2 a0 = 46 then
  bd (f_X48_token a0 h2) (fun x4 h5 =>
  ldI 44 349 x4 h5 fun x6 =>
  if x6 = (2 : Int32) then
  (if kc h5 a0 = 46 then
  bd (f_X48_token a0 h5) (fun x7 h8 =>
  ldR 44 351 x7 h8 fun x9 =>
  bd (f_X4_plainKind x9 h8) (fun x10 h11 =>
  if x10 < 0 then
  (rok (0 : Int32) h11)
  else
  (rok (1 : Int32) h11)))
  else none)
  else
  (rok (0 : Int32) h5))
  else none))
  else none
noncomputable def f_X50_init (a0 : Nat) (a1 : Nat) (a2 : Int32) (a3 : Int32) (h : HP) : Rs Unit :=
  if a0 = 0 then none else (
  stI 48 383 a0 (-1 : Int32) h fun h1 =>
  stR 48 380 a0 a1 h1 fun h2 =>
  stI 48 381 a0 a2 h2 fun h3 =>
  stI 48 382 a0 a3 h3 fun h4 =>
  rok () h4)
noncomputable def b_X48_type_l29 (v0 : Nat) (v1 : Nat) (ih : Int32 → HP → Rs (Unit ⊕ Int32)) (a2 : Int32) (h : HP) : Rs (Unit ⊕ Int32) :=
  if kc h v0 = 46 then
  bd (f_X48_isSign v0 33 h) (fun x1 h2 =>
  if x1 = 0 then
  (rok (Sum.inr a2) h2)
  else
  (if a2 = (8 : Int32) then
  (rok (Sum.inl ()) h2)
  else
  (ldI 46 358 v0 h2 fun x3 =>
  stI 46 358 v0 (x3 + (1 : Int32)) h2 fun h4 =>
  if kc h4 v0 = 46 then
  bd (f_X48_sign v0 34 h4) (fun _ h5 =>
  lt3 (a2 + 1) fun x6 =>
  ih x6 h5)
  else none)))
  else none
noncomputable def f_X48_type_l29 (v0 : Nat) (v1 : Nat) (n : Nat) : Int32 → HP → Rs (Unit ⊕ Int32) := @Nat.rec (fun _ => Int32 → HP → Rs (Unit ⊕ Int32)) (fun _ _ => none) (fun _ ih => b_X48_type_l29 v0 v1 ih) n
noncomputable def f_X48_type (a0 : Nat) (h : HP) : Rs Nat :=
  if kc h a0 = 46 then
  bd (f_X48_token a0 h) (fun x1 h2 =>
  if kc h2 a0 = 46 then
  bd (f_X48_beginsType a0 h2) (fun x3 h4 =>
  if x3 = 0 then
  (if kc h4 a0 = 46 then
  bd (f_X48_wrong a0 h4) (fun x20 h21 =>
  if kc h21 x20 = 69 then rex h21 else none)
  else none)
  else
  (ldI 46 358 a0 h4 fun x5 =>
  stI 46 358 a0 (x5 + (1 : Int32)) h4 fun h6 =>
  bd (f_X48_type_l29 a0 x1 NN (0 : Int32) h6) (Sum.elim (fun x7 => fun h8 => if kc h8 a0 = 46 then
  bd (f_X48_wrong a0 h8) (fun x9 h10 =>
  if kc h10 x9 = 69 then rex h10 else none)
  else none) (fun x11 => fun h12 => nwO 48 4 h12 fun p13 h14 =>
  ldR 44 351 x1 h14 fun x15 =>
  ldI 44 350 x1 h14 fun x16 =>
  if kc h14 p13 = 48 then
  bd (f_X50_init p13 x15 x16 x11 h14) (fun _ h17 =>
  if x11 ≤ 0 then
  (rok p13 h17)
  else
  (ldR 46 360 a0 h17 fun x18 =>
  lsAdd x18 p13 h17 fun h19 =>
  rok p13 h19))
  else none))))
  else none)
  else none
noncomputable def f_X51_init (a0 : Nat) (a1 : Nat) (a2 : Nat) (h : HP) : Rs Unit :=
  if a0 = 0 then none else (
  stR 49 384 a0 a1 h fun h1 =>
  stR 49 385 a0 a2 h1 fun h2 =>
  rok () h2)
noncomputable def b_X48_components_l15 (v0 : Nat) (v1 : Nat) (ih : HP → Rs Unit) (h : HP) : Rs Unit :=
  if kc h v0 = 46 then
  bd (f_X48_type v0 h) (fun x1 h2 =>
  ldR 47 371 v1 h2 fun x3 =>
  nwO 49 2 h2 fun p4 h5 =>
  if kc h5 v0 = 46 then
  bd (f_X48_name v0 h5) (fun x6 h7 =>
  if kc h7 p4 = 49 then
  bd (f_X51_init p4 x1 x6 h7) (fun _ h8 =>
  lsAdd x3 p4 h8 fun h9 =>
  ldR 47 374 v1 h9 fun x10 =>
  ivOf (0 : Int32) h9 fun x11 h12 =>
  lsAdd x10 x11 h12 fun h13 =>
  if kc h13 v0 = 46 then
  bd (f_X48_gone v0 13 h13) (fun x14 h15 =>
  if x14 = 0 then
  (rok () h15)
  else
  (ih  h15))
  else none)
  else none)
  else none)
  else none
noncomputable def f_X48_components_l15 (v0 : Nat) (v1 : Nat) (n : Nat) : HP → Rs Unit := @Nat.rec (fun _ => HP → Rs Unit) (fun _ => none) (fun _ ih => b_X48_components_l15 v0 v1 ih) n
noncomputable def f_X48_components (a0 : Nat) (a1 : Nat) (h : HP) : Rs Unit :=
  if kc h a0 = 46 then
  bd (f_X48_sign a0 9 h) (fun _ h1 =>
  if kc h1 a0 = 46 then
  bd (f_X48_isSign a0 10 h1) (fun x2 h3 =>
  if x2 = 0 then
  (bd (f_X48_components_l15 a0 a1 NN h3) (fun x5 h6 => if kc h6 a0 = 46 then
  bd (f_X48_sign a0 10 h6) (fun _ h7 =>
  rok () h7)
  else none))
  else
  (if kc h3 a0 = 46 then
  bd (f_X48_sign a0 10 h3) (fun _ h4 =>
  rok () h4)
  else none))
  else none)
  else none
noncomputable def f_X48_constants_l12b49 (v0 : Nat) (v1 : Nat) (ih : HP → Rs (Unit ⊕ Unit)) (h : HP) : Rs (Unit ⊕ Unit) :=
  ldR 47 373 v1 h fun x1 =>
  if kc h v0 = 46 then
  bd (f_X48_name v0 h) (fun x2 h3 =>
  lsAdd x1 x2 h3 fun h4 =>
  ih  h4)
  else none
noncomputable def b_X48_constants_l12 (v0 : Nat) (v1 : Nat) (ih : HP → Rs (Unit ⊕ Unit)) (h : HP) : Rs (Unit ⊕ Unit) :=
  if kc h v0 = 46 then
  bd (f_X48_gone v0 13 h) (fun x1 h2 =>
  if x1 = 0 then
  (rok (Sum.inr ()) h2)
  else
  (ldR 47 373 v1 h2 fun x3 =>
  lsSize x3 h2 fun x4 =>
  if x4 = (40 : Int32) then
  (if kc h2 v0 = 46 then
  bd (f_X48_token v0 h2) (fun x5 h6 =>
  ldI 44 349 x5 h6 fun x7 =>
  if x7 = (1 : Int32) then
  (rok (Sum.inl ()) h6)
  else
  (f_X48_constants_l12b49 v0 v1 ih h6))
  else none)
  else
  (f_X48_constants_l12b49 v0 v1 ih h2)))
  else none
noncomputable def f_X48_constants_l12 (v0 : Nat) (v1 : Nat) (n : Nat) : HP → Rs (Unit ⊕ Unit) := @Nat.rec (fun _ => HP → Rs (Unit ⊕ Unit)) (fun _ => none) (fun _ ih => b_X48_constants_l12 v0 v1 ih) n
noncomputable def f_X48_constants (a0 : Nat) (a1 : Nat) (h : HP) : Rs Unit :=
  ldR 47 373 a1 h fun x1 =>
  if kc h a0 = 46 then
  bd (f_X48_name a0 h) (fun x2 h3 =>
  lsAdd x1 x2 h3 fun h4 =>
  bd (f_X48_constants_l12 a0 a1 NN h4) (Sum.elim (fun x5 => fun h6 => if kc h6 a0 = 46 then
  bd (f_X48_wrong a0 h6) (fun x7 h8 =>
  if kc h8 x7 = 69 then rex h8 else none)
  else none) (fun x9 => fun h10 => if kc h10 a0 = 46 then
  bd (f_X48_sign a0 76 h10) (fun _ h11 =>
  rok () h11)
  else none)))
  else none
noncomputable def f_X48_isKey (a0 : Nat) (a1 : Nat) (h : HP) : Rs Int32 :=
  if kc h a0 = 46 then
  bd (f_X48_token a0 h) (fun x1 h2 =>
  ldI 44 349 x1 h2 fun x3 =>
  if x3 = (2 : Int32) then
  (if kc h2 a0 = 46 then
  bd (f_X48_token a0 h2) (fun x4 h5 =>
  ldR 44 351 x4 h5 fun x6 =>
  txEq x6 a1 h5 fun x7 =>
  if x7 = 0 then
  (rok (0 : Int32) h5)
  else
  (rok (1 : Int32) h5))
  else none)
  else
  (rok (0 : Int32) h2))
  else none
noncomputable def f_X48_deeper (a0 : Nat) (a1 : Int32) (h : HP) : Rs Int32 :=
  if a1 = (30 : Int32) then
  (if kc h a0 = 46 then
  bd (f_X48_wrong a0 h) (fun x1 h2 =>
  if kc h2 x1 = 69 then rex h2 else none)
  else none)
  else
  (rok (a1 + (1 : Int32)) h)
noncomputable def f_X53_init (a0 : Nat) (a1 : Int32) (a2 : Int32) (a3 : Nat) (a4 : Int64) (a6 : Int32) (a7 : Nat) (h : HP) : Rs Unit :=
  if a0 = 0 then none else (
  stI 51 395 a0 a1 h fun h1 =>
  stI 51 396 a0 a2 h1 fun h2 =>
  stR 51 397 a0 a3 h2 fun h3 =>
  stJ 51 398 a0 a4 h3 fun h4 =>
  stI 51 399 a0 a6 h4 fun h5 =>
  stR 51 400 a0 a7 h5 fun h6 =>
  rok () h6)
noncomputable def f_X48_item (a0 : Nat) (a1 : Int32) (a2 : Int32) (a3 : Nat) (a4 : Int64) (a6 : Int32) (a7 : Nat) (h : HP) : Rs Unit :=
  ldR 46 359 a0 h fun x1 =>
  nwO 51 6 h fun p2 h3 =>
  if kc h3 p2 = 51 then
  bd (f_X53_init p2 a1 a2 a3 a4 a6 a7 h3) (fun _ h4 =>
  lsAdd x1 p2 h4 fun h5 =>
  rok () h5)
  else none
noncomputable def f_X48_key (a0 : Nat) (a1 : Nat) (h : HP) : Rs Unit :=
  if kc h a0 = 46 then
  bd (f_X48_isKey a0 a1 h) (fun x1 h2 =>
  if x1 = 0 then
  (if kc h2 a0 = 46 then
  bd (f_X48_wrong a0 h2) (fun x5 h6 =>
  if kc h6 x5 = 69 then rex h6 else none)
  else none)
  else
  (ldI 46 358 a0 h2 fun x3 =>
  stI 46 358 a0 (x3 + (1 : Int32)) h2 fun h4 =>
  rok () h4))
  else none
noncomputable def b_X48_isCast_l81 (v0 : Nat) (v1 : Nat) (ih : Int32 → HP → Rs (Unit ⊕ Unit)) (a2 : Int32) (h : HP) : Rs (Unit ⊕ Unit) :=
  ldR 46 357 v0 h fun x1 =>
  lsSize x1 h fun x2 =>
  if x2 ≤ a2 then
  (rok (Sum.inr ()) h)
  else
  (ldR 46 357 v0 h fun x3 =>
  lsGet x3 a2 h fun x4 =>
  castR [45] x4 h (
  ldR 45 353 x4 h fun x5 =>
  ldR 44 351 v1 h fun x6 =>
  txEq x5 x6 h fun x7 =>
  if x7 = 0 then
  (lt3 (a2 + 1) fun x8 =>
  ih x8 h)
  else
  (rok (Sum.inl ()) h)))
noncomputable def f_X48_isCast_l81 (v0 : Nat) (v1 : Nat) (n : Nat) : Int32 → HP → Rs (Unit ⊕ Unit) := @Nat.rec (fun _ => Int32 → HP → Rs (Unit ⊕ Unit)) (fun _ _ => none) (fun _ ih => b_X48_isCast_l81 v0 v1 ih) n
noncomputable def f_X48_isCast (a0 : Nat) (h : HP) : Rs Int32 :=
  ldR 46 356 a0 h fun x1 =>
  ldI 46 358 a0 h fun x2 =>
  lsGet x1 (x2 + (1 : Int32)) h fun x3 =>
  castR [44] x3 h (
  ldI 44 349 x3 h fun x4 =>
  if x4 = (2 : Int32) then
  (ldR 44 351 x3 h fun x14 =>
  bd (f_X4_plainKind x14 h) (fun x15 h16 =>
  if x15 < 0 then
  (rok (0 : Int32) h16)
  else
  (rok (1 : Int32) h16)))
  else
  (ldI 44 349 x3 h fun x5 =>
  if x5 = (1 : Int32) then
  (ldR 44 351 x3 h fun x6 =>
  txEq x6 30 h fun x7 =>
  if x7 = 0 then
  (ldR 44 351 x3 h fun x8 =>
  txEq x8 31 h fun x9 =>
  if x9 = 0 then
  (bd (f_X48_isCast_l81 a0 x3 NN (0 : Int32) h) (Sum.elim (fun x10 => fun h11 => rok (1 : Int32) h11) (fun x12 => fun h13 => rok (0 : Int32) h13)))
  else
  (rok (1 : Int32) h))
  else
  (rok (1 : Int32) h))
  else
  (rok (0 : Int32) h)))
noncomputable def f_X4_rankOf_b467 (a2 : Int32) (h : HP) : Rs Int32 :=
  if a2 = 0 then
  (rok (0 : Int32) h)
  else
  if a2 = 1 then
  (rok (1 : Int32) h)
  else
  if a2 = 2 then
  (rok (2 : Int32) h)
  else
  if a2 = 3 then
  (rok (3 : Int32) h)
  else
  if a2 = 4 then
  (rok (4 : Int32) h)
  else
  if a2 = 5 then
  (rok (5 : Int32) h)
  else
  if a2 = 6 then
  (rok (5 : Int32) h)
  else
  if a2 = 7 then
  (rok (6 : Int32) h)
  else
  if a2 = 8 then
  (rok (6 : Int32) h)
  else
  if a2 = 9 then
  (rok (6 : Int32) h)
  else
  if a2 = 10 then
  (rok (6 : Int32) h)
  else
  if a2 = 11 then
  (rok (7 : Int32) h)
  else
  if a2 = 12 then
  (rok (7 : Int32) h)
  else
  if a2 = 13 then
  (rok (7 : Int32) h)
  else
  if a2 = 14 then
  (rok (8 : Int32) h)
  else
  if a2 = 15 then
  (rok (8 : Int32) h)
  else
  if a2 = 16 then
  (rok (9 : Int32) h)
  else
  if a2 = 17 then
  (rok (9 : Int32) h)
  else
  if a2 = 18 then
  (rok (9 : Int32) h)
  else
  (rok (-1 : Int32) h)
noncomputable def f_X4_rankOf (a0 : Nat) (h : HP) : Rs Int32 :=
  txHash a0 h fun x1 =>
  if x1 = (37) then
  (txEq a0 6 h fun x2 =>
  if x2 = 0 then
  (f_X4_rankOf_b467  (-1 : Int32) h)
  else
  (f_X4_rankOf_b467  (18 : Int32) h))
  else
  if x1 = (38) then
  (txEq a0 7 h fun x3 =>
  if x3 = 0 then
  (f_X4_rankOf_b467  (-1 : Int32) h)
  else
  (f_X4_rankOf_b467  (4 : Int32) h))
  else
  if x1 = (42) then
  (txEq a0 11 h fun x4 =>
  if x4 = 0 then
  (f_X4_rankOf_b467  (-1 : Int32) h)
  else
  (f_X4_rankOf_b467  (16 : Int32) h))
  else
  if x1 = (43) then
  (txEq a0 12 h fun x5 =>
  if x5 = 0 then
  (f_X4_rankOf_b467  (-1 : Int32) h)
  else
  (f_X4_rankOf_b467  (14 : Int32) h))
  else
  if x1 = (45) then
  (txEq a0 14 h fun x6 =>
  if x6 = 0 then
  (f_X4_rankOf_b467  (-1 : Int32) h)
  else
  (f_X4_rankOf_b467  (15 : Int32) h))
  else
  if x1 = (47) then
  (txEq a0 16 h fun x7 =>
  if x7 = 0 then
  (f_X4_rankOf_b467  (-1 : Int32) h)
  else
  (f_X4_rankOf_b467  (17 : Int32) h))
  else
  if x1 = (60) then
  (txEq a0 19 h fun x8 =>
  if x8 = 0 then
  (f_X4_rankOf_b467  (-1 : Int32) h)
  else
  (f_X4_rankOf_b467  (7 : Int32) h))
  else
  if x1 = (62) then
  (txEq a0 24 h fun x9 =>
  if x9 = 0 then
  (f_X4_rankOf_b467  (-1 : Int32) h)
  else
  (f_X4_rankOf_b467  (8 : Int32) h))
  else
  if x1 = (94) then
  (txEq a0 35 h fun x10 =>
  if x10 = 0 then
  (f_X4_rankOf_b467  (-1 : Int32) h)
  else
  (f_X4_rankOf_b467  (3 : Int32) h))
  else
  if x1 = (124) then
  (txEq a0 74 h fun x11 =>
  if x11 = 0 then
  (f_X4_rankOf_b467  (-1 : Int32) h)
  else
  (f_X4_rankOf_b467  (2 : Int32) h))
  else
  if x1 = (1084) then
  (txEq a0 5 h fun x12 =>
  if x12 = 0 then
  (f_X4_rankOf_b467  (-1 : Int32) h)
  else
  (f_X4_rankOf_b467  (6 : Int32) h))
  else
  if x1 = (1216) then
  (txEq a0 8 h fun x13 =>
  if x13 = 0 then
  (f_X4_rankOf_b467  (-1 : Int32) h)
  else
  (f_X4_rankOf_b467  (1 : Int32) h))
  else
  if x1 = (1920) then
  (txEq a0 20 h fun x14 =>
  if x14 = 0 then
  (f_X4_rankOf_b467  (-1 : Int32) h)
  else
  (f_X4_rankOf_b467  (11 : Int32) h))
  else
  if x1 = (1921) then
  (txEq a0 21 h fun x15 =>
  if x15 = 0 then
  (f_X4_rankOf_b467  (-1 : Int32) h)
  else
  (f_X4_rankOf_b467  (9 : Int32) h))
  else
  if x1 = (1952) then
  (txEq a0 23 h fun x16 =>
  if x16 = 0 then
  (f_X4_rankOf_b467  (-1 : Int32) h)
  else
  (f_X4_rankOf_b467  (5 : Int32) h))
  else
  if x1 = (1983) then
  (txEq a0 25 h fun x17 =>
  if x17 = 0 then
  (f_X4_rankOf_b467  (-1 : Int32) h)
  else
  (f_X4_rankOf_b467  (10 : Int32) h))
  else
  if x1 = (1984) then
  (txEq a0 26 h fun x18 =>
  if x18 = 0 then
  (f_X4_rankOf_b467  (-1 : Int32) h)
  else
  (f_X4_rankOf_b467  (12 : Int32) h))
  else
  if x1 = (3968) then
  (txEq a0 75 h fun x19 =>
  if x19 = 0 then
  (f_X4_rankOf_b467  (-1 : Int32) h)
  else
  (f_X4_rankOf_b467  (0 : Int32) h))
  else
  if x1 = (61566) then
  (txEq a0 27 h fun x20 =>
  if x20 = 0 then
  (f_X4_rankOf_b467  (-1 : Int32) h)
  else
  (f_X4_rankOf_b467  (13 : Int32) h))
  else
  (f_X4_rankOf_b467  (-1 : Int32) h)
