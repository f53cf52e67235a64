/-! LAYER 3: methods, printed by dec.py -/
set_option maxRecDepth 100000
abbrev TY_S7 : Type := (Nat → Int32 → HP → Rs Int32) × (Nat → Int32 → HP → Rs Unit) × (Nat → Int32 → HP → Rs Unit) × (Nat → Int32 → HP → Rs Unit) × (Nat → Int32 → Int32 → HP → Rs Unit) × (Nat → Int32 → HP → Rs Unit)
noncomputable def b_X48_arguments_l27 (R : TY_S7) (v0 : Nat) (v2 : Int32) (ih : Int32 → HP → Rs Int32) (a3 : Int32) (h : HP) : Rs Int32 :=
  if kc h v0 = 46 then
  bd (R.2.1 v0 v2 h) (fun _ h1 =>
  lt3 (a3 + 1) fun x2 =>
  if kc h1 v0 = 46 then
  bd (f_X48_gone v0 13 h1) (fun x3 h4 =>
  if x3 = 0 then
  (rok x2 h4)
  else
  (ih x2 h4))
  else none)
  else none
noncomputable def f_X48_arguments_l27 (R : TY_S7) (v0 : Nat) (v2 : Int32) (n : Nat) : Int32 → HP → Rs Int32 := @Nat.rec (fun _ => Int32 → HP → Rs Int32) (fun _ _ => none) (fun _ ih => b_X48_arguments_l27 R v0 v2 ih) n
noncomputable def f_X48_arguments_o (R : TY_S7) (a0 : Nat) (a1 : Int32) (h : HP) : Rs Int32 :=
  if kc h a0 = 46 then
  bd (f_X48_deeper a0 a1 h) (fun x1 h2 =>
  ldI 46 358 a0 h2 fun x3 =>
  stI 46 358 a0 (x3 + (1 : Int32)) h2 fun h4 =>
  if kc h4 a0 = 46 then
  bd (f_X48_isSign a0 10 h4) (fun x5 h6 =>
  if x5 = 0 then
  (bd (f_X48_arguments_l27 R a0 x1 NN (0 : Int32) h6) (fun x8 h9 => if kc h9 a0 = 46 then
  bd (f_X48_sign a0 10 h9) (fun _ h10 =>
  rok x8 h10)
  else none))
  else
  (if kc h6 a0 = 46 then
  bd (f_X48_sign a0 10 h6) (fun _ h7 =>
  rok (0 : Int32) h7)
  else none))
  else none)
  else none
noncomputable def f_X48_expression_2_b56 (R : TY_S7) (a0 : Nat) (a1 : Int32) (s0 : Int32) (h : HP) : Rs Unit :=
  if s0 ≤ 0 then
  (if kc h a0 = 46 then
  bd (R.2.2.2.2.1 a0 (0 : Int32) a1 h) (fun _ h1 =>
  if kc h1 a0 = 46 then
  bd (f_X48_isSign a0 28 h1) (fun x2 h3 =>
  if x2 = 0 then
  (rok () h3)
  else
  (if kc h3 a0 = 46 then
  bd (f_X48_deeper a0 a1 h3) (fun x4 h5 =>
  if kc h5 a0 = 46 then
  bd (f_X48_token a0 h5) (fun x6 h7 =>
  ldI 44 350 x6 h7 fun x8 =>
  ldI 46 358 a0 h7 fun x9 =>
  stI 46 358 a0 (x9 + (1 : Int32)) h7 fun h10 =>
  if kc h10 a0 = 46 then
  bd (f_X48_item a0 (15 : Int32) x8 1 (0 : Int64) (0 : Int32) 0 h10) (fun _ h11 =>
  if kc h11 a0 = 46 then
  bd (R.2.1 a0 x4 h11) (fun _ h12 =>
  if kc h12 a0 = 46 then
  bd (f_X48_isSign a0 17 h12) (fun x13 h14 =>
  if x13 = 0 then
  (if kc h14 a0 = 46 then
  bd (f_X48_wrong a0 h14) (fun x22 h23 =>
  if kc h23 x22 = 69 then rex h23 else none)
  else none)
  else
  (if kc h14 a0 = 46 then
  bd (f_X48_deeper a0 a1 h14) (fun x15 h16 =>
  ldI 46 358 a0 h16 fun x17 =>
  stI 46 358 a0 (x17 + (1 : Int32)) h16 fun h18 =>
  if kc h18 a0 = 46 then
  bd (f_X48_item a0 (16 : Int32) x8 1 (0 : Int64) (0 : Int32) 0 h18) (fun _ h19 =>
  if kc h19 a0 = 46 then
  bd (R.2.1 a0 x15 h19) (fun _ h20 =>
  if kc h20 a0 = 46 then
  bd (f_X48_item a0 (17 : Int32) x8 1 (0 : Int64) (0 : Int32) 0 h20) (fun _ h21 =>
  rok () h21)
  else none)
  else none)
  else none)
  else none))
  else none)
  else none)
  else none)
  else none)
  else none))
  else none)
  else none)
  else
  (if kc h a0 = 46 then
  bd (f_X48_deeper a0 a1 h) (fun x24 h25 =>
  ldI 46 358 a0 h25 fun x26 =>
  stI 46 358 a0 (x26 + (1 : Int32)) h25 fun h27 =>
  if kc h27 a0 = 46 then
  bd (f_X48_name a0 h27) (fun x28 h29 =>
  if kc h29 a0 = 46 then
  bd (f_X48_key a0 56 h29) (fun _ h30 =>
  if kc h30 a0 = 46 then
  bd (R.2.2.2.2.2 a0 x24 h30) (fun _ h31 =>
  ldI 45 354 x28 h31 fun x32 =>
  ldR 45 353 x28 h31 fun x33 =>
  if kc h31 a0 = 46 then
  bd (f_X48_item a0 (18 : Int32) x32 x33 (0 : Int64) s0 0 h31) (fun _ h34 =>
  if kc h34 a0 = 46 then
  bd (f_X48_sign a0 17 h34) (fun _ h35 =>
  if kc h35 a0 = 46 then
  bd (R.2.1 a0 x24 h35) (fun _ h36 =>
  ldI 45 354 x28 h36 fun x37 =>
  ldR 45 353 x28 h36 fun x38 =>
  if kc h36 a0 = 46 then
  bd (f_X48_item a0 (19 : Int32) x37 x38 (0 : Int64) s0 0 h36) (fun _ h39 =>
  rok () h39)
  else none)
  else none)
  else none)
  else none)
  else none)
  else none)
  else none)
  else none)
noncomputable def f_X48_expression_2_o (R : TY_S7) (a0 : Nat) (a1 : Int32) (h : HP) : Rs Unit :=
  if kc h a0 = 46 then
  bd (f_X48_isKey a0 49 h) (fun x1 h2 =>
  if x1 = 0 then
  (if kc h2 a0 = 46 then
  bd (f_X48_isKey a0 37 h2) (fun x3 h4 =>
  if x3 = 0 then
  (if kc h4 a0 = 46 then
  bd (f_X48_isKey a0 44 h4) (fun x5 h6 =>
  if x5 = 0 then
  (if kc h6 a0 = 46 then
  bd (f_X48_isKey a0 68 h6) (fun x7 h8 =>
  if x7 = 0 then
  (f_X48_expression_2_b56 R  a0 a1 (0 : Int32) h8)
  else
  (f_X48_expression_2_b56 R  a0 a1 (4 : Int32) h8))
  else none)
  else
  (f_X48_expression_2_b56 R  a0 a1 (3 : Int32) h6))
  else none)
  else
  (f_X48_expression_2_b56 R  a0 a1 (2 : Int32) h4))
  else none)
  else
  (f_X48_expression_2_b56 R  a0 a1 (1 : Int32) h2))
  else none
noncomputable def f_X48_postfix_l5b149 (R : TY_S7) (v0 : Nat) (v1 : Int32) (ih : HP → Rs Unit) (h : HP) : Rs Unit :=
  ih  h
noncomputable def f_X48_postfix_l5b24 (R : TY_S7) (v0 : Nat) (v1 : Int32) (ih : HP → Rs Unit) (h : HP) : Rs Unit :=
  if kc h v0 = 46 then
  bd (f_X48_isSign v0 33 h) (fun x1 h2 =>
  if x1 = 0 then
  (ldI 46 358 v0 h2 fun x3 =>
  stI 46 358 v0 (x3 + (1 : Int32)) h2 fun h4 =>
  if kc h4 v0 = 46 then
  bd (f_X48_name v0 h4) (fun x5 h6 =>
  if kc h6 v0 = 46 then
  bd (f_X48_isSign v0 9 h6) (fun x7 h8 =>
  if x7 = 0 then
  (ldI 45 354 x5 h8 fun x9 =>
  ldR 45 353 x5 h8 fun x10 =>
  if kc h8 v0 = 46 then
  bd (f_X48_item v0 (6 : Int32) x9 x10 (0 : Int64) (0 : Int32) 0 h8) (fun _ h11 =>
  f_X48_postfix_l5b149 R v0 v1 ih h11)
  else none)
  else
  (ldI 45 354 x5 h8 fun x12 =>
  ldR 45 353 x5 h8 fun x13 =>
  if kc h8 v0 = 46 then
  bd (R.1 v0 v1 h8) (fun x14 h15 =>
  if kc h15 v0 = 46 then
  bd (f_X48_item v0 (7 : Int32) x12 x13 (1 : Int64) x14 0 h15) (fun _ h16 =>
  f_X48_postfix_l5b149 R v0 v1 ih h16)
  else none)
  else none))
  else none)
  else none)
  else
  (if kc h2 v0 = 46 then
  bd (f_X48_token v0 h2) (fun x17 h18 =>
  ldI 44 350 x17 h18 fun x19 =>
  if kc h18 v0 = 46 then
  bd (f_X48_deeper v0 v1 h18) (fun x20 h21 =>
  ldI 46 358 v0 h21 fun x22 =>
  stI 46 358 v0 (x22 + (1 : Int32)) h21 fun h23 =>
  if kc h23 v0 = 46 then
  bd (R.2.1 v0 x20 h23) (fun _ h24 =>
  if kc h24 v0 = 46 then
  bd (f_X48_sign v0 34 h24) (fun _ h25 =>
  if kc h25 v0 = 46 then
  bd (f_X48_item v0 (8 : Int32) x19 1 (0 : Int64) (0 : Int32) 0 h25) (fun _ h26 =>
  ih  h26)
  else none)
  else none)
  else none)
  else none)
  else none))
  else none
noncomputable def b_X48_postfix_l5 (R : TY_S7) (v0 : Nat) (v1 : Int32) (ih : HP → Rs Unit) (h : HP) : Rs Unit :=
  if kc h v0 = 46 then
  bd (f_X48_isSign v0 15 h) (fun x1 h2 =>
  if x1 = 0 then
  (if kc h2 v0 = 46 then
  bd (f_X48_isSign v0 33 h2) (fun x3 h4 =>
  if x3 = 0 then
  (rok () h4)
  else
  (f_X48_postfix_l5b24 R v0 v1 ih h4))
  else none)
  else
  (f_X48_postfix_l5b24 R v0 v1 ih h2))
  else none
noncomputable def f_X48_postfix_l5 (R : TY_S7) (v0 : Nat) (v1 : Int32) (n : Nat) : HP → Rs Unit := @Nat.rec (fun _ => HP → Rs Unit) (fun _ => none) (fun _ ih => b_X48_postfix_l5 R v0 v1 ih) n
noncomputable def f_X48_postfix_o (R : TY_S7) (a0 : Nat) (a1 : Int32) (h : HP) : Rs Unit :=
  if kc h a0 = 46 then
  bd (R.2.2.2.1 a0 a1 h) (fun _ h1 =>
  bd (f_X48_postfix_l5 R a0 a1 NN h1) (fun x2 h3 => rok () h3))
  else none
noncomputable def f_X48_primary_b38 (R : TY_S7) (a0 : Nat) (a2 : Nat) (h : HP) : Rs Unit :=
  ldI 46 358 a0 h fun x1 =>
  stI 46 358 a0 (x1 + (1 : Int32)) h fun h2 =>
  ldI 44 350 a2 h2 fun x3 =>
  ldJ 44 352 a2 h2 fun x4 =>
  ldI 44 349 a2 h2 fun x5 =>
  if x5 = (3 : Int32) then
  (if kc h2 a0 = 46 then
  bd (f_X48_item a0 (1 : Int32) x3 1 x4 (4 : Int32) 0 h2) (fun _ h11 =>
  rok () h11)
  else none)
  else
  (ldI 44 349 a2 h2 fun x6 =>
  if x6 = (4 : Int32) then
  (if kc h2 a0 = 46 then
  bd (f_X48_item a0 (1 : Int32) x3 1 x4 (5 : Int32) 0 h2) (fun _ h10 =>
  rok () h10)
  else none)
  else
  (ldI 44 349 a2 h2 fun x7 =>
  if x7 = (5 : Int32) then
  (if kc h2 a0 = 46 then
  bd (f_X48_item a0 (1 : Int32) x3 1 x4 (7 : Int32) 0 h2) (fun _ h9 =>
  rok () h9)
  else none)
  else
  (if kc h2 a0 = 46 then
  bd (f_X48_item a0 (1 : Int32) x3 1 x4 (3 : Int32) 0 h2) (fun _ h8 =>
  rok () h8)
  else none)))
noncomputable def f_X48_primary_b187 (R : TY_S7) (a0 : Nat) (a2 : Nat) (h : HP) : Rs Unit :=
  ldI 46 358 a0 h fun x1 =>
  stI 46 358 a0 (x1 + (1 : Int32)) h fun h2 =>
  ldI 44 350 a2 h2 fun x3 =>
  ldR 44 351 a2 h2 fun x4 =>
  txEq x4 70 h2 fun x5 =>
  if x5 = 0 then
  (if kc h2 a0 = 46 then
  bd (f_X48_item a0 (1 : Int32) x3 1 (0 : Int64) (0 : Int32) 0 h2) (fun _ h6 =>
  rok () h6)
  else none)
  else
  (if kc h2 a0 = 46 then
  bd (f_X48_item a0 (1 : Int32) x3 1 (1 : Int64) (0 : Int32) 0 h2) (fun _ h7 =>
  rok () h7)
  else none)
noncomputable def f_X48_primary_b281 (R : TY_S7) (a2 : Nat) (s0 : Nat) (s1 : Int32) (h : HP) : Rs Unit :=
  ldI 44 350 a2 h fun x1 =>
  if kc h s0 = 46 then
  bd (f_X48_item s0 s1 x1 1 (0 : Int64) (0 : Int32) 0 h) (fun _ h2 =>
  rok () h2)
  else none
noncomputable def f_X48_primary_b252 (R : TY_S7) (a0 : Nat) (a2 : Nat) (h : HP) : Rs Unit :=
  ldI 46 358 a0 h fun x1 =>
  stI 46 358 a0 (x1 + (1 : Int32)) h fun h2 =>
  ldR 44 351 a2 h2 fun x3 =>
  txEq x3 62 h2 fun x4 =>
  if x4 = 0 then
  (f_X48_primary_b281 R  a2 a0 (4 : Int32) h2)
  else
  (f_X48_primary_b281 R  a2 a0 (3 : Int32) h2)
noncomputable def f_X48_primary_o (R : TY_S7) (a0 : Nat) (a1 : Int32) (h : HP) : Rs Unit :=
  if kc h a0 = 46 then
  bd (f_X48_token a0 h) (fun x1 h2 =>
  ldI 44 349 x1 h2 fun x3 =>
  if x3 = (3 : Int32) then
  (f_X48_primary_b38 R  a0 x1 h2)
  else
  (ldI 44 349 x1 h2 fun x4 =>
  if x4 = (4 : Int32) then
  (f_X48_primary_b38 R  a0 x1 h2)
  else
  (ldI 44 349 x1 h2 fun x5 =>
  if x5 = (5 : Int32) then
  (f_X48_primary_b38 R  a0 x1 h2)
  else
  (ldI 44 349 x1 h2 fun x6 =>
  if x6 = (6 : Int32) then
  (f_X48_primary_b38 R  a0 x1 h2)
  else
  (ldI 44 349 x1 h2 fun x7 =>
  if x7 = (7 : Int32) then
  (ldI 46 358 a0 h2 fun x41 =>
  stI 46 358 a0 (x41 + (1 : Int32)) h2 fun h42 =>
  ldR 46 361 a0 h42 fun x43 =>
  nwO 45 2 h42 fun p44 h45 =>
  ldR 44 351 x1 h45 fun x46 =>
  ldI 44 350 x1 h45 fun x47 =>
  if kc h45 p44 = 45 then
  bd (f_X47_init p44 x46 x47 h45) (fun _ h48 =>
  lsAdd x43 p44 h48 fun h49 =>
  ldI 44 350 x1 h49 fun x50 =>
  ldR 44 351 x1 h49 fun x51 =>
  if kc h49 a0 = 46 then
  bd (f_X48_item a0 (2 : Int32) x50 x51 (0 : Int64) (0 : Int32) 0 h49) (fun _ h52 =>
  rok () h52)
  else none)
  else none)
  else
  (if kc h2 a0 = 46 then
  bd (f_X48_isKey a0 70 h2) (fun x8 h9 =>
  if x8 = 0 then
  (if kc h9 a0 = 46 then
  bd (f_X48_isKey a0 51 h9) (fun x10 h11 =>
  if x10 = 0 then
  (if kc h11 a0 = 46 then
  bd (f_X48_isKey a0 62 h11) (fun x12 h13 =>
  if x12 = 0 then
  (if kc h13 a0 = 46 then
  bd (f_X48_isKey a0 69 h13) (fun x14 h15 =>
  if x14 = 0 then
  (ldI 44 349 x1 h15 fun x16 =>
  if x16 = (1 : Int32) then
  (ldI 46 358 a0 h15 fun x29 =>
  stI 46 358 a0 (x29 + (1 : Int32)) h15 fun h30 =>
  if kc h30 a0 = 46 then
  bd (f_X48_isSign a0 9 h30) (fun x31 h32 =>
  if x31 = 0 then
  (ldI 44 350 x1 h32 fun x33 =>
  ldR 44 351 x1 h32 fun x34 =>
  if kc h32 a0 = 46 then
  bd (f_X48_item a0 (5 : Int32) x33 x34 (0 : Int64) (0 : Int32) 0 h32) (fun _ h35 =>
  rok () h35)
  else none)
  else
  (ldI 44 350 x1 h32 fun x36 =>
  ldR 44 351 x1 h32 fun x37 =>
  if kc h32 a0 = 46 then
  bd (R.1 a0 a1 h32) (fun x38 h39 =>
  if kc h39 a0 = 46 then
  bd (f_X48_item a0 (7 : Int32) x36 x37 (0 : Int64) x38 0 h39) (fun _ h40 =>
  rok () h40)
  else none)
  else none))
  else none)
  else
  (if kc h15 a0 = 46 then
  bd (f_X48_isSign a0 9 h15) (fun x17 h18 =>
  if x17 = 0 then
  (if kc h18 a0 = 46 then
  bd (f_X48_wrong a0 h18) (fun x19 h20 =>
  if kc h20 x19 = 69 then rex h20 else none)
  else none)
  else
  (if kc h18 a0 = 46 then
  bd (f_X48_deeper a0 a1 h18) (fun x21 h22 =>
  ldI 46 358 a0 h22 fun x23 =>
  stI 46 358 a0 (x23 + (1 : Int32)) h22 fun h24 =>
  if kc h24 a0 = 46 then
  bd (R.2.1 a0 x21 h24) (fun _ h25 =>
  if kc h25 a0 = 46 then
  bd (f_X48_sign a0 10 h25) (fun _ h26 =>
  ldI 44 350 x1 h26 fun x27 =>
  if kc h26 a0 = 46 then
  bd (f_X48_item a0 (0 : Int32) x27 1 (0 : Int64) (0 : Int32) 0 h26) (fun _ h28 =>
  rok () h28)
  else none)
  else none)
  else none)
  else none))
  else none))
  else
  (f_X48_primary_b252 R  a0 x1 h15))
  else none)
  else
  (f_X48_primary_b252 R  a0 x1 h13))
  else none)
  else
  (f_X48_primary_b187 R  a0 x1 h11))
  else none)
  else
  (f_X48_primary_b187 R  a0 x1 h9))
  else none))))))
  else none
noncomputable def f_X48_ranked_l75b159 (R : TY_S7) (v0 : Nat) (v1 : Int32) (v2 : Int32) (ih : HP → Rs Unit) (a3 : Nat) (s0 : Nat) (s1 : Int32) (h : HP) : Rs Unit :=
  ldI 44 350 a3 h fun x1 =>
  ldR 44 351 a3 h fun x2 =>
  if kc h s0 = 46 then
  bd (f_X48_item s0 s1 x1 x2 (0 : Int64) (0 : Int32) 0 h) (fun _ h3 =>
  ih  h3)
  else none
noncomputable def f_X48_ranked_l75b138 (R : TY_S7) (v0 : Nat) (v1 : Int32) (v2 : Int32) (ih : HP → Rs Unit) (a3 : Nat) (h : HP) : Rs Unit :=
  if kc h v0 = 46 then
  bd (R.2.2.2.2.1 v0 (v1 + (1 : Int32)) v2 h) (fun _ h1 =>
  if (2 : Int32) ≤ v1 then
  (f_X48_ranked_l75b159 R v0 v1 v2 ih a3 v0 (11 : Int32) h1)
  else
  (f_X48_ranked_l75b159 R v0 v1 v2 ih a3 v0 (14 : Int32) h1))
  else none
noncomputable def b_X48_ranked_l75 (R : TY_S7) (v0 : Nat) (v1 : Int32) (v2 : Int32) (ih : HP → Rs Unit) (h : HP) : Rs Unit :=
  if kc h v0 = 46 then
  bd (f_X48_token v0 h) (fun x1 h2 =>
  ldI 44 349 x1 h2 fun x3 =>
  if x3 = (8 : Int32) then
  (if kc h2 v0 = 46 then
  bd (f_X48_token v0 h2) (fun x4 h5 =>
  ldR 44 351 x4 h5 fun x6 =>
  bd (f_X4_rankOf x6 h5) (fun x7 h8 =>
  if x7 = v1 then
  (if kc h8 v0 = 46 then
  bd (f_X48_token v0 h8) (fun x9 h10 =>
  ldI 46 358 v0 h10 fun x11 =>
  stI 46 358 v0 (x11 + (1 : Int32)) h10 fun h12 =>
  if (2 : Int32) ≤ v1 then
  (f_X48_ranked_l75b138 R v0 v1 v2 ih x9 h12)
  else
  (ldI 44 350 x9 h12 fun x13 =>
  ldR 44 351 x9 h12 fun x14 =>
  if kc h12 v0 = 46 then
  bd (f_X48_item v0 (13 : Int32) x13 x14 (0 : Int64) (0 : Int32) 0 h12) (fun _ h15 =>
  f_X48_ranked_l75b138 R v0 v1 v2 ih x9 h15)
  else none))
  else none)
  else
  (rok () h8)))
  else none)
  else
  (rok () h2))
  else none
noncomputable def f_X48_ranked_l75 (R : TY_S7) (v0 : Nat) (v1 : Int32) (v2 : Int32) (n : Nat) : HP → Rs Unit := @Nat.rec (fun _ => HP → Rs Unit) (fun _ => none) (fun _ ih => b_X48_ranked_l75 R v0 v1 v2 ih) n
noncomputable def f_X48_ranked_o (R : TY_S7) (a0 : Nat) (a1 : Int32) (a2 : Int32) (h : HP) : Rs Unit :=
  if a1 ≤ (9 : Int32) then
  (if kc h a0 = 46 then
  bd (R.2.2.2.2.1 a0 (a1 + (1 : Int32)) a2 h) (fun _ h1 =>
  if a1 = (6 : Int32) then
  (if kc h1 a0 = 46 then
  bd (f_X48_isKey a0 57 h1) (fun x4 h5 =>
  if x4 = 0 then
  (bd (f_X48_ranked_l75 R a0 a1 a2 NN h5) (fun x6 h7 => rok () h7))
  else
  (if kc h5 a0 = 46 then
  bd (f_X48_token a0 h5) (fun x8 h9 =>
  ldI 44 350 x8 h9 fun x10 =>
  ldI 46 358 a0 h9 fun x11 =>
  stI 46 358 a0 (x11 + (1 : Int32)) h9 fun h12 =>
  if kc h12 a0 = 46 then
  bd (f_X48_type a0 h12) (fun x13 h14 =>
  if kc h14 a0 = 46 then
  bd (f_X48_item a0 (12 : Int32) x10 1 (0 : Int64) (0 : Int32) x13 h14) (fun _ h15 =>
  rok () h15)
  else none)
  else none)
  else none))
  else none)
  else
  (bd (f_X48_ranked_l75 R a0 a1 a2 NN h1) (fun x2 h3 => rok () h3)))
  else none)
  else
  (if kc h a0 = 46 then
  bd (R.2.2.2.2.2 a0 a2 h) (fun _ h16 =>
  rok () h16)
  else none)
noncomputable def f_X48_unary_b35 (R : TY_S7) (a0 : Nat) (a1 : Int32) (a2 : Nat) (h : HP) : Rs Unit :=
  if kc h a0 = 46 then
  bd (f_X48_deeper a0 a1 h) (fun x1 h2 =>
  ldI 46 358 a0 h2 fun x3 =>
  stI 46 358 a0 (x3 + (1 : Int32)) h2 fun h4 =>
  if kc h4 a0 = 46 then
  bd (R.2.2.2.2.2 a0 x1 h4) (fun _ h5 =>
  ldI 44 350 a2 h5 fun x6 =>
  ldR 44 351 a2 h5 fun x7 =>
  if kc h5 a0 = 46 then
  bd (f_X48_item a0 (9 : Int32) x6 x7 (0 : Int64) (0 : Int32) 0 h5) (fun _ h8 =>
  rok () h8)
  else none)
  else none)
  else none
noncomputable def f_X48_unary_o (R : TY_S7) (a0 : Nat) (a1 : Int32) (h : HP) : Rs Unit :=
  if kc h a0 = 46 then
  bd (f_X48_token a0 h) (fun x1 h2 =>
  if kc h2 a0 = 46 then
  bd (f_X48_isSign a0 14 h2) (fun x3 h4 =>
  if x3 = 0 then
  (if kc h4 a0 = 46 then
  bd (f_X48_isSign a0 4 h4) (fun x5 h6 =>
  if x5 = 0 then
  (if kc h6 a0 = 46 then
  bd (f_X48_isSign a0 77 h6) (fun x7 h8 =>
  if x7 = 0 then
  (if kc h8 a0 = 46 then
  bd (f_X48_isSign a0 9 h8) (fun x9 h10 =>
  if x9 = 0 then
  (if kc h10 a0 = 46 then
  bd (R.2.2.1 a0 a1 h10) (fun _ h11 =>
  rok () h11)
  else none)
  else
  (if kc h10 a0 = 46 then
  bd (f_X48_isCast a0 h10) (fun x12 h13 =>
  if x12 = 0 then
  (if kc h13 a0 = 46 then
  bd (R.2.2.1 a0 a1 h13) (fun _ h14 =>
  rok () h14)
  else none)
  else
  (if kc h13 a0 = 46 then
  bd (f_X48_deeper a0 a1 h13) (fun x15 h16 =>
  ldI 46 358 a0 h16 fun x17 =>
  stI 46 358 a0 (x17 + (1 : Int32)) h16 fun h18 =>
  if kc h18 a0 = 46 then
  bd (f_X48_type a0 h18) (fun x19 h20 =>
  if kc h20 a0 = 46 then
  bd (f_X48_sign a0 10 h20) (fun _ h21 =>
  if kc h21 a0 = 46 then
  bd (R.2.2.2.2.2 a0 x15 h21) (fun _ h22 =>
  ldI 44 350 x1 h22 fun x23 =>
  if kc h22 a0 = 46 then
  bd (f_X48_item a0 (10 : Int32) x23 1 (0 : Int64) (0 : Int32) x19 h22) (fun _ h24 =>
  rok () h24)
  else none)
  else none)
  else none)
  else none)
  else none))
  else none))
  else none)
  else
  (f_X48_unary_b35 R  a0 a1 x1 h8))
  else none)
  else
  (f_X48_unary_b35 R  a0 a1 x1 h6))
  else none)
  else
  (f_X48_unary_b35 R  a0 a1 x1 h4))
  else none)
  else none
noncomputable def r_S7 (n : Nat) : TY_S7 := @Nat.rec (fun _ => TY_S7) (fun _ _ _ => none, fun _ _ _ => none, fun _ _ _ => none, fun _ _ _ => none, fun _ _ _ _ => none, fun _ _ _ => none) (fun _ R => (f_X48_arguments_o R, f_X48_expression_2_o R, f_X48_postfix_o R, f_X48_primary_o R, f_X48_ranked_o R, f_X48_unary_o R)) n
noncomputable def f_X48_arguments (n : Nat) : Nat → Int32 → HP → Rs Int32 := (r_S7 n).1
noncomputable def f_X48_expression_2 (n : Nat) : Nat → Int32 → HP → Rs Unit := (r_S7 n).2.1
noncomputable def f_X48_postfix (n : Nat) : Nat → Int32 → HP → Rs Unit := (r_S7 n).2.2.1
noncomputable def f_X48_primary (n : Nat) : Nat → Int32 → HP → Rs Unit := (r_S7 n).2.2.2.1
noncomputable def f_X48_ranked (n : Nat) : Nat → Int32 → Int32 → HP → Rs Unit := (r_S7 n).2.2.2.2.1
noncomputable def f_X48_unary (n : Nat) : Nat → Int32 → HP → Rs Unit := (r_S7 n).2.2.2.2.2
noncomputable def f_X48_expression (a0 : Nat) (a1 : Nat) (h : HP) : Rs Unit :=
  stR 46 359 a0 a1 h fun h1 =>
  if kc h1 a0 = 46 then
  bd (f_X48_expression_2 520 a0 (1 : Int32) h1) (fun _ h2 =>
  rok () h2)
  else none
noncomputable def f_X52_init (a0 : Nat) (h : HP) : Rs Unit :=
  if a0 = 0 then none else (
  nwC 132 3 h fun p1 h2 =>
  lsInit p1 h2 fun h3 =>
  stR 50 391 a0 p1 h3 fun h4 =>
  rok () h4)
noncomputable def f_X48_member_b413 (a1 : Nat) (a4 : Nat) (h : HP) : Rs Unit :=
  ldR 47 372 a1 h fun x1 =>
  lsAdd x1 a4 h fun h2 =>
  ldR 47 374 a1 h2 fun x3 =>
  ivOf (1 : Int32) h2 fun x4 h5 =>
  lsAdd x3 x4 h5 fun h6 =>
  rok () h6
noncomputable def f_X48_member_b341 (a0 : Nat) (a1 : Nat) (a4 : Nat) (h : HP) : Rs Unit :=
  if kc h a0 = 46 then
  bd (f_X48_sign a0 10 h) (fun _ h1 =>
  if kc h1 a0 = 46 then
  bd (f_X48_gone a0 18 h1) (fun x2 h3 =>
  if x2 = 0 then
  (if kc h3 a0 = 46 then
  bd (f_X48_sign a0 72 h3) (fun _ h4 =>
  if kc h4 a0 = 46 then
  bd (f_X48_token a0 h4) (fun x5 h6 =>
  ldI 44 350 x5 h6 fun x7 =>
  stI 50 393 a4 x7 h6 fun h8 =>
  if kc h8 a0 = 46 then
  bd (f_X48_key a0 66 h8) (fun _ h9 =>
  nwC 133 3 h9 fun p10 h11 =>
  lsInit p10 h11 fun h12 =>
  stR 50 392 a4 p10 h12 fun h13 =>
  ldR 50 392 a4 h13 fun x14 =>
  if kc h13 a0 = 46 then
  bd (f_X48_expression a0 x14 h13) (fun _ h15 =>
  if kc h15 a0 = 46 then
  bd (f_X48_sign a0 18 h15) (fun _ h16 =>
  if kc h16 a0 = 46 then
  bd (f_X48_sign a0 76 h16) (fun _ h17 =>
  f_X48_member_b413  a1 a4 h17)
  else none)
  else none)
  else none)
  else none)
  else none)
  else none)
  else
  (f_X48_member_b413  a1 a4 h3))
  else none)
  else none
noncomputable def f_X48_member_l279b304 (v0 : Nat) (v1 : Nat) (v4 : Nat) (ih : HP → Rs (Unit ⊕ Unit)) (h : HP) : Rs (Unit ⊕ Unit) :=
  if kc h v0 = 46 then
  bd (f_X48_type v0 h) (fun x1 h2 =>
  ldR 50 391 v4 h2 fun x3 =>
  nwO 49 2 h2 fun p4 h5 =>
  if kc h5 v0 = 46 then
  bd (f_X48_name v0 h5) (fun x6 h7 =>
  if kc h7 p4 = 49 then
  bd (f_X51_init p4 x1 x6 h7) (fun _ h8 =>
  lsAdd x3 p4 h8 fun h9 =>
  if kc h9 v0 = 46 then
  bd (f_X48_gone v0 13 h9) (fun x10 h11 =>
  if x10 = 0 then
  (rok (Sum.inr ()) h11)
  else
  (ih  h11))
  else none)
  else none)
  else none)
  else none
noncomputable def b_X48_member_l279 (v0 : Nat) (v1 : Nat) (v4 : Nat) (ih : HP → Rs (Unit ⊕ Unit)) (h : HP) : Rs (Unit ⊕ Unit) :=
  ldR 50 391 v4 h fun x1 =>
  lsSize x1 h fun x2 =>
  if x2 = (8 : Int32) then
  (if kc h v0 = 46 then
  bd (f_X48_beginsType v0 h) (fun x3 h4 =>
  if x3 = 0 then
  (f_X48_member_l279b304 v0 v1 v4 ih h4)
  else
  (rok (Sum.inl ()) h4))
  else none)
  else
  (f_X48_member_l279b304 v0 v1 v4 ih h)
noncomputable def f_X48_member_l279 (v0 : Nat) (v1 : Nat) (v4 : Nat) (n : Nat) : HP → Rs (Unit ⊕ Unit) := @Nat.rec (fun _ => HP → Rs (Unit ⊕ Unit)) (fun _ => none) (fun _ ih => b_X48_member_l279 v0 v1 v4 ih) n
noncomputable def f_X48_member_b221 (a0 : Nat) (a1 : Nat) (a2 : Nat) (a4 : Nat) (h : HP) : Rs Unit :=
  if kc h a0 = 46 then
  bd (f_X48_isSign a0 9 h) (fun x1 h2 =>
  if x1 = 0 then
  (if kc h2 a0 = 46 then
  bd (f_X48_wrong a0 h2) (fun x19 h20 =>
  if kc h20 x19 = 69 then rex h20 else none)
  else none)
  else
  (ldR 47 372 a1 h2 fun x3 =>
  lsSize x3 h2 fun x4 =>
  if x4 = (20 : Int32) then
  (ldR 46 355 a0 h2 fun x15 =>
  ldI 44 350 a2 h2 fun x16 =>
  if kc h2 x15 = 6 then
  bd (f_X5_at x15 (1 : Int32) x16 h2) (fun x17 h18 =>
  if kc h18 x17 = 69 then rex h18 else none)
  else none)
  else
  (ldI 46 358 a0 h2 fun x5 =>
  stI 46 358 a0 (x5 + (1 : Int32)) h2 fun h6 =>
  if kc h6 a0 = 46 then
  bd (f_X48_isSign a0 10 h6) (fun x7 h8 =>
  if x7 = 0 then
  (bd (f_X48_member_l279 a0 a1 a4 NN h8) (Sum.elim (fun x9 => fun h10 => if kc h10 a0 = 46 then
  bd (f_X48_wrong a0 h10) (fun x11 h12 =>
  if kc h12 x11 = 69 then rex h12 else none)
  else none) (fun x13 => fun h14 => f_X48_member_b341  a0 a1 a4 h14)))
  else
  (f_X48_member_b341  a0 a1 a4 h8))
  else none)))
  else none
noncomputable def f_X48_member_b144 (a0 : Nat) (a1 : Nat) (a2 : Nat) (a3 : Int32) (a4 : Nat) (h : HP) : Rs Unit :=
  if kc h a0 = 46 then
  bd (f_X48_type a0 h) (fun x1 h2 =>
  stR 50 389 a4 x1 h2 fun h3 =>
  if kc h3 a0 = 46 then
  bd (f_X48_name a0 h3) (fun x4 h5 =>
  stR 50 390 a4 x4 h5 fun h6 =>
  if a3 = 0 then
  (ldI 47 363 a1 h6 fun x7 =>
  if x7 = (1 : Int32) then
  (if kc h6 a0 = 46 then
  bd (f_X48_gone a0 18 h6) (fun x8 h9 =>
  if x8 = 0 then
  (f_X48_member_b221  a0 a1 a2 a4 h9)
  else
  (ldR 47 371 a1 h9 fun x10 =>
  nwO 49 2 h9 fun p11 h12 =>
  ldR 50 389 a4 h12 fun x13 =>
  ldR 50 390 a4 h12 fun x14 =>
  if kc h12 p11 = 49 then
  bd (f_X51_init p11 x13 x14 h12) (fun _ h15 =>
  lsAdd x10 p11 h15 fun h16 =>
  ldR 47 374 a1 h16 fun x17 =>
  ivOf (0 : Int32) h16 fun x18 h19 =>
  lsAdd x17 x18 h19 fun h20 =>
  rok () h20)
  else none))
  else none)
  else
  (f_X48_member_b221  a0 a1 a2 a4 h6))
  else
  (f_X48_member_b221  a0 a1 a2 a4 h6))
  else none)
  else none
noncomputable def f_X48_member_b130 (a0 : Nat) (a1 : Nat) (a2 : Nat) (a3 : Int32) (a4 : Nat) (h : HP) : Rs Unit :=
  if a3 = 0 then
  (f_X48_member_b144  a0 a1 a2 a3 a4 h)
  else
  (ldI 46 358 a0 h fun x1 =>
  stI 46 358 a0 (x1 + (1 : Int32)) h fun h2 =>
  f_X48_member_b144  a0 a1 a2 a3 a4 h2)
noncomputable def f_X48_member_b113 (a0 : Nat) (a1 : Nat) (a2 : Nat) (a3 : Int32) (a4 : Nat) (h : HP) : Rs Unit :=
  ldR 47 372 a1 h fun x1 =>
  lsSize x1 h fun x2 =>
  if x2 = (20 : Int32) then
  (if kc h a0 = 46 then
  bd (f_X48_wrong a0 h) (fun x3 h4 =>
  if kc h4 x3 = 69 then rex h4 else none)
  else none)
  else
  (f_X48_member_b130  a0 a1 a2 a3 a4 h)
noncomputable def f_X48_member_b98 (a0 : Nat) (a1 : Nat) (a2 : Nat) (a3 : Int32) (a4 : Nat) (s0 : Nat) (s1 : Int32) (h : HP) : Rs Unit :=
  stI 50 388 s0 s1 h fun h1 =>
  if a3 = 0 then
  (ldI 47 363 a1 h1 fun x2 =>
  if x2 = (1 : Int32) then
  (f_X48_member_b130  a0 a1 a2 a3 a4 h1)
  else
  (f_X48_member_b113  a0 a1 a2 a3 a4 h1))
  else
  (f_X48_member_b113  a0 a1 a2 a3 a4 h1)
noncomputable def f_X48_member_b45 (a0 : Nat) (a1 : Nat) (a2 : Nat) (a3 : Int32) (h : HP) : Rs Unit :=
  nwO 50 9 h fun p1 h2 =>
  if kc h2 p1 = 50 then
  bd (f_X52_init p1 h2) (fun _ h3 =>
  stR 50 386 p1 a1 h3 fun h4 =>
  ldI 44 350 a2 h4 fun x5 =>
  stI 50 387 p1 x5 h4 fun h6 =>
  if kc h6 a0 = 46 then
  bd (f_X48_isKey a0 36 h6) (fun x7 h8 =>
  if x7 = 0 then
  (if kc h8 a0 = 46 then
  bd (f_X48_isKey a0 45 h8) (fun x9 h10 =>
  if x9 = 0 then
  (f_X48_member_b98  a0 a1 a2 a3 p1 p1 (0 : Int32) h10)
  else
  (f_X48_member_b98  a0 a1 a2 a3 p1 p1 (2 : Int32) h10))
  else none)
  else
  (f_X48_member_b98  a0 a1 a2 a3 p1 p1 (1 : Int32) h8))
  else none)
  else none
noncomputable def f_X48_member_b28 (a0 : Nat) (a1 : Nat) (a2 : Nat) (s0 : Int32) (h : HP) : Rs Unit :=
  if s0 = 0 then
  (if kc h a0 = 46 then
  bd (f_X48_beginsType a0 h) (fun x1 h2 =>
  if x1 = 0 then
  (if kc h2 a0 = 46 then
  bd (f_X48_wrong a0 h2) (fun x3 h4 =>
  if kc h4 x3 = 69 then rex h4 else none)
  else none)
  else
  (f_X48_member_b45  a0 a1 a2 s0 h2))
  else none)
  else
  (f_X48_member_b45  a0 a1 a2 s0 h)
noncomputable def f_X48_member_b23 (a0 : Nat) (a1 : Nat) (a2 : Nat) (h : HP) : Rs Unit :=
  f_X48_member_b28  a0 a1 a2 (1 : Int32) h
noncomputable def f_X48_member (a0 : Nat) (a1 : Nat) (h : HP) : Rs Unit :=
  if kc h a0 = 46 then
  bd (f_X48_token a0 h) (fun x1 h2 =>
  if kc h2 a0 = 46 then
  bd (f_X48_isKey a0 36 h2) (fun x3 h4 =>
  if x3 = 0 then
  (if kc h4 a0 = 46 then
  bd (f_X48_isKey a0 45 h4) (fun x5 h6 =>
  if x5 = 0 then
  (f_X48_member_b28  a0 a1 x1 (0 : Int32) h6)
  else
  (f_X48_member_b23  a0 a1 x1 h6))
  else none)
  else
  (f_X48_member_b23  a0 a1 x1 h4))
  else none)
  else none
noncomputable def b_X48_row_l9 (v0 : Nat) (v1 : Nat) (ih : HP → Rs Unit) (h : HP) : Rs Unit :=
  if kc h v0 = 46 then
  bd (f_X48_gone v0 13 h) (fun x1 h2 =>
  if x1 = 0 then
  (rok () h2)
  else
  (if kc h2 v0 = 46 then
  bd (f_X48_name v0 h2) (fun x3 h4 =>
  lsAdd v1 x3 h4 fun h5 =>
  ih  h5)
  else none))
  else none
noncomputable def f_X48_row_l9 (v0 : Nat) (v1 : Nat) (n : Nat) : HP → Rs Unit := @Nat.rec (fun _ => HP → Rs Unit) (fun _ => none) (fun _ ih => b_X48_row_l9 v0 v1 ih) n
noncomputable def f_X48_row (a0 : Nat) (a1 : Nat) (h : HP) : Rs Unit :=
  if kc h a0 = 46 then
  bd (f_X48_name a0 h) (fun x1 h2 =>
  lsAdd a1 x1 h2 fun h3 =>
  bd (f_X48_row_l9 a0 a1 NN h3) (fun x4 h5 => rok () h5))
  else none
noncomputable def f_X49_init (a0 : Nat) (a1 : Int32) (h : HP) : Rs Unit :=
  if a0 = 0 then none else (
  stI 47 367 a0 (-1 : Int32) h fun h1 =>
  nwC 139 3 h1 fun p2 h3 =>
  lsInit p2 h3 fun h4 =>
  stR 47 370 a0 p2 h4 fun h5 =>
  nwC 138 3 h5 fun p6 h7 =>
  lsInit p6 h7 fun h8 =>
  stR 47 371 a0 p6 h8 fun h9 =>
  nwC 137 3 h9 fun p10 h11 =>
  lsInit p10 h11 fun h12 =>
  stR 47 372 a0 p10 h12 fun h13 =>
  nwC 136 3 h13 fun p14 h15 =>
  lsInit p14 h15 fun h16 =>
  stR 47 373 a0 p14 h16 fun h17 =>
  nwC 135 3 h17 fun p18 h19 =>
  lsInit p18 h19 fun h20 =>
  stR 47 374 a0 p18 h20 fun h21 =>
  nwC 134 3 h21 fun p22 h23 =>
  lsInit p22 h23 fun h24 =>
  stR 47 376 a0 p22 h24 fun h25 =>
  stI 47 362 a0 a1 h25 fun h26 =>
  rok () h26)
noncomputable def b_X48_declaration_l243 (v0 : Nat) (v2 : Nat) (ih : HP → Rs Unit) (h : HP) : Rs Unit :=
  if kc h v0 = 46 then
  bd (f_X48_isSign v0 76 h) (fun x1 h2 =>
  if x1 = 0 then
  (if kc h2 v0 = 46 then
  bd (f_X48_member v0 v2 h2) (fun _ h3 =>
  ih  h3)
  else none)
  else
  (rok () h2))
  else none
noncomputable def f_X48_declaration_l243 (v0 : Nat) (v2 : Nat) (n : Nat) : HP → Rs Unit := @Nat.rec (fun _ => HP → Rs Unit) (fun _ => none) (fun _ ih => b_X48_declaration_l243 v0 v2 ih) n
noncomputable def f_X48_declaration_b221 (a0 : Nat) (a2 : Nat) (h : HP) : Rs Nat :=
  if kc h a0 = 46 then
  bd (f_X48_sign a0 72 h) (fun _ h1 =>
  ldI 47 363 a2 h1 fun x2 =>
  if x2 = (3 : Int32) then
  (if kc h1 a0 = 46 then
  bd (f_X48_constants a0 a2 h1) (fun _ h7 =>
  rok a2 h7)
  else none)
  else
  (bd (f_X48_declaration_l243 a0 a2 NN h1) (fun x3 h4 => ldI 46 358 a0 h4 fun x5 =>
  stI 46 358 a0 (x5 + (1 : Int32)) h4 fun h6 =>
  rok a2 h6)))
  else none
noncomputable def f_X48_declaration_b189 (a0 : Nat) (a2 : Nat) (s0 : Nat) (s1 : Nat) (h : HP) : Rs Nat :=
  if kc h s0 = 46 then
  bd (f_X48_isKey s0 s1 h) (fun x1 h2 =>
  if x1 = 0 then
  (f_X48_declaration_b221  a0 a2 h2)
  else
  (ldI 47 363 a2 h2 fun x3 =>
  if x3 = (3 : Int32) then
  (f_X48_declaration_b221  a0 a2 h2)
  else
  (ldI 46 358 a0 h2 fun x4 =>
  stI 46 358 a0 (x4 + (1 : Int32)) h2 fun h5 =>
  ldR 47 370 a2 h5 fun x6 =>
  if kc h5 a0 = 46 then
  bd (f_X48_row a0 x6 h5) (fun _ h7 =>
  f_X48_declaration_b221  a0 a2 h7)
  else none)))
  else none
noncomputable def f_X48_declaration_b173 (a0 : Nat) (a2 : Nat) (h : HP) : Rs Nat :=
  ldI 47 363 a2 h fun x1 =>
  if x1 = (2 : Int32) then
  (f_X48_declaration_b189  a0 a2 a0 50 h)
  else
  (f_X48_declaration_b189  a0 a2 a0 55 h)
noncomputable def f_X48_declaration_b138 (a0 : Nat) (a2 : Nat) (h : HP) : Rs Nat :=
  ldI 47 363 a2 h fun x1 =>
  if x1 = (1 : Int32) then
  (if kc h a0 = 46 then
  bd (f_X48_isKey a0 50 h) (fun x2 h3 =>
  if x2 = 0 then
  (f_X48_declaration_b173  a0 a2 h3)
  else
  (ldI 46 358 a0 h3 fun x4 =>
  stI 46 358 a0 (x4 + (1 : Int32)) h3 fun h5 =>
  if kc h5 a0 = 46 then
  bd (f_X48_name a0 h5) (fun x6 h7 =>
  stR 47 369 a2 x6 h7 fun h8 =>
  f_X48_declaration_b173  a0 a2 h8)
  else none))
  else none)
  else
  (f_X48_declaration_b173  a0 a2 h)
noncomputable def f_X48_declaration_b91 (a0 : Nat) (a2 : Nat) (s0 : Nat) (s1 : Int32) (h : HP) : Rs Nat :=
  stI 47 363 s0 s1 h fun h1 =>
  ldI 46 358 a0 h1 fun x2 =>
  stI 46 358 a0 (x2 + (1 : Int32)) h1 fun h3 =>
  if kc h3 a0 = 46 then
  bd (f_X48_name a0 h3) (fun x4 h5 =>
  ldR 45 353 x4 h5 fun x6 =>
  stR 47 365 a2 x6 h5 fun h7 =>
  ldI 45 354 x4 h7 fun x8 =>
  stI 47 366 a2 x8 h7 fun h9 =>
  ldI 47 363 a2 h9 fun x10 =>
  if x10 = (4 : Int32) then
  (if kc h9 a0 = 46 then
  bd (f_X48_components a0 a2 h9) (fun _ h11 =>
  f_X48_declaration_b138  a0 a2 h11)
  else none)
  else
  (f_X48_declaration_b138  a0 a2 h9))
  else none
noncomputable def f_X48_declaration_b50 (a0 : Nat) (a2 : Nat) (h : HP) : Rs Nat :=
  if kc h a0 = 46 then
  bd (f_X48_isKey a0 43 h) (fun x1 h2 =>
  if x1 = 0 then
  (if kc h2 a0 = 46 then
  bd (f_X48_isKey a0 59 h2) (fun x3 h4 =>
  if x3 = 0 then
  (if kc h4 a0 = 46 then
  bd (f_X48_isKey a0 48 h4) (fun x5 h6 =>
  if x5 = 0 then
  (f_X48_declaration_b91  a0 a2 a2 (4 : Int32) h6)
  else
  (f_X48_declaration_b91  a0 a2 a2 (3 : Int32) h6))
  else none)
  else
  (f_X48_declaration_b91  a0 a2 a2 (2 : Int32) h4))
  else none)
  else
  (f_X48_declaration_b91  a0 a2 a2 (1 : Int32) h2))
  else none
noncomputable def f_X48_declaration (a0 : Nat) (a1 : Int32) (h : HP) : Rs Nat :=
  nwO 47 18 h fun p1 h2 =>
  if kc h2 p1 = 47 then
  bd (f_X49_init p1 a1 h2) (fun _ h3 =>
  if kc h3 a0 = 46 then
  bd (f_X48_isKey a0 36 h3) (fun x4 h5 =>
  stZ 47 364 p1 x4 h5 fun h6 =>
  ldI 47 364 p1 h6 fun x7 =>
  if x7 = 0 then
  (f_X48_declaration_b50  a0 p1 h6)
  else
  (ldI 46 358 a0 h6 fun x8 =>
  stI 46 358 a0 (x8 + (1 : Int32)) h6 fun h9 =>
  if kc h9 a0 = 46 then
  bd (f_X48_isKey a0 43 h9) (fun x10 h11 =>
  if x10 = 0 then
  (if kc h11 a0 = 46 then
  bd (f_X48_wrong a0 h11) (fun x12 h13 =>
  if kc h13 x12 = 69 then rex h13 else none)
  else none)
  else
  (f_X48_declaration_b50  a0 p1 h11))
  else none))
  else none)
  else none
noncomputable def f_X48_all_l0b60 (v0 : Nat) (v1 : Nat) (ih : HP → Rs (Unit ⊕ Unit)) (s0 : Int32) (h : HP) : Rs (Unit ⊕ Unit) :=
  if s0 = 0 then
  (rok (Sum.inl ()) h)
  else
  (lsSize v1 h fun x1 =>
  if x1 = (60 : Int32) then
  (rok (Sum.inl ()) h)
  else
  (lsSize v1 h fun x2 =>
  if kc h v0 = 46 then
  bd (f_X48_declaration v0 ((10 : Int32) + x2) h) (fun x3 h4 =>
  lsAdd v1 x3 h4 fun h5 =>
  ih  h5)
  else none))
noncomputable def f_X48_all_l0b55 (v0 : Nat) (v1 : Nat) (ih : HP → Rs (Unit ⊕ Unit)) (h : HP) : Rs (Unit ⊕ Unit) :=
  f_X48_all_l0b60 v0 v1 ih (1 : Int32) h
noncomputable def b_X48_all_l0 (v0 : Nat) (v1 : Nat) (ih : HP → Rs (Unit ⊕ Unit)) (h : HP) : Rs (Unit ⊕ Unit) :=
  if kc h v0 = 46 then
  bd (f_X48_token v0 h) (fun x1 h2 =>
  ldI 44 349 x1 h2 fun x3 =>
  if x3 = 0 then
  (rok (Sum.inr ()) h2)
  else
  (if kc h2 v0 = 46 then
  bd (f_X48_isKey v0 36 h2) (fun x4 h5 =>
  if x4 = 0 then
  (if kc h5 v0 = 46 then
  bd (f_X48_isKey v0 43 h5) (fun x6 h7 =>
  if x6 = 0 then
  (if kc h7 v0 = 46 then
  bd (f_X48_isKey v0 59 h7) (fun x8 h9 =>
  if x8 = 0 then
  (if kc h9 v0 = 46 then
  bd (f_X48_isKey v0 48 h9) (fun x10 h11 =>
  if x10 = 0 then
  (if kc h11 v0 = 46 then
  bd (f_X48_isKey v0 65 h11) (fun x12 h13 =>
  if x12 = 0 then
  (f_X48_all_l0b60 v0 v1 ih (0 : Int32) h13)
  else
  (f_X48_all_l0b55 v0 v1 ih h13))
  else none)
  else
  (f_X48_all_l0b55 v0 v1 ih h11))
  else none)
  else
  (f_X48_all_l0b55 v0 v1 ih h9))
  else none)
  else
  (f_X48_all_l0b55 v0 v1 ih h7))
  else none)
  else
  (f_X48_all_l0b55 v0 v1 ih h5))
  else none))
  else none
noncomputable def f_X48_all_l0 (v0 : Nat) (v1 : Nat) (n : Nat) : HP → Rs (Unit ⊕ Unit) := @Nat.rec (fun _ => HP → Rs (Unit ⊕ Unit)) (fun _ => none) (fun _ ih => b_X48_all_l0 v0 v1 ih) n
noncomputable def f_X48_all_b60 (a0 : Nat) (a1 : Nat) (s0 : Int32) (h : HP) : Rs Unit :=
  if s0 = 0 then
  (if kc h a0 = 46 then
  bd (f_X48_wrong a0 h) (fun x1 h2 =>
  if kc h2 x1 = 69 then rex h2 else none)
  else none)
  else
  (lsSize a1 h fun x3 =>
  if x3 = (60 : Int32) then
  (if kc h a0 = 46 then
  bd (f_X48_wrong a0 h) (fun x14 h15 =>
  if kc h15 x14 = 69 then rex h15 else none)
  else none)
  else
  (lsSize a1 h fun x4 =>
  if kc h a0 = 46 then
  bd (f_X48_declaration a0 ((10 : Int32) + x4) h) (fun x5 h6 =>
  lsAdd a1 x5 h6 fun h7 =>
  bd (f_X48_all_l0 a0 a1 NN h7) (Sum.elim (fun x8 => fun h9 => if kc h9 a0 = 46 then
  bd (f_X48_wrong a0 h9) (fun x10 h11 =>
  if kc h11 x10 = 69 then rex h11 else none)
  else none) (fun x12 => fun h13 => rok () h13)))
  else none))
noncomputable def f_X48_all_b55 (a0 : Nat) (a1 : Nat) (h : HP) : Rs Unit :=
  f_X48_all_b60  a0 a1 (1 : Int32) h
noncomputable def f_X48_all (a0 : Nat) (a1 : Nat) (h : HP) : Rs Unit :=
  if kc h a0 = 46 then
  bd (f_X48_token a0 h) (fun x1 h2 =>
  ldI 44 349 x1 h2 fun x3 =>
  if x3 = 0 then
  (rok () h2)
  else
  (if kc h2 a0 = 46 then
  bd (f_X48_isKey a0 36 h2) (fun x4 h5 =>
  if x4 = 0 then
  (if kc h5 a0 = 46 then
  bd (f_X48_isKey a0 43 h5) (fun x6 h7 =>
  if x6 = 0 then
  (if kc h7 a0 = 46 then
  bd (f_X48_isKey a0 59 h7) (fun x8 h9 =>
  if x8 = 0 then
  (if kc h9 a0 = 46 then
  bd (f_X48_isKey a0 48 h9) (fun x10 h11 =>
  if x10 = 0 then
  (if kc h11 a0 = 46 then
  bd (f_X48_isKey a0 65 h11) (fun x12 h13 =>
  if x12 = 0 then
  (f_X48_all_b60  a0 a1 (0 : Int32) h13)
  else
  (f_X48_all_b55  a0 a1 h13))
  else none)
  else
  (f_X48_all_b55  a0 a1 h11))
  else none)
  else
  (f_X48_all_b55  a0 a1 h9))
  else none)
  else
  (f_X48_all_b55  a0 a1 h7))
  else none)
  else
  (f_X48_all_b55  a0 a1 h5))
  else none))
  else none
noncomputable def f_X48_init (a0 : Nat) (a1 : Nat) (a2 : Nat) (a3 : Nat) (h : HP) : Rs Unit :=
  if a0 = 0 then none else (
  nwC 141 3 h fun p1 h2 =>
  lsInit p1 h2 fun h3 =>
  stR 46 360 a0 p1 h3 fun h4 =>
  nwC 140 3 h4 fun p5 h6 =>
  lsInit p5 h6 fun h7 =>
  stR 46 361 a0 p5 h7 fun h8 =>
  stR 46 355 a0 a1 h8 fun h9 =>
  stR 46 356 a0 a2 h9 fun h10 =>
  stR 46 357 a0 a3 h10 fun h11 =>
  rok () h11)
noncomputable def f_X67_init (a0 : Nat) (h : HP) : Rs Unit :=
  if a0 = 0 then none else (
  nwC 142 3 h fun p1 h2 =>
  lsInit p1 h2 fun h3 =>
  stR 65 461 a0 p1 h3 fun h4 =>
  rok () h4)
noncomputable def b_X48_question_l23 (v0 : Nat) (v1 : Nat) (ih : HP → Rs (Unit ⊕ Unit)) (h : HP) : Rs (Unit ⊕ Unit) :=
  ldI 65 462 v1 h fun x1 =>
  if x1 = (3 : Int32) then
  (rok (Sum.inl ()) h)
  else
  (if kc h v0 = 46 then
  bd (f_X48_name v0 h) (fun x2 h3 =>
  if kc h3 v0 = 46 then
  bd (f_X48_key v0 56 h3) (fun _ h4 =>
  if kc h4 v0 = 46 then
  bd (f_X48_token v0 h4) (fun x5 h6 =>
  ldI 44 350 x5 h6 fun x7 =>
  if kc h6 v0 = 46 then
  bd (f_X48_unary 520 v0 (1 : Int32) h6) (fun _ h8 =>
  ldI 45 354 x2 h8 fun x9 =>
  ldR 45 353 x2 h8 fun x10 =>
  if kc h8 v0 = 46 then
  bd (f_X48_item v0 (18 : Int32) x9 x10 (Int32.toInt64 x7) (5 : Int32) 0 h8) (fun _ h11 =>
  ldI 65 462 v1 h11 fun x12 =>
  stI 65 462 v1 (x12 + (1 : Int32)) h11 fun h13 =>
  if kc h13 v0 = 46 then
  bd (f_X48_gone v0 13 h13) (fun x14 h15 =>
  if x14 = 0 then
  (rok (Sum.inr ()) h15)
  else
  (ih  h15))
  else none)
  else none)
  else none)
  else none)
  else none)
  else none)
noncomputable def f_X48_question_l23 (v0 : Nat) (v1 : Nat) (n : Nat) : HP → Rs (Unit ⊕ Unit) := @Nat.rec (fun _ => HP → Rs (Unit ⊕ Unit)) (fun _ => none) (fun _ ih => b_X48_question_l23 v0 v1 ih) n
noncomputable def b_X48_question_l232 (v0 : Nat) (v1 : Nat) (ih : HP → Rs (Unit ⊕ Unit)) (h : HP) : Rs (Unit ⊕ Unit) :=
  ldI 65 463 v1 h fun x1 =>
  if x1 = (4 : Int32) then
  (rok (Sum.inl ()) h)
  else
  (if kc h v0 = 46 then
  bd (f_X48_token v0 h) (fun x2 h3 =>
  ldI 44 350 x2 h3 fun x4 =>
  if kc h3 v0 = 46 then
  bd (f_X48_expression_2 520 v0 (1 : Int32) h3) (fun _ h5 =>
  if kc h5 v0 = 46 then
  bd (f_X48_item v0 (19 : Int32) x4 54 (Int32.toInt64 x4) (5 : Int32) 0 h5) (fun _ h6 =>
  ldI 65 463 v1 h6 fun x7 =>
  stI 65 463 v1 (x7 + (1 : Int32)) h6 fun h8 =>
  if kc h8 v0 = 46 then
  bd (f_X48_gone v0 13 h8) (fun x9 h10 =>
  if x9 = 0 then
  (rok (Sum.inr ()) h10)
  else
  (ih  h10))
  else none)
  else none)
  else none)
  else none)
noncomputable def f_X48_question_l232 (v0 : Nat) (v1 : Nat) (n : Nat) : HP → Rs (Unit ⊕ Unit) := @Nat.rec (fun _ => HP → Rs (Unit ⊕ Unit)) (fun _ => none) (fun _ ih => b_X48_question_l232 v0 v1 ih) n
noncomputable def f_X48_question_b225 (a0 : Nat) (a1 : Nat) (h : HP) : Rs Nat :=
  if kc h a0 = 46 then
  bd (f_X48_key a0 54 h) (fun _ h1 =>
  bd (f_X48_question_l232 a0 a1 NN h1) (Sum.elim (fun x2 => fun h3 => if kc h3 a0 = 46 then
  bd (f_X48_wrong a0 h3) (fun x4 h5 =>
  if kc h5 x4 = 69 then rex h5 else none)
  else none) (fun x6 => fun h7 => if kc h7 a0 = 46 then
  bd (f_X48_token a0 h7) (fun x8 h9 =>
  ldI 44 349 x8 h9 fun x10 =>
  if x10 = 0 then
  (rok a1 h9)
  else
  (if kc h9 a0 = 46 then
  bd (f_X48_wrong a0 h9) (fun x11 h12 =>
  if kc h12 x11 = 69 then rex h12 else none)
  else none))
  else none)))
  else none
noncomputable def f_X48_question_b145 (a0 : Nat) (a1 : Nat) (h : HP) : Rs Nat :=
  if kc h a0 = 46 then
  bd (f_X48_isKey a0 64 h) (fun x1 h2 =>
  if x1 = 0 then
  (f_X48_question_b225  a0 a1 h2)
  else
  (ldI 46 358 a0 h2 fun x3 =>
  stI 46 358 a0 (x3 + (1 : Int32)) h2 fun h4 =>
  if kc h4 a0 = 46 then
  bd (f_X48_token a0 h4) (fun x5 h6 =>
  ldI 44 350 x5 h6 fun x7 =>
  if kc h6 a0 = 46 then
  bd (f_X48_expression_2 520 a0 (1 : Int32) h6) (fun _ h8 =>
  if kc h8 a0 = 46 then
  bd (f_X48_item a0 (19 : Int32) x7 64 (Int32.toInt64 x7) (5 : Int32) 0 h8) (fun _ h9 =>
  stI 65 464 a1 (1 : Int32) h9 fun h10 =>
  if kc h10 a0 = 46 then
  bd (f_X48_isKey a0 47 h10) (fun x11 h12 =>
  stZ 65 465 a1 x11 h12 fun h13 =>
  ldI 65 465 a1 h13 fun x14 =>
  if x14 = 0 then
  (f_X48_question_b225  a0 a1 h13)
  else
  (ldI 46 358 a0 h13 fun x15 =>
  stI 46 358 a0 (x15 + (1 : Int32)) h13 fun h16 =>
  f_X48_question_b225  a0 a1 h16))
  else none)
  else none)
  else none)
  else none))
  else none
noncomputable def f_X48_question (a0 : Nat) (h : HP) : Rs Nat :=
  nwO 65 5 h fun p1 h2 =>
  if kc h2 p1 = 65 then
  bd (f_X67_init p1 h2) (fun _ h3 =>
  ldR 65 461 p1 h3 fun x4 =>
  stR 46 359 a0 x4 h3 fun h5 =>
  if kc h5 a0 = 46 then
  bd (f_X48_key a0 53 h5) (fun _ h6 =>
  bd (f_X48_question_l23 a0 p1 NN h6) (Sum.elim (fun x7 => fun h8 => if kc h8 a0 = 46 then
  bd (f_X48_wrong a0 h8) (fun x9 h10 =>
  if kc h10 x9 = 69 then rex h10 else none)
  else none) (fun x11 => fun h12 => if kc h12 a0 = 46 then
  bd (f_X48_isKey a0 71 h12) (fun x13 h14 =>
  if x13 = 0 then
  (f_X48_question_b145  a0 p1 h14)
  else
  (ldI 46 358 a0 h14 fun x15 =>
  stI 46 358 a0 (x15 + (1 : Int32)) h14 fun h16 =>
  if kc h16 a0 = 46 then
  bd (f_X48_token a0 h16) (fun x17 h18 =>
  ldI 44 350 x17 h18 fun x19 =>
  if kc h18 a0 = 46 then
  bd (f_X48_expression_2 520 a0 (1 : Int32) h18) (fun _ h20 =>
  if kc h20 a0 = 46 then
  bd (f_X48_item a0 (19 : Int32) x19 71 (Int32.toInt64 x19) (5 : Int32) 0 h20) (fun _ h21 =>
  f_X48_question_b145  a0 p1 h21)
  else none)
  else none)
  else none))
  else none)))
  else none)
  else none
noncomputable def f_X49_array (a0 : Nat) (h : HP) : Rs Int32 :=
  ldI 47 367 a0 h fun x1 =>
  if x1 < 0 then
  (rok (0 : Int32) h)
  else
  (rok (1 : Int32) h)
noncomputable def f_X49_told (a0 : Nat) (h : HP) : Rs Int32 :=
  ldI 47 363 a0 h fun x1 =>
  if x1 = 0 then
  (rok (0 : Int32) h)
  else
  (rok (1 : Int32) h)
noncomputable def f_X4_kindNamed_l14b56 (v0 : Nat) (v1 : Nat) (ih : Int32 → HP → Rs (Int32 ⊕ Unit)) (a3 : Int32) (h : HP) : Rs (Int32 ⊕ Unit) :=
  lt3 (a3 + 1) fun x1 =>
  ih x1 h
noncomputable def b_X4_kindNamed_l14 (v0 : Nat) (v1 : Nat) (ih : Int32 → HP → Rs (Int32 ⊕ Unit)) (a3 : Int32) (h : HP) : Rs (Int32 ⊕ Unit) :=
  lsSize v0 h fun x1 =>
  if x1 ≤ a3 then
  (rok (Sum.inr ()) h)
  else
  (lsGet v0 a3 h fun x2 =>
  castR [47] x2 h (
  if kc h x2 = 47 then
  bd (f_X49_array x2 h) (fun x3 h4 =>
  if x3 = 0 then
  (lsGet v0 a3 h4 fun x5 =>
  castR [47] x5 h4 (
  ldR 47 365 x5 h4 fun x6 =>
  txEq x6 v1 h4 fun x7 =>
  if x7 = 0 then
  (f_X4_kindNamed_l14b56 v0 v1 ih a3 h4)
  else
  (rok (Sum.inl a3) h4)))
  else
  (f_X4_kindNamed_l14b56 v0 v1 ih a3 h4))
  else none))
noncomputable def f_X4_kindNamed_l14 (v0 : Nat) (v1 : Nat) (n : Nat) : Int32 → HP → Rs (Int32 ⊕ Unit) := @Nat.rec (fun _ => Int32 → HP → Rs (Int32 ⊕ Unit)) (fun _ _ => none) (fun _ ih => b_X4_kindNamed_l14 v0 v1 ih) n
noncomputable def f_X4_kindNamed (a0 : Nat) (a1 : Nat) (h : HP) : Rs Int32 :=
  bd (f_X4_plainKind a1 h) (fun x1 h2 =>
  if x1 < 0 then
  (bd (f_X4_kindNamed_l14 a0 a1 NN (8 : Int32) h2) (Sum.elim (fun x3 => fun h4 => rok x3 h4) (fun x5 => fun h6 => rok (-1 : Int32) h6)))
  else
  (rok x1 h2))
noncomputable def f_X5_must (a0 : Nat) (a1 : Int32) (a2 : Int32) (h : HP) : Rs Unit :=
  if a1 = 0 then
  (if kc h a0 = 6 then
  bd (f_X5_at a0 (2 : Int32) a2 h) (fun x1 h2 =>
  if kc h2 x1 = 69 then rex h2 else none)
  else none)
  else
  (rok () h)
noncomputable def f_X4_must (a0 : Nat) (a1 : Int32) (a2 : Int32) (h : HP) : Rs Unit :=
  ldR 5 52 a0 h fun x1 =>
  if kc h x1 = 6 then
  bd (f_X5_must x1 a1 a2 h) (fun _ h2 =>
  rok () h2)
  else none
noncomputable def f_X4_above_l173b206 (v0 : Nat) (v1 : Nat) (v2 : Int32) (v3 : Nat) (v4 : Int32) (ih : Int32 → HP → Rs Unit) (a5 : Int32) (s0 : Nat) (s1 : Int32) (h : HP) : Rs Unit :=
  ldI 45 354 v3 h fun x1 =>
  if kc h s0 = 5 then
  bd (f_X4_must s0 s1 x1 h) (fun _ h2 =>
  lt3 (a5 + 1) fun x3 =>
  ih x3 h2)
  else none
noncomputable def b_X4_above_l173 (v0 : Nat) (v1 : Nat) (v2 : Int32) (v3 : Nat) (v4 : Int32) (ih : Int32 → HP → Rs Unit) (a5 : Int32) (h : HP) : Rs Unit :=
  if v2 ≤ a5 then
  (rok () h)
  else
  (ldR 47 376 v1 h fun x1 =>
  lsGet x1 a5 h fun x2 =>
  ldR 5 53 v0 h fun x3 =>
  lsGet x3 v4 h fun x4 =>
  eqR h x2 x4
  (f_X4_above_l173b206 v0 v1 v2 v3 v4 ih a5 v0 (0 : Int32) h)
  (f_X4_above_l173b206 v0 v1 v2 v3 v4 ih a5 v0 (1 : Int32) h))
noncomputable def f_X4_above_l173 (v0 : Nat) (v1 : Nat) (v2 : Int32) (v3 : Nat) (v4 : Int32) (n : Nat) : Int32 → HP → Rs Unit := @Nat.rec (fun _ => Int32 → HP → Rs Unit) (fun _ _ => none) (fun _ ih => b_X4_above_l173 v0 v1 v2 v3 v4 ih) n
noncomputable def f_X4_above_l95b163 (v0 : Nat) (v1 : Nat) (ih : Int32 → HP → Rs Unit) (a2 : Int32) (a3 : Nat) (a4 : Int32) (s0 : Nat) (s1 : Int32) (h : HP) : Rs Unit :=
  ldI 45 354 a3 h fun x1 =>
  if kc h s0 = 5 then
  bd (f_X4_must s0 s1 x1 h) (fun _ h2 =>
  bd (f_X4_above_l173 v0 v1 a2 a3 a4 NN (0 : Int32) h2) (fun x3 h4 => ldR 47 376 v1 h4 fun x5 =>
  ldR 5 53 v0 h4 fun x6 =>
  lsGet x6 a4 h4 fun x7 =>
  castR [47] x7 h4 (
  lsAdd x5 x7 h4 fun h8 =>
  lt3 (a2 + 1) fun x9 =>
  ih x9 h8)))
  else none
noncomputable def f_X4_above_l95b162 (v0 : Nat) (v1 : Nat) (ih : Int32 → HP → Rs Unit) (a2 : Int32) (a3 : Nat) (a4 : Int32) (s0 : Nat) (h : HP) : Rs Unit :=
  f_X4_above_l95b163 v0 v1 ih a2 a3 a4 s0 (0 : Int32) h
noncomputable def b_X4_above_l95 (v0 : Nat) (v1 : Nat) (ih : Int32 → HP → Rs Unit) (a2 : Int32) (h : HP) : Rs Unit :=
  ldR 47 370 v1 h fun x1 =>
  lsSize x1 h fun x2 =>
  if x2 ≤ a2 then
  (rok () h)
  else
  (ldR 47 370 v1 h fun x3 =>
  lsGet x3 a2 h fun x4 =>
  castR [45] x4 h (
  ldR 5 53 v0 h fun x5 =>
  ldR 45 353 x4 h fun x6 =>
  bd (f_X4_kindNamed x5 x6 h) (fun x7 h8 =>
  if x7 < (10 : Int32) then
  (f_X4_above_l95b162 v0 v1 ih a2 x4 x7 v0 h8)
  else
  (ldR 5 53 v0 h8 fun x9 =>
  lsGet x9 x7 h8 fun x10 =>
  castR [47] x10 h8 (
  ldI 47 363 x10 h8 fun x11 =>
  if x11 = (2 : Int32) then
  (f_X4_above_l95b163 v0 v1 ih a2 x4 x7 v0 (1 : Int32) h8)
  else
  (f_X4_above_l95b162 v0 v1 ih a2 x4 x7 v0 h8))))))
noncomputable def f_X4_above_l95 (v0 : Nat) (v1 : Nat) (n : Nat) : Int32 → HP → Rs Unit := @Nat.rec (fun _ => Int32 → HP → Rs Unit) (fun _ _ => none) (fun _ ih => b_X4_above_l95 v0 v1 ih) n
noncomputable def f_X4_above_b93 (a0 : Nat) (a1 : Nat) (h : HP) : Rs Unit :=
  bd (f_X4_above_l95 a0 a1 NN (0 : Int32) h) (fun x1 h2 => rok () h2)
noncomputable def f_X4_above_b68 (a0 : Nat) (a1 : Nat) (a2 : Int32) (s0 : Nat) (s1 : Int32) (h : HP) : Rs Unit :=
  ldR 47 369 a1 h fun x1 =>
  ldI 45 354 x1 h fun x2 =>
  if kc h s0 = 5 then
  bd (f_X4_must s0 s1 x2 h) (fun _ h3 =>
  ldR 5 53 a0 h3 fun x4 =>
  lsGet x4 a2 h3 fun x5 =>
  castR [47] x5 h3 (
  stR 47 375 a1 x5 h3 fun h6 =>
  f_X4_above_b93  a0 a1 h6))
  else none
noncomputable def f_X4_above_b67 (a0 : Nat) (a1 : Nat) (a2 : Int32) (s0 : Nat) (h : HP) : Rs Unit :=
  f_X4_above_b68  a0 a1 a2 s0 (0 : Int32) h
noncomputable def f_X4_above (a0 : Nat) (a1 : Nat) (h : HP) : Rs Unit :=
  ldR 47 369 a1 h fun x1 =>
  if x1 = 0 then
  (f_X4_above_b93  a0 a1 h)
  else
  (ldR 47 369 a1 h fun x2 =>
  ldR 45 353 x2 h fun x3 =>
  txEq x3 30 h fun x4 =>
  if x4 = 0 then
  (ldR 5 53 a0 h fun x5 =>
  ldR 47 369 a1 h fun x6 =>
  ldR 45 353 x6 h fun x7 =>
  bd (f_X4_kindNamed x5 x7 h) (fun x8 h9 =>
  if x8 < (10 : Int32) then
  (f_X4_above_b67  a0 a1 x8 a0 h9)
  else
  (ldR 5 53 a0 h9 fun x10 =>
  lsGet x10 x8 h9 fun x11 =>
  castR [47] x11 h9 (
  ldI 47 363 x11 h9 fun x12 =>
  if x12 = (1 : Int32) then
  (f_X4_above_b68  a0 a1 x8 a0 (1 : Int32) h9)
  else
  (f_X4_above_b67  a0 a1 x8 a0 h9)))))
  else
  (f_X4_above_b93  a0 a1 h))
noncomputable def f_X4_actOf_l2b40 (v0 : Nat) (v1 : Int32) (ih : Int32 → HP → Rs (Int32 ⊕ Unit)) (a2 : Int32) (h : HP) : Rs (Int32 ⊕ Unit) :=
  lt3 (a2 + 1) fun x1 =>
  ih x1 h
noncomputable def b_X4_actOf_l2 (v0 : Nat) (v1 : Int32) (ih : Int32 → HP → Rs (Int32 ⊕ Unit)) (a2 : Int32) (h : HP) : Rs (Int32 ⊕ Unit) :=
  if (8 : Int32) ≤ a2 then
  (rok (Sum.inr ()) h)
  else
  (ldR 5 66 v0 h fun x1 =>
  aldR 10 x1 a2 h fun x2 =>
  ldI 9 137 x2 h fun x3 =>
  if x3 = 0 then
  (f_X4_actOf_l2b40 v0 v1 ih a2 h)
  else
  (ldR 5 66 v0 h fun x4 =>
  aldR 10 x4 a2 h fun x5 =>
  ldI 9 138 x5 h fun x6 =>
  if x6 = v1 then
  (rok (Sum.inl a2) h)
  else
  (f_X4_actOf_l2b40 v0 v1 ih a2 h)))
noncomputable def f_X4_actOf_l2 (v0 : Nat) (v1 : Int32) (n : Nat) : Int32 → HP → Rs (Int32 ⊕ Unit) := @Nat.rec (fun _ => Int32 → HP → Rs (Int32 ⊕ Unit)) (fun _ _ => none) (fun _ ih => b_X4_actOf_l2 v0 v1 ih) n
noncomputable def f_X4_actOf (a0 : Nat) (a1 : Int32) (h : HP) : Rs Nat :=
  bd (f_X4_actOf_l2 a0 a1 NN (0 : Int32) h) (Sum.elim (fun x1 => fun h2 => ldR 5 66 a0 h2 fun x3 =>
  aldR 10 x3 x1 h2 fun x4 =>
  rok x4 h2) (fun x5 => fun h6 => rok 0 h6))
noncomputable def f_X4_fails (a0 : Nat) (a1 : Int32) (h : HP) : Rs Nat :=
  ldR 5 52 a0 h fun x1 =>
  if kc h x1 = 6 then
  bd (f_X5_at x1 a1 (-1 : Int32) h) (fun x2 h3 =>
  rok x2 h3)
  else none
noncomputable def f_X4_addRow (a0 : Nat) (a1 : Int32) (a2 : Int64) (a4 : Int32) (a5 : Int64) (a7 : Int64) (h : HP) : Rs Unit :=
  ldR 5 112 a0 h fun x1 =>
  ldI 8 136 x1 h fun x2 =>
  if x2 = (2000 : Int32) then
  (if kc h a0 = 5 then
  bd (f_X4_fails a0 (12 : Int32) h) (fun x16 h17 =>
  if kc h17 x16 = 69 then rex h17 else none)
  else none)
  else
  (ldR 5 112 a0 h fun x3 =>
  ldR 8 135 x3 h fun x4 =>
  ldR 5 112 a0 h fun x5 =>
  ldI 8 136 x5 h fun x6 =>
  lt3 ((5 : Int32) * x6) fun x7 =>
  astJ 3 x4 x7 (Int32.toInt64 a1) h fun h8 =>
  astJ 3 x4 (x7 + (1 : Int32)) a2 h8 fun h9 =>
  astJ 3 x4 (x7 + (2 : Int32)) (Int32.toInt64 a4) h9 fun h10 =>
  astJ 3 x4 (x7 + (3 : Int32)) a5 h10 fun h11 =>
  astJ 3 x4 (x7 + (4 : Int32)) a7 h11 fun h12 =>
  ldR 5 112 a0 h12 fun x13 =>
  ldI 8 136 x13 h12 fun x14 =>
  stI 8 136 x13 (x14 + (1 : Int32)) h12 fun h15 =>
  rok () h15)
noncomputable def f_X4_isAliveIn (a0 : Nat) (a1 : Nat) (a2 : Nat) (a3 : Int32) (h : HP) : Rs Int32 :=
  if a1 = 0 then
  (rok (0 : Int32) h)
  else
  (ldI 58 436 a1 h fun x1 =>
  if x1 = 0 then
  (ldI 58 432 a1 h fun x2 =>
  if 0 ≤ x2 then
  (rok (1 : Int32) h)
  else
  (ldR 58 431 a1 h fun x3 =>
  if x3 = 0 then
  (if a2 = 0 then
  (ldI 58 434 a1 h fun x9 =>
  if x9 < 0 then
  (rok (0 : Int32) h)
  else
  (ldI 58 434 a1 h fun x10 =>
  if a3 < x10 then
  (rok (0 : Int32) h)
  else
  (rok (1 : Int32) h)))
  else
  (ldI 58 434 a1 h fun x4 =>
  if x4 < 0 then
  (ldI 58 435 a1 h fun x5 =>
  ldI 9 138 a2 h fun x6 =>
  if x5 = x6 then
  (rok (1 : Int32) h)
  else
  (rok (0 : Int32) h))
  else
  (ldI 58 434 a1 h fun x7 =>
  ldI 9 139 a2 h fun x8 =>
  if x8 < x7 then
  (rok (0 : Int32) h)
  else
  (rok (1 : Int32) h))))
  else
  (rok (1 : Int32) h)))
  else
  (rok (0 : Int32) h))
noncomputable def f_X4_thingAt (a0 : Nat) (a1 : Int64) (h : HP) : Rs Nat :=
  if (lg_cmp a1 (1 : Int64)) < 0 then
  (rok 0 h)
  else
  (ldI 5 60 a0 h fun x1 =>
  if 0 ≤ (lg_cmp a1 (Int32.toInt64 x1)) then
  (rok 0 h)
  else
  (ldR 5 59 a0 h fun x2 =>
  aldR 13 x2 (Int64.toInt32 a1) h fun x3 =>
  rok x3 h))
noncomputable def f_X4_isAlive (a0 : Nat) (a1 : Int64) (h : HP) : Rs Int32 :=
  if kc h a0 = 5 then
  bd (f_X4_thingAt a0 a1 h) (fun x1 h2 =>
  ldR 5 68 a0 h2 fun x3 =>
  ldI 5 69 a0 h2 fun x4 =>
  if kc h2 a0 = 5 then
  bd (f_X4_isAliveIn a0 x1 x3 x4 h2) (fun x5 h6 =>
  rokZ x5 h6)
  else none)
  else none
noncomputable def f_X4_kindAt (a0 : Nat) (a1 : Int32) (h : HP) : Rs Nat :=
  ldR 5 53 a0 h fun x1 =>
  lsGet x1 a1 h fun x2 =>
  castR [47] x2 h (
  rok x2 h)
noncomputable def f_X4_lies (a0 : Nat) (a1 : Nat) (a2 : Nat) (h : HP) : Rs Int32 :=
  ldR 5 58 a0 h fun x1 =>
  ldI 47 362 a1 h fun x2 =>
  ldI 5 54 a0 h fun x3 =>
  ldI 47 362 a2 h fun x4 =>
  aldI 2 x1 ((((x2 - (10 : Int32)) * x3) + x4) - (10 : Int32)) h fun x5 =>
  rokZ x5 h
abbrev TY_S8 : Type := (Nat → Int32 → Int32 → HP → Rs Int32)
noncomputable def f_X4_isBelow_b41 (R : TY_S8) (a0 : Nat) (a3 : Nat) (a4 : Nat) (h : HP) : Rs Int32 :=
  if kc h a3 = 47 then
  bd (f_X49_array a3 h) (fun x1 h2 =>
  if x1 = 0 then
  (rok (0 : Int32) h2)
  else
  (if kc h2 a4 = 47 then
  bd (f_X49_array a4 h2) (fun x3 h4 =>
  if x3 = 0 then
  (rok (0 : Int32) h4)
  else
  (ldI 47 367 a3 h4 fun x5 =>
  if x5 < (8 : Int32) then
  (rok (0 : Int32) h4)
  else
  (ldI 47 367 a4 h4 fun x6 =>
  if x6 < (8 : Int32) then
  (rok (0 : Int32) h4)
  else
  (ldI 47 367 a3 h4 fun x7 =>
  ldI 47 367 a4 h4 fun x8 =>
  if kc h4 a0 = 5 then
  bd (R a0 x7 x8 h4) (fun x9 h10 =>
  if x9 = 0 then
  (rok (0 : Int32) h10)
  else
  (rok (1 : Int32) h10))
  else none))))
  else none))
  else none
noncomputable def f_X4_isBelow_o (R : TY_S8) (a0 : Nat) (a1 : Int32) (a2 : Int32) (h : HP) : Rs Int32 :=
  if a1 = a2 then
  (rok (1 : Int32) h)
  else
  (if a2 = (8 : Int32) then
  (rok (1 : Int32) h)
  else
  (if kc h a0 = 5 then
  bd (f_X4_kindAt a0 a1 h) (fun x1 h2 =>
  if kc h2 a0 = 5 then
  bd (f_X4_kindAt a0 a2 h2) (fun x3 h4 =>
  if kc h4 x1 = 47 then
  bd (f_X49_array x1 h4) (fun x5 h6 =>
  if x5 = 0 then
  (if kc h6 x3 = 47 then
  bd (f_X49_array x3 h6) (fun x7 h8 =>
  if x7 = 0 then
  (if kc h8 x1 = 47 then
  bd (f_X49_told x1 h8) (fun x9 h10 =>
  if x9 = 0 then
  (rok (0 : Int32) h10)
  else
  (if kc h10 x3 = 47 then
  bd (f_X49_told x3 h10) (fun x11 h12 =>
  if x11 = 0 then
  (rok (0 : Int32) h12)
  else
  (if kc h12 a0 = 5 then
  bd (f_X4_lies a0 x1 x3 h12) (fun x13 h14 =>
  rokZ x13 h14)
  else none))
  else none))
  else none)
  else
  (f_X4_isBelow_b41 R  a0 x1 x3 h8))
  else none)
  else
  (f_X4_isBelow_b41 R  a0 x1 x3 h6))
  else none)
  else none)
  else none))
noncomputable def r_S8 (n : Nat) : TY_S8 := @Nat.rec (fun _ => TY_S8) (fun _ _ _ _ => none) (fun _ R => (f_X4_isBelow_o R)) n
noncomputable def f_X4_isBelow (n : Nat) : Nat → Int32 → Int32 → HP → Rs Int32 := (r_S8 n)
noncomputable def f_X4_push_b55 (a0 : Nat) (a1 : Int64) (h : HP) : Rs Unit :=
  ldR 5 81 a0 h fun x1 =>
  ldI 5 84 a0 h fun x2 =>
  astJ 3 x1 x2 a1 h fun h3 =>
  ldI 5 84 a0 h3 fun x4 =>
  stI 5 84 a0 (x4 + (1 : Int32)) h3 fun h5 =>
  rok () h5
noncomputable def b_X4_push_l24 (v0 : Nat) (v1 : Int64) (v3 : Nat) (ih : Int32 → HP → Rs Unit) (a4 : Int32) (h : HP) : Rs Unit :=
  ldI 5 84 v0 h fun x1 =>
  if x1 ≤ a4 then
  (rok () h)
  else
  (ldR 5 81 v0 h fun x2 =>
  aldJ 3 x2 a4 h fun x3 =>
  astJ 3 v3 a4 x3 h fun h4 =>
  lt3 (a4 + 1) fun x5 =>
  ih x5 h4)
noncomputable def f_X4_push_l24 (v0 : Nat) (v1 : Int64) (v3 : Nat) (n : Nat) : Int32 → HP → Rs Unit := @Nat.rec (fun _ => Int32 → HP → Rs Unit) (fun _ _ => none) (fun _ ih => b_X4_push_l24 v0 v1 v3 ih) n
noncomputable def f_X4_push (a0 : Nat) (a1 : Int64) (h : HP) : Rs Unit :=
  ldI 5 84 a0 h fun x1 =>
  ldR 5 81 a0 h fun x2 =>
  alen x2 h fun x3 =>
  if x1 = x3 then
  (ldI 5 84 a0 h fun x4 =>
  nwA 1103 ((2 : Int32) * x4) h fun p5 h6 =>
  bd (f_X4_push_l24 a0 a1 p5 NN (0 : Int32) h6) (fun x7 h8 => stR 5 81 a0 p5 h8 fun h9 =>
  f_X4_push_b55  a0 a1 h9))
  else
  (f_X4_push_b55  a0 a1 h)
noncomputable def b_X4_valuesIn_l45 (v3 : Int32) (ih : Nat → HP → Rs Nat) (a4 : Nat) (h : HP) : Rs Nat :=
  if a4 = 0 then
  (rok a4 h)
  else
  (ldI 61 446 a4 h fun x1 =>
  if x1 ≤ v3 then
  (rok a4 h)
  else
  (ldR 61 448 a4 h fun x2 =>
  ih x2 h))
noncomputable def f_X4_valuesIn_l45 (v3 : Int32) (n : Nat) : Nat → HP → Rs Nat := @Nat.rec (fun _ => Nat → HP → Rs Nat) (fun _ _ => none) (fun _ ih => b_X4_valuesIn_l45 v3 ih) n
noncomputable def f_X4_valuesIn_b69 (a4 : Nat) (h : HP) : Rs Nat :=
  if a4 = 0 then
  (rok 0 h)
  else
  (ldR 61 447 a4 h fun x1 =>
  rok x1 h)
noncomputable def f_X4_valuesIn_b38 (a0 : Nat) (s0 : Int32) (h : HP) : Rs Nat :=
  ldR 58 438 a0 h fun x1 =>
  bd (f_X4_valuesIn_l45 s0 NN x1 h) (fun x2 h3 => f_X4_valuesIn_b69  x2 h3)
noncomputable def f_X4_valuesIn_b26 (a0 : Nat) (a1 : Nat) (a2 : Int32) (h : HP) : Rs Nat :=
  if a1 = 0 then
  (f_X4_valuesIn_b38  a0 a2 h)
  else
  (ldI 9 139 a1 h fun x1 =>
  f_X4_valuesIn_b38  a0 x1 h)
noncomputable def f_X4_valuesIn (a0 : Nat) (a1 : Nat) (a2 : Int32) (h : HP) : Rs Nat :=
  if a1 = 0 then
  (f_X4_valuesIn_b26  a0 a1 a2 h)
  else
  (ldR 9 140 a1 h fun x1 =>
  ldI 58 429 a0 h fun x2 =>
  aldR 9 x1 x2 h fun x3 =>
  if x3 = 0 then
  (f_X4_valuesIn_b26  a0 a1 a2 h)
  else
  (ldR 9 140 a1 h fun x4 =>
  ldI 58 429 a0 h fun x5 =>
  aldR 9 x4 x5 h fun x6 =>
  rok x6 h))
noncomputable def f_X4_seen (a0 : Nat) (a1 : Nat) (h : HP) : Rs Nat :=
  ldR 5 68 a0 h fun x1 =>
  ldI 5 69 a0 h fun x2 =>
  bd (f_X4_valuesIn a1 x1 x2 h) (fun x3 h4 =>
  rok x3 h4)
noncomputable def f_X4_step (a0 : Nat) (h : HP) : Rs Unit :=
  ldI 5 88 a0 h fun x1 =>
  ldI 5 87 a0 h fun x2 =>
  if x1 = x2 then
  (if kc h a0 = 5 then
  bd (f_X4_fails a0 (10 : Int32) h) (fun x5 h6 =>
  if kc h6 x5 = 69 then rex h6 else none)
  else none)
  else
  (ldI 5 88 a0 h fun x3 =>
  stI 5 88 a0 (x3 + (1 : Int32)) h fun h4 =>
  rok () h4)
noncomputable def f_X4_values_b20 (a0 : Nat) (a1 : Nat) (h : HP) : Rs Nat :=
  ldR 5 68 a0 h fun x1 =>
  ldI 5 69 a0 h fun x2 =>
  bd (f_X4_valuesIn a1 x1 x2 h) (fun x3 h4 =>
  rok x3 h4)
noncomputable def f_X4_values (a0 : Nat) (a1 : Nat) (h : HP) : Rs Nat :=
  ldR 5 68 a0 h fun x1 =>
  if x1 = 0 then
  (f_X4_values_b20  a0 a1 h)
  else
  (ldR 5 68 a0 h fun x2 =>
  ldR 9 143 x2 h fun x3 =>
  ldI 58 429 a1 h fun x4 =>
  astI 2 x3 x4 (vp_nar .boolean (1 : Int32)) h fun h5 =>
  f_X4_values_b20  a0 a1 h5)
noncomputable def f_X4_advance_l56b105 (v0 : Nat) (v1 : Nat) (v2 : Nat) (v3 : Int64) (ih : HP → Rs Unit) (h : HP) : Rs Unit :=
  ldI 64 459 v2 h fun x1 =>
  stI 64 459 v2 (x1 + (1 : Int32)) h fun h2 =>
  ih  h2
noncomputable def b_X4_advance_l56 (v0 : Nat) (v1 : Nat) (v2 : Nat) (v3 : Int64) (ih : HP → Rs Unit) (h : HP) : Rs Unit :=
  ldI 64 459 v2 h fun x1 =>
  ldI 5 60 v0 h fun x2 =>
  if x2 ≤ x1 then
  (rok () h)
  else
  (ldI 64 459 v2 h fun x3 =>
  if kc h v0 = 5 then
  bd (f_X4_isAlive v0 (Int32.toInt64 x3) h) (fun x4 h5 =>
  if x4 = 0 then
  (f_X4_advance_l56b105 v0 v1 v2 v3 ih h5)
  else
  (ldR 5 59 v0 h5 fun x6 =>
  ldI 64 459 v2 h5 fun x7 =>
  aldR 13 x6 x7 h5 fun x8 =>
  ldI 58 430 x8 h5 fun x9 =>
  ldR 64 457 v2 h5 fun x10 =>
  ldI 56 419 x10 h5 fun x11 =>
  if kc h5 v0 = 5 then
  bd (f_X4_isBelow 100 v0 x9 x11 h5) (fun x12 h13 =>
  if x12 = 0 then
  (f_X4_advance_l56b105 v0 v1 v2 v3 ih h13)
  else
  (rok () h13))
  else none))
  else none)
noncomputable def f_X4_advance_l56 (v0 : Nat) (v1 : Nat) (v2 : Nat) (v3 : Int64) (n : Nat) : HP → Rs Unit := @Nat.rec (fun _ => HP → Rs Unit) (fun _ => none) (fun _ ih => b_X4_advance_l56 v0 v1 v2 v3 ih) n
noncomputable def f_X4_advance_b135 (a0 : Nat) (a1 : Nat) (a2 : Nat) (a3 : Int64) (h : HP) : Rs Unit :=
  if 0 ≤ (lg_cmp a3 (0 : Int64)) then
  (if kc h a0 = 5 then
  bd (f_X4_step a0 h) (fun _ h1 =>
  ldR 5 85 a0 h1 fun x2 =>
  ldI 63 455 a1 h1 fun x3 =>
  ldR 64 457 a2 h1 fun x4 =>
  ldI 56 422 x4 h1 fun x5 =>
  ldR 64 458 a2 h1 fun x6 =>
  if x6 = 0 then
  (astJ 3 x2 (x3 + x5) a3 h1 fun h12 =>
  rok () h12)
  else
  (ldR 64 458 a2 h1 fun x7 =>
  if kc h1 a0 = 5 then
  bd (f_X4_values a0 x7 h1) (fun x8 h9 =>
  aldJ 3 x8 (Int64.toInt32 a3) h9 fun x10 =>
  astJ 3 x2 (x3 + x5) x10 h9 fun h11 =>
  rok () h11)
  else none))
  else none)
  else
  (ldI 5 83 a0 h fun x13 =>
  stI 5 83 a0 (x13 - (1 : Int32)) h fun h14 =>
  ldR 64 457 a2 h14 fun x15 =>
  ldI 56 420 x15 h14 fun x16 =>
  if x16 = (5 : Int32) then
  (ldR 64 457 a2 h14 fun x17 =>
  ldI 56 423 x17 h14 fun x18 =>
  stI 63 453 a1 x18 h14 fun h19 =>
  rok () h19)
  else
  (ldJ 64 460 a2 h14 fun x20 =>
  if kc h14 a0 = 5 then
  bd (f_X4_push a0 x20 h14) (fun _ h21 =>
  ldR 64 457 a2 h21 fun x22 =>
  ldI 56 423 x22 h21 fun x23 =>
  stI 63 453 a1 x23 h21 fun h24 =>
  rok () h24)
  else none))
noncomputable def f_X4_advance_b118 (a0 : Nat) (a1 : Nat) (a2 : Nat) (a3 : Int64) (h : HP) : Rs Unit :=
  ldI 64 459 a2 h fun x1 =>
  ldI 5 60 a0 h fun x2 =>
  if x2 ≤ x1 then
  (f_X4_advance_b135  a0 a1 a2 a3 h)
  else
  (ldI 64 459 a2 h fun x3 =>
  lt3 (Int32.toInt64 x3) fun x4 =>
  f_X4_advance_b135  a0 a1 a2 x4 h)
noncomputable def f_X4_advance (a0 : Nat) (a1 : Nat) (a2 : Nat) (h : HP) : Rs Unit :=
  ldR 64 458 a2 h fun x1 =>
  if x1 = 0 then
  (ldI 64 459 a2 h fun x2 =>
  stI 64 459 a2 (x2 + (1 : Int32)) h fun h3 =>
  bd (f_X4_advance_l56 a0 a1 a2 (-1 : Int64) NN h3) (fun x4 h5 => f_X4_advance_b118  a0 a1 a2 (-1 : Int64) h5))
  else
  (ldI 64 459 a2 h fun x6 =>
  stI 64 459 a2 (x6 + (1 : Int32)) h fun h7 =>
  ldI 64 459 a2 h7 fun x8 =>
  ldR 64 458 a2 h7 fun x9 =>
  if kc h7 a0 = 5 then
  bd (f_X4_seen a0 x9 h7) (fun x10 h11 =>
  alen x10 h11 fun x12 =>
  if x12 ≤ x8 then
  (f_X4_advance_b135  a0 a1 a2 (-1 : Int64) h11)
  else
  (ldI 64 459 a2 h11 fun x13 =>
  lt3 (Int32.toInt64 x13) fun x14 =>
  f_X4_advance_b135  a0 a1 a2 x14 h11))
  else none)
noncomputable def b_X4_arrayOf_l2 (v0 : Nat) (v1 : Int32) (ih : Int32 → HP → Rs (Int32 ⊕ Unit)) (a2 : Int32) (h : HP) : Rs (Int32 ⊕ Unit) :=
  lsSize v0 h fun x1 =>
  if x1 ≤ a2 then
  (rok (Sum.inr ()) h)
  else
  (lsGet v0 a2 h fun x2 =>
  castR [47] x2 h (
  ldI 47 367 x2 h fun x3 =>
  if x3 = v1 then
  (rok (Sum.inl a2) h)
  else
  (lt3 (a2 + 1) fun x4 =>
  ih x4 h)))
noncomputable def f_X4_arrayOf_l2 (v0 : Nat) (v1 : Int32) (n : Nat) : Int32 → HP → Rs (Int32 ⊕ Unit) := @Nat.rec (fun _ => Int32 → HP → Rs (Int32 ⊕ Unit)) (fun _ _ => none) (fun _ ih => b_X4_arrayOf_l2 v0 v1 ih) n
noncomputable def f_X4_arrayOf (a0 : Nat) (a1 : Int32) (h : HP) : Rs Int32 :=
  bd (f_X4_arrayOf_l2 a0 a1 NN (0 : Int32) h) (Sum.elim (fun x1 => fun h2 => rok x1 h2) (fun x3 => fun h4 => rok (-1 : Int32) h4))
noncomputable def f_X4_arrayMade (a0 : Nat) (a1 : Int32) (h : HP) : Rs Int32 :=
  bd (f_X4_arrayOf a0 a1 h) (fun x1 h2 =>
  if x1 < 0 then
  (lsGet a0 a1 h2 fun x3 =>
  castR [47] x3 h2 (
  ldI 47 368 x3 h2 fun x4 =>
  lt3 (x4 + (1 : Int32)) fun x5 =>
  lsSize a0 h2 fun x6 =>
  if x6 = (400 : Int32) then
  (rok (-1 : Int32) h2)
  else
  (if x5 ≤ (8 : Int32) then
  (nwO 47 18 h2 fun p7 h8 =>
  lsSize a0 h8 fun x9 =>
  if kc h8 p7 = 47 then
  bd (f_X49_init p7 x9 h8) (fun _ h10 =>
  stI 47 367 p7 a1 h10 fun h11 =>
  stI 47 368 p7 x5 h11 fun h12 =>
  lsAdd a0 p7 h12 fun h13 =>
  ldI 47 362 p7 h13 fun x14 =>
  rok x14 h13)
  else none)
  else
  (rok (-1 : Int32) h2))))
  else
  (rok x1 h2))
noncomputable def b_X4_described_l2 (v0 : Nat) (v1 : Nat) (v2 : Int32) (ih : Int32 → HP → Rs Int32) (a3 : Int32) (h : HP) : Rs Int32 :=
  txLen v1 h fun x1 =>
  if x1 ≤ a3 then
  (rok a3 h)
  else
  (txAt v1 a3 h fun x2 =>
  if x2 = (91 : Int32) then
  (lt3 (a3 + 1) fun x3 =>
  ih x3 h)
  else
  (rok a3 h))
noncomputable def f_X4_described_l2 (v0 : Nat) (v1 : Nat) (v2 : Int32) (n : Nat) : Int32 → HP → Rs Int32 := @Nat.rec (fun _ => Int32 → HP → Rs Int32) (fun _ _ => none) (fun _ ih => b_X4_described_l2 v0 v1 v2 ih) n
noncomputable def f_X4_described_l338b372 (v0 : Nat) (v2 : Int32) (v3 : Int32) (v5 : Int32) (ih : Int32 → Int32 → Int32 → HP → Rs (Int32 × Int32)) (a6 : Int32) (a7 : Int32) (a8 : Int32) (h : HP) : Rs (Int32 × Int32) :=
  lt3 (a8 + 1) fun x1 =>
  ih a6 a7 x1 h
noncomputable def f_X4_described_l338b362 (v0 : Nat) (v2 : Int32) (v3 : Int32) (v5 : Int32) (ih : Int32 → Int32 → Int32 → HP → Rs (Int32 × Int32)) (a6 : Int32) (a8 : Int32) (s0 : Int32) (h : HP) : Rs (Int32 × Int32) :=
  if 0 ≤ s0 then
  (f_X4_described_l338b372 v0 v2 v3 v5 ih a6 s0 a8 h)
  else
  (lt3 (a6 + 1) fun x1 =>
  f_X4_described_l338b372 v0 v2 v3 v5 ih x1 s0 a8 h)
noncomputable def b_X4_described_l338 (v0 : Nat) (v2 : Int32) (v3 : Int32) (v5 : Int32) (ih : Int32 → Int32 → Int32 → HP → Rs (Int32 × Int32)) (a6 : Int32) (a7 : Int32) (a8 : Int32) (h : HP) : Rs (Int32 × Int32) :=
  if v3 ≤ a8 then
  (rok (a6, a7) h)
  else
  (if 0 ≤ a7 then
  (ldR 5 53 v0 h fun x1 =>
  bd (f_X4_arrayOf x1 a7 h) (fun x2 h3 =>
  f_X4_described_l338b362 v0 v2 v3 v5 ih a6 a8 x2 h3))
  else
  (f_X4_described_l338b362 v0 v2 v3 v5 ih a6 a8 (-1 : Int32) h))
noncomputable def f_X4_described_l338 (v0 : Nat) (v2 : Int32) (v3 : Int32) (v5 : Int32) (n : Nat) : Int32 → Int32 → Int32 → HP → Rs (Int32 × Int32) := @Nat.rec (fun _ => Int32 → Int32 → Int32 → HP → Rs (Int32 × Int32)) (fun _ _ _ _ => none) (fun _ ih => b_X4_described_l338 v0 v2 v3 v5 ih) n
noncomputable def b_X4_described_l414 (v0 : Nat) (v3 : Int32) (ih : Int32 → Int32 → HP → Rs Int32) (a5 : Int32) (a8 : Int32) (h : HP) : Rs Int32 :=
  if v3 ≤ a8 then
  (rok a5 h)
  else
  (ldR 5 53 v0 h fun x1 =>
  bd (f_X4_arrayMade x1 a5 h) (fun x2 h3 =>
  lt3 (a8 + 1) fun x4 =>
  ih x2 x4 h3))
noncomputable def f_X4_described_l414 (v0 : Nat) (v3 : Int32) (n : Nat) : Int32 → Int32 → HP → Rs Int32 := @Nat.rec (fun _ => Int32 → Int32 → HP → Rs Int32) (fun _ _ _ => none) (fun _ ih => b_X4_described_l414 v0 v3 ih) n
noncomputable def f_X4_described_b312 (a0 : Nat) (a2 : Int32) (a3 : Int32) (a5 : Int32) (h : HP) : Rs Int32 :=
  if 0 ≤ a5 then
  (if a3 ≤ (8 : Int32) then
  (bd (f_X4_described_l338 a0 a2 a3 a5 NN (0 : Int32) a5 (0 : Int32) h) (fun x1 h2 => if x1.1 = 0 then
  (rok x1.2 h2)
  else
  (if a2 = 0 then
  (rok (-1 : Int32) h2)
  else
  (ldR 5 53 a0 h2 fun x3 =>
  lsSize x3 h2 fun x4 =>
  if (x4 + x1.1) ≤ (400 : Int32) then
  (bd (f_X4_described_l414 a0 a3 NN a5 (0 : Int32) h2) (fun x5 h6 => rok x5 h6))
  else
  (rok (-2 : Int32) h2)))))
  else
  (rok (-2 : Int32) h))
  else
  (rok (-1 : Int32) h)
noncomputable def f_X4_described_l267b306 (v0 : Nat) (v2 : Int32) (v3 : Int32) (v6 : Nat) (ih : Int32 → Int32 → HP → Rs Int32) (a5 : Int32) (a7 : Int32) (h : HP) : Rs Int32 :=
  lt3 (a7 + 1) fun x1 =>
  ih a5 x1 h
noncomputable def b_X4_described_l267 (v0 : Nat) (v2 : Int32) (v3 : Int32) (v6 : Nat) (ih : Int32 → Int32 → HP → Rs Int32) (a5 : Int32) (a7 : Int32) (h : HP) : Rs Int32 :=
  ldI 5 54 v0 h fun x1 =>
  if ((10 : Int32) + x1) ≤ a7 then
  (rok a5 h)
  else
  (ldR 5 53 v0 h fun x2 =>
  lsGet x2 a7 h fun x3 =>
  castR [47] x3 h (
  ldR 47 365 x3 h fun x4 =>
  txEq x4 v6 h fun x5 =>
  if x5 = 0 then
  (f_X4_described_l267b306 v0 v2 v3 v6 ih a5 a7 h)
  else
  (f_X4_described_l267b306 v0 v2 v3 v6 ih a7 a7 h)))
noncomputable def f_X4_described_l267 (v0 : Nat) (v2 : Int32) (v3 : Int32) (v6 : Nat) (n : Nat) : Int32 → Int32 → HP → Rs Int32 := @Nat.rec (fun _ => Int32 → Int32 → HP → Rs Int32) (fun _ _ _ => none) (fun _ ih => b_X4_described_l267 v0 v2 v3 v6 ih) n
noncomputable def f_X4_described_b214 (a0 : Nat) (a2 : Int32) (a3 : Int32) (a5 : Int32) (h : HP) : Rs Int32 :=
  f_X4_described_b312  a0 a2 a3 a5 h
noncomputable def f_X4_described_b26 (a0 : Nat) (a1 : Nat) (a2 : Int32) (a3 : Int32) (h : HP) : Rs Int32 :=
  txLen a1 h fun x1 =>
  lt3 (x1 - a3) fun x2 =>
  if x2 = (1 : Int32) then
  (txAt a1 a3 h fun x11 =>
  if x11 = 66 then
  (f_X4_described_b312  a0 a2 a3 (1 : Int32) h)
  else
  if x11 = 67 then
  (f_X4_described_b312  a0 a2 a3 (3 : Int32) h)
  else
  if x11 = 68 then
  (f_X4_described_b312  a0 a2 a3 (7 : Int32) h)
  else
  if x11 = 69 then
  (f_X4_described_b214  a0 a2 a3 (-1 : Int32) h)
  else
  if x11 = 70 then
  (f_X4_described_b312  a0 a2 a3 (6 : Int32) h)
  else
  if x11 = 71 then
  (f_X4_described_b214  a0 a2 a3 (-1 : Int32) h)
  else
  if x11 = 72 then
  (f_X4_described_b214  a0 a2 a3 (-1 : Int32) h)
  else
  if x11 = 73 then
  (f_X4_described_b312  a0 a2 a3 (4 : Int32) h)
  else
  if x11 = 74 then
  (f_X4_described_b312  a0 a2 a3 (5 : Int32) h)
  else
  if x11 = 75 then
  (f_X4_described_b214  a0 a2 a3 (-1 : Int32) h)
  else
  if x11 = 76 then
  (f_X4_described_b214  a0 a2 a3 (-1 : Int32) h)
  else
  if x11 = 77 then
  (f_X4_described_b214  a0 a2 a3 (-1 : Int32) h)
  else
  if x11 = 78 then
  (f_X4_described_b214  a0 a2 a3 (-1 : Int32) h)
  else
  if x11 = 79 then
  (f_X4_described_b214  a0 a2 a3 (-1 : Int32) h)
  else
  if x11 = 80 then
  (f_X4_described_b214  a0 a2 a3 (-1 : Int32) h)
  else
  if x11 = 81 then
  (f_X4_described_b214  a0 a2 a3 (-1 : Int32) h)
  else
  if x11 = 82 then
  (f_X4_described_b214  a0 a2 a3 (-1 : Int32) h)
  else
  if x11 = 83 then
  (f_X4_described_b312  a0 a2 a3 (2 : Int32) h)
  else
  if x11 = 84 then
  (f_X4_described_b214  a0 a2 a3 (-1 : Int32) h)
  else
  if x11 = 85 then
  (f_X4_described_b214  a0 a2 a3 (-1 : Int32) h)
  else
  if x11 = 86 then
  (f_X4_described_b214  a0 a2 a3 (-1 : Int32) h)
  else
  if x11 = 87 then
  (f_X4_described_b214  a0 a2 a3 (-1 : Int32) h)
  else
  if x11 = 88 then
  (f_X4_described_b214  a0 a2 a3 (-1 : Int32) h)
  else
  if x11 = 89 then
  (f_X4_described_b214  a0 a2 a3 (-1 : Int32) h)
  else
  if x11 = 90 then
  (f_X4_described_b312  a0 a2 a3 (0 : Int32) h)
  else
  (f_X4_described_b214  a0 a2 a3 (-1 : Int32) h))
  else
  (if x2 ≤ (2 : Int32) then
  (f_X4_described_b312  a0 a2 a3 (-1 : Int32) h)
  else
  (txAt a1 a3 h fun x3 =>
  if x3 = (76 : Int32) then
  (txLen a1 h fun x4 =>
  txAt a1 (x4 - (1 : Int32)) h fun x5 =>
  if x5 = (59 : Int32) then
  (txLen a1 h fun x6 =>
  txSub a1 (a3 + (1 : Int32)) (x6 - (1 : Int32)) h fun x7 h8 =>
  bd (f_X4_described_l267 a0 a2 a3 x7 NN (-1 : Int32) (8 : Int32) h8) (fun x9 h10 => f_X4_described_b312  a0 a2 a3 x9 h10))
  else
  (f_X4_described_b312  a0 a2 a3 (-1 : Int32) h))
  else
  (f_X4_described_b312  a0 a2 a3 (-1 : Int32) h)))
noncomputable def f_X4_described (a0 : Nat) (a1 : Nat) (a2 : Int32) (h : HP) : Rs Int32 :=
  bd (f_X4_described_l2 a0 a1 a2 NN (0 : Int32) h) (fun x1 h2 => f_X4_described_b26  a0 a1 a2 x1 h2)
noncomputable def b_X4_logNumber_l5 (v0 : Nat) (v1 : Int32) (ih : Int64 → Int32 → HP → Rs Int64) (a2 : Int64) (a4 : Int32) (h : HP) : Rs Int64 :=
  if v1 ≤ a4 then
  (rok a2 h)
  else
  (ldR 5 120 v0 h fun x1 =>
  ldI 5 130 v0 h fun x2 =>
  aldI 1 x1 (x2 + a4) h fun x3 =>
  lt3 ((a2 <<< (Int32.toInt64 (8 : Int32) &&& 63)) ||| (Int32.toInt64 (x3 &&& (255 : Int32)))) fun x4 =>
  lt3 (a4 + 1) fun x5 =>
  ih x4 x5 h)
noncomputable def f_X4_logNumber_l5 (v0 : Nat) (v1 : Int32) (n : Nat) : Int64 → Int32 → HP → Rs Int64 := @Nat.rec (fun _ => Int64 → Int32 → HP → Rs Int64) (fun _ _ _ => none) (fun _ ih => b_X4_logNumber_l5 v0 v1 ih) n
noncomputable def f_X4_logNumber (a0 : Nat) (a1 : Int32) (h : HP) : Rs Int64 :=
  bd (f_X4_logNumber_l5 a0 a1 NN (0 : Int64) (0 : Int32) h) (fun x1 h2 => ldI 5 130 a0 h2 fun x3 =>
  stI 5 130 a0 (x3 + a1) h2 fun h4 =>
  rok x1 h4)
noncomputable def f_X60_init (a0 : Nat) (a1 : Int32) (a2 : Int32) (h : HP) : Rs Unit :=
  if a0 = 0 then none else (
  stI 58 432 a0 (-1 : Int32) h fun h1 =>
  stI 58 434 a0 (-1 : Int32) h1 fun h2 =>
  stI 58 429 a0 a1 h2 fun h3 =>
  stI 58 430 a0 a2 h3 fun h4 =>
  rok () h4)
noncomputable def f_X61_init (a0 : Nat) (h : HP) : Rs Unit :=
  if a0 = 0 then none else (
  nwA 1120 (16 : Int32) h fun p1 h2 =>
  stR 59 439 a0 p1 h2 fun h3 =>
  nwA 1142 (16 : Int32) h3 fun p4 h5 =>
  stR 59 440 a0 p4 h5 fun h6 =>
  nwC 144 3 h6 fun p7 h8 =>
  lsInit p7 h8 fun h9 =>
  stR 59 441 a0 p7 h9 fun h10 =>
  nwC 143 3 h10 fun p11 h12 =>
  lsInit p11 h12 fun h13 =>
  stR 59 442 a0 p11 h13 fun h14 =>
  rok () h14)
noncomputable def f_X63_init (a0 : Nat) (a1 : Int32) (a2 : Nat) (a3 : Nat) (h : HP) : Rs Unit :=
  if a0 = 0 then none else (
  stI 61 446 a0 a1 h fun h1 =>
  stR 61 447 a0 a2 h1 fun h2 =>
  stR 61 448 a0 a3 h2 fun h3 =>
  rok () h3)
noncomputable def b_X4_again_l97 (v0 : Nat) (v3 : Int32) (v4 : Nat) (ih : Int32 → HP → Rs Unit) (a5 : Int32) (h : HP) : Rs Unit :=
  if (16 : Int32) ≤ a5 then
  (rok () h)
  else
  (ldR 59 439 v4 h fun x1 =>
  ldR 5 63 v0 h fun x2 =>
  ldI 5 64 v0 h fun x3 =>
  aldR 14 x2 x3 h fun x4 =>
  ldR 59 439 x4 h fun x5 =>
  aldI 0 x5 a5 h fun x6 =>
  astI 0 x1 a5 x6 h fun h7 =>
  lt3 (a5 + 1) fun x8 =>
  ih x8 h7)
noncomputable def f_X4_again_l97 (v0 : Nat) (v3 : Int32) (v4 : Nat) (n : Nat) : Int32 → HP → Rs Unit := @Nat.rec (fun _ => Int32 → HP → Rs Unit) (fun _ _ => none) (fun _ ih => b_X4_again_l97 v0 v3 v4 ih) n
noncomputable def b_X4_again_l205 (v0 : Nat) (v4 : Nat) (v5 : Int32) (v6 : Int32) (v7 : Int32) (v8 : Int32) (v9 : Nat) (ih : Int32 → HP → Rs Unit) (a10 : Int32) (h : HP) : Rs Unit :=
  if v8 ≤ a10 then
  (rok () h)
  else
  (if kc h v0 = 5 then
  bd (f_X4_logNumber v0 (1 : Int32) h) (fun x1 h2 =>
  sbApC v9 (UInt32.toInt32 (Int32.toUInt32 (Int64.toInt32 x1) % 65536)) h2 fun h3 =>
  lt3 (a10 + 1) fun x4 =>
  ih x4 h3)
  else none)
noncomputable def f_X4_again_l205 (v0 : Nat) (v4 : Nat) (v5 : Int32) (v6 : Int32) (v7 : Int32) (v8 : Int32) (v9 : Nat) (n : Nat) : Int32 → HP → Rs Unit := @Nat.rec (fun _ => Int32 → HP → Rs Unit) (fun _ _ => none) (fun _ ih => b_X4_again_l205 v0 v4 v5 v6 v7 v8 v9 ih) n
noncomputable def b_X4_again_l398 (v0 : Nat) (v4 : Nat) (v5 : Int32) (v6 : Int32) (v11 : Int32) (v12 : Nat) (v13 : Nat) (ih : Int32 → HP → Rs Unit) (a14 : Int32) (h : HP) : Rs Unit :=
  if v11 ≤ a14 then
  (rok () h)
  else
  (if kc h v0 = 5 then
  bd (f_X4_logNumber v0 (8 : Int32) h) (fun x1 h2 =>
  astJ 3 v13 a14 x1 h2 fun h3 =>
  lt3 (a14 + 1) fun x4 =>
  ih x4 h3)
  else none)
noncomputable def f_X4_again_l398 (v0 : Nat) (v4 : Nat) (v5 : Int32) (v6 : Int32) (v11 : Int32) (v12 : Nat) (v13 : Nat) (n : Nat) : Int32 → HP → Rs Unit := @Nat.rec (fun _ => Int32 → HP → Rs Unit) (fun _ _ => none) (fun _ ih => b_X4_again_l398 v0 v4 v5 v6 v11 v12 v13 ih) n
noncomputable def f_X4_again_l170b441 (v0 : Nat) (v4 : Nat) (v5 : Int32) (ih : Int32 → HP → Rs Unit) (a6 : Int32) (h : HP) : Rs Unit :=
  lt3 (a6 + 1) fun x1 =>
  ih x1 h
noncomputable def b_X4_again_l350 (v0 : Nat) (v4 : Nat) (v5 : Int32) (v6 : Int32) (v11 : Int32) (v12 : Nat) (v13 : Nat) (ih : Int32 → HP → Rs Unit) (a14 : Int32) (h : HP) : Rs Unit :=
  if v11 ≤ a14 then
  (rok () h)
  else
  (if kc h v0 = 5 then
  bd (f_X4_logNumber v0 (1 : Int32) h) (fun x1 h2 =>
  sbApC v13 (UInt32.toInt32 (Int32.toUInt32 (Int64.toInt32 x1) % 65536)) h2 fun h3 =>
  lt3 (a14 + 1) fun x4 =>
  ih x4 h3)
  else none)
noncomputable def f_X4_again_l350 (v0 : Nat) (v4 : Nat) (v5 : Int32) (v6 : Int32) (v11 : Int32) (v12 : Nat) (v13 : Nat) (n : Nat) : Int32 → HP → Rs Unit := @Nat.rec (fun _ => Int32 → HP → Rs Unit) (fun _ _ => none) (fun _ ih => b_X4_again_l350 v0 v4 v5 v6 v11 v12 v13 ih) n
noncomputable def f_X4_again_l170b325 (v0 : Nat) (v4 : Nat) (v5 : Int32) (ih : Int32 → HP → Rs Unit) (a6 : Int32) (a10 : Int32) (a11 : Int32) (a12 : Nat) (h : HP) : Rs Unit :=
  stI 58 437 a12 (1 : Int32) h fun h1 =>
  if a10 = (9 : Int32) then
  (nwC 72 4 h1 fun p11 h12 =>
  sbInit p11 h12 fun h13 =>
  bd (f_X4_again_l350 v0 v4 v5 a6 a11 a12 p11 NN (0 : Int32) h13) (fun x14 h15 => sbStr p11 h15 fun x16 h17 =>
  stR 58 431 a12 x16 h17 fun h18 =>
  f_X4_again_l170b441 v0 v4 v5 ih a6 h18))
  else
  (nwA 1163 a11 h1 fun p2 h3 =>
  bd (f_X4_again_l398 v0 v4 v5 a6 a11 a12 p2 NN (0 : Int32) h3) (fun x4 h5 => nwO 61 3 h5 fun p6 h7 =>
  ldI 5 64 v0 h7 fun x8 =>
  if kc h7 p6 = 61 then
  bd (f_X63_init p6 x8 p2 0 h7) (fun _ h9 =>
  stR 58 438 a12 p6 h9 fun h10 =>
  f_X4_again_l170b441 v0 v4 v5 ih a6 h10)
  else none))
noncomputable def f_X4_again_l170b295 (v0 : Nat) (v4 : Nat) (v5 : Int32) (ih : Int32 → HP → Rs Unit) (a6 : Int32) (a7 : Int32) (a10 : Int32) (a11 : Int32) (a12 : Nat) (s0 : Nat) (s1 : Int32) (h : HP) : Rs Unit :=
  stI 58 434 s0 s1 h fun h1 =>
  ldR 5 59 v0 h1 fun x2 =>
  astO 13 58 x2 a7 a12 h1 fun h3 =>
  if a10 = (9 : Int32) then
  (f_X4_again_l170b325 v0 v4 v5 ih a6 a10 a11 a12 h3)
  else
  (ldI 5 61 v0 h3 fun x4 =>
  stI 5 61 v0 (x4 + a11) h3 fun h5 =>
  f_X4_again_l170b325 v0 v4 v5 ih a6 a10 a11 a12 h5)
noncomputable def b_X4_again_l170 (v0 : Nat) (v4 : Nat) (v5 : Int32) (ih : Int32 → HP → Rs Unit) (a6 : Int32) (h : HP) : Rs Unit :=
  if v5 ≤ a6 then
  (rok () h)
  else
  (if kc h v0 = 5 then
  bd (f_X4_logNumber v0 (4 : Int32) h) (fun x1 h2 =>
  lt3 (Int64.toInt32 x1) fun x3 =>
  if kc h2 v0 = 5 then
  bd (f_X4_logNumber v0 (1 : Int32) h2) (fun x4 h5 =>
  lt3 (Int64.toInt32 x4) fun x6 =>
  nwC 72 4 h5 fun p7 h8 =>
  sbInit p7 h8 fun h9 =>
  bd (f_X4_again_l205 v0 v4 v5 a6 x3 x6 p7 NN (0 : Int32) h9) (fun x10 h11 => sbStr p7 h11 fun x12 h13 =>
  if kc h13 v0 = 5 then
  bd (f_X4_described v0 x12 (1 : Int32) h13) (fun x14 h15 =>
  if kc h15 v0 = 5 then
  bd (f_X4_logNumber v0 (4 : Int32) h15) (fun x16 h17 =>
  lt3 (Int64.toInt32 x16) fun x18 =>
  ldR 5 59 v0 h17 fun x19 =>
  aldR 13 x19 x3 h17 fun x20 =>
  if x20 = 0 then
  (nwO 58 10 h17 fun p21 h22 =>
  if kc h22 p21 = 58 then
  bd (f_X60_init p21 x3 x14 h22) (fun _ h23 =>
  if x14 = (9 : Int32) then
  (f_X4_again_l170b295 v0 v4 v5 ih a6 x3 x14 x18 p21 p21 (0 : Int32) h23)
  else
  (ldI 5 64 v0 h23 fun x24 =>
  f_X4_again_l170b295 v0 v4 v5 ih a6 x3 x14 x18 p21 p21 x24 h23))
  else none)
  else
  (f_X4_again_l170b325 v0 v4 v5 ih a6 x14 x18 x20 h17))
  else none)
  else none))
  else none)
  else none)
noncomputable def f_X4_again_l170 (v0 : Nat) (v4 : Nat) (v5 : Int32) (n : Nat) : Int32 → HP → Rs Unit := @Nat.rec (fun _ => Int32 → HP → Rs Unit) (fun _ _ => none) (fun _ ih => b_X4_again_l170 v0 v4 v5 ih) n
noncomputable def b_X4_again_l458 (v0 : Nat) (v4 : Nat) (v6 : Int32) (ih : Int32 → HP → Rs Unit) (a7 : Int32) (h : HP) : Rs Unit :=
  if v6 ≤ a7 then
  (rok () h)
  else
  (if kc h v0 = 5 then
  bd (f_X4_logNumber v0 (1 : Int32) h) (fun x1 h2 =>
  lt3 (Int64.toInt32 x1) fun x3 =>
  ldR 59 439 v4 h2 fun x4 =>
  if kc h2 v0 = 5 then
  bd (f_X4_logNumber v0 (4 : Int32) h2) (fun x5 h6 =>
  astI 0 x4 x3 (Int64.toInt32 x5) h6 fun h7 =>
  lt3 (a7 + 1) fun x8 =>
  ih x8 h7)
  else none)
  else none)
noncomputable def f_X4_again_l458 (v0 : Nat) (v4 : Nat) (v6 : Int32) (n : Nat) : Int32 → HP → Rs Unit := @Nat.rec (fun _ => Int32 → HP → Rs Unit) (fun _ _ => none) (fun _ ih => b_X4_again_l458 v0 v4 v6 ih) n
noncomputable def f_X4_again_l47b78 (v0 : Nat) (v4 : Int32) (ih : Int32 → HP → Rs Unit) (a5 : Int32) (h : HP) : Rs Unit :=
  lt3 (a5 + 1) fun x1 =>
  ih x1 h
noncomputable def b_X4_again_l47 (v0 : Nat) (v4 : Int32) (ih : Int32 → HP → Rs Unit) (a5 : Int32) (h : HP) : Rs Unit :=
  if v4 ≤ a5 then
  (rok () h)
  else
  (ldR 5 59 v0 h fun x1 =>
  if kc h v0 = 5 then
  bd (f_X4_logNumber v0 (4 : Int32) h) (fun x2 h3 =>
  aldR 13 x1 (Int64.toInt32 x2) h3 fun x4 =>
  if x4 = 0 then
  (f_X4_again_l47b78 v0 v4 ih a5 h3)
  else
  (stI 58 436 x4 (1 : Int32) h3 fun h5 =>
  f_X4_again_l47b78 v0 v4 ih a5 h5))
  else none)
noncomputable def f_X4_again_l47 (v0 : Nat) (v4 : Int32) (n : Nat) : Int32 → HP → Rs Unit := @Nat.rec (fun _ => Int32 → HP → Rs Unit) (fun _ _ => none) (fun _ ih => b_X4_again_l47 v0 v4 ih) n
noncomputable def f_X4_again_b24 (a0 : Nat) (s0 : Int32) (h : HP) : Rs Unit :=
  if kc h a0 = 5 then
  bd (f_X4_logNumber a0 (4 : Int32) h) (fun x1 h2 =>
  lt3 (Int64.toInt32 x1) fun x3 =>
  if s0 = 0 then
  (nwO 59 4 h2 fun p4 h5 =>
  if kc h5 p4 = 59 then
  bd (f_X61_init p4 h5) (fun _ h6 =>
  bd (f_X4_again_l97 a0 x3 p4 NN (0 : Int32) h6) (fun x7 h8 => stI 5 64 a0 x3 h8 fun h9 =>
  ldR 5 63 a0 h9 fun x10 =>
  ldI 5 64 a0 h9 fun x11 =>
  astO 14 59 x10 x11 p4 h9 fun h12 =>
  if kc h12 a0 = 5 then
  bd (f_X4_logNumber a0 (4 : Int32) h12) (fun x13 h14 =>
  stI 5 60 a0 (Int64.toInt32 x13) h14 fun h15 =>
  if kc h15 a0 = 5 then
  bd (f_X4_logNumber a0 (4 : Int32) h15) (fun x16 h17 =>
  lt3 (Int64.toInt32 x16) fun x18 =>
  bd (f_X4_again_l170 a0 p4 x18 NN (0 : Int32) h17) (fun x19 h20 => if kc h20 a0 = 5 then
  bd (f_X4_logNumber a0 (4 : Int32) h20) (fun x21 h22 =>
  lt3 (Int64.toInt32 x21) fun x23 =>
  bd (f_X4_again_l458 a0 p4 x23 NN (0 : Int32) h22) (fun x24 h25 => rok () h25))
  else none))
  else none)
  else none))
  else none)
  else
  (if kc h2 a0 = 5 then
  bd (f_X4_logNumber a0 (4 : Int32) h2) (fun x26 h27 =>
  lt3 (Int64.toInt32 x26) fun x28 =>
  bd (f_X4_again_l47 a0 x28 NN (0 : Int32) h27) (fun x29 h30 => rok () h30))
  else none))
  else none
noncomputable def f_X4_again (a0 : Nat) (a1 : Int32) (h : HP) : Rs Unit :=
  stI 5 130 a0 (a1 + (4 : Int32)) h fun h1 =>
  if kc h1 a0 = 5 then
  bd (f_X4_logNumber a0 (1 : Int32) h1) (fun x2 h3 =>
  if (lg_cmp x2 (2 : Int64)) = 0 then
  (f_X4_again_b24  a0 (1 : Int32) h3)
  else
  (f_X4_again_b24  a0 (0 : Int32) h3))
  else none
abbrev TY_S9 : Type := (Nat → Nat → HP → Rs Unit)
noncomputable def f_X4_allFaces_l38b68 (R : TY_S9) (v1 : Nat) (v2 : Nat) (v3 : Int32) (v4 : Nat) (ih : Int32 → Int32 → HP → Rs Int32) (a6 : Int32) (s0 : Int32) (h : HP) : Rs Int32 :=
  lt3 (a6 + 1) fun x1 =>
  ih s0 x1 h
noncomputable def f_X4_allFaces_l38b63 (R : TY_S9) (v1 : Nat) (v2 : Nat) (v3 : Int32) (v4 : Nat) (ih : Int32 → Int32 → HP → Rs Int32) (a6 : Int32) (h : HP) : Rs Int32 :=
  f_X4_allFaces_l38b68 R v1 v2 v3 v4 ih a6 (1 : Int32) h
noncomputable def b_X4_allFaces_l38 (R : TY_S9) (v1 : Nat) (v2 : Nat) (v3 : Int32) (v4 : Nat) (ih : Int32 → Int32 → HP → Rs Int32) (a5 : Int32) (a6 : Int32) (h : HP) : Rs Int32 :=
  lsSize v1 h fun x1 =>
  if x1 ≤ a6 then
  (rok a5 h)
  else
  (if a5 = 0 then
  (lsGet v1 a6 h fun x2 =>
  eqR h x2 v4
  (f_X4_allFaces_l38b63 R v1 v2 v3 v4 ih a6 h)
  (f_X4_allFaces_l38b68 R v1 v2 v3 v4 ih a6 (0 : Int32) h))
  else
  (f_X4_allFaces_l38b63 R v1 v2 v3 v4 ih a6 h))
noncomputable def f_X4_allFaces_l38 (R : TY_S9) (v1 : Nat) (v2 : Nat) (v3 : Int32) (v4 : Nat) (n : Nat) : Int32 → Int32 → HP → Rs Int32 := @Nat.rec (fun _ => Int32 → Int32 → HP → Rs Int32) (fun _ _ _ => none) (fun _ ih => b_X4_allFaces_l38 R v1 v2 v3 v4 ih) n
noncomputable def f_X4_allFaces_l8b94 (R : TY_S9) (v1 : Nat) (v2 : Nat) (ih : Int32 → HP → Rs Unit) (a3 : Int32) (h : HP) : Rs Unit :=
  lt3 (a3 + 1) fun x1 =>
  ih x1 h
noncomputable def b_X4_allFaces_l8 (R : TY_S9) (v1 : Nat) (v2 : Nat) (ih : Int32 → HP → Rs Unit) (a3 : Int32) (h : HP) : Rs Unit :=
  ldR 47 376 v2 h fun x1 =>
  lsSize x1 h fun x2 =>
  if x2 ≤ a3 then
  (rok () h)
  else
  (ldR 47 376 v2 h fun x3 =>
  lsGet x3 a3 h fun x4 =>
  castR [47] x4 h (
  bd (f_X4_allFaces_l38 R v1 v2 a3 x4 NN (0 : Int32) (0 : Int32) h) (fun x5 h6 => if x5 = 0 then
  (lsAdd v1 x4 h6 fun h7 =>
  bd (R x4 v1 h7) (fun _ h8 =>
  f_X4_allFaces_l8b94 R v1 v2 ih a3 h8))
  else
  (f_X4_allFaces_l8b94 R v1 v2 ih a3 h6))))
noncomputable def f_X4_allFaces_l8 (R : TY_S9) (v1 : Nat) (v2 : Nat) (n : Nat) : Int32 → HP → Rs Unit := @Nat.rec (fun _ => Int32 → HP → Rs Unit) (fun _ _ => none) (fun _ ih => b_X4_allFaces_l8 R v1 v2 ih) n
noncomputable def b_X4_allFaces_l2 (R : TY_S9) (v1 : Nat) (ih : Nat → HP → Rs Unit) (a2 : Nat) (h : HP) : Rs Unit :=
  if a2 = 0 then
  (rok () h)
  else
  (bd (f_X4_allFaces_l8 R v1 a2 NN (0 : Int32) h) (fun x1 h2 => ldR 47 375 a2 h2 fun x3 =>
  ih x3 h2))
noncomputable def f_X4_allFaces_l2 (R : TY_S9) (v1 : Nat) (n : Nat) : Nat → HP → Rs Unit := @Nat.rec (fun _ => Nat → HP → Rs Unit) (fun _ _ => none) (fun _ ih => b_X4_allFaces_l2 R v1 ih) n
noncomputable def f_X4_allFaces_o (R : TY_S9) (a0 : Nat) (a1 : Nat) (h : HP) : Rs Unit :=
  bd (f_X4_allFaces_l2 R a1 NN a0 h) (fun x1 h2 => rok () h2)
noncomputable def r_S9 (n : Nat) : TY_S9 := @Nat.rec (fun _ => TY_S9) (fun _ _ _ => none) (fun _ R => (f_X4_allFaces_o R)) n
noncomputable def f_X4_allFaces (n : Nat) : Nat → Nat → HP → Rs Unit := (r_S9 n)
noncomputable def b_X4_isSameTypes_l38 (v0 : Nat) (v1 : Nat) (ih : Int32 → HP → Rs (Unit ⊕ Unit)) (a2 : Int32) (h : HP) : Rs (Unit ⊕ Unit) :=
  ldR 50 391 v0 h fun x1 =>
  lsSize x1 h fun x2 =>
  if x2 ≤ a2 then
  (rok (Sum.inr ()) h)
  else
  (ldR 50 391 v0 h fun x3 =>
  lsGet x3 a2 h fun x4 =>
  castR [49] x4 h (
  ldR 49 384 x4 h fun x5 =>
  ldI 48 383 x5 h fun x6 =>
  ldR 50 391 v1 h fun x7 =>
  lsGet x7 a2 h fun x8 =>
  castR [49] x8 h (
  ldR 49 384 x8 h fun x9 =>
  ldI 48 383 x9 h fun x10 =>
  if x6 = x10 then
  (lt3 (a2 + 1) fun x11 =>
  ih x11 h)
  else
  (rok (Sum.inl ()) h))))
noncomputable def f_X4_isSameTypes_l38 (v0 : Nat) (v1 : Nat) (n : Nat) : Int32 → HP → Rs (Unit ⊕ Unit) := @Nat.rec (fun _ => Int32 → HP → Rs (Unit ⊕ Unit)) (fun _ _ => none) (fun _ ih => b_X4_isSameTypes_l38 v0 v1 ih) n
noncomputable def f_X4_isSameTypes (a0 : Nat) (a1 : Nat) (h : HP) : Rs Int32 :=
  ldR 50 389 a0 h fun x1 =>
  ldI 48 383 x1 h fun x2 =>
  ldR 50 389 a1 h fun x3 =>
  ldI 48 383 x3 h fun x4 =>
  if x2 = x4 then
  (ldR 50 391 a0 h fun x5 =>
  lsSize x5 h fun x6 =>
  ldR 50 391 a1 h fun x7 =>
  lsSize x7 h fun x8 =>
  if x6 = x8 then
  (bd (f_X4_isSameTypes_l38 a0 a1 NN (0 : Int32) h) (Sum.elim (fun x9 => fun h10 => rok (0 : Int32) h10) (fun x11 => fun h12 => rok (1 : Int32) h12)))
  else
  (rok (0 : Int32) h))
  else
  (rok (0 : Int32) h)
noncomputable def b_X4_own_l2 (v0 : Nat) (v1 : Nat) (ih : Int32 → HP → Rs (Int32 ⊕ Unit)) (a2 : Int32) (h : HP) : Rs (Int32 ⊕ Unit) :=
  ldR 47 372 v0 h fun x1 =>
  lsSize x1 h fun x2 =>
  if x2 ≤ a2 then
  (rok (Sum.inr ()) h)
  else
  (ldR 47 372 v0 h fun x3 =>
  lsGet x3 a2 h fun x4 =>
  castR [50] x4 h (
  ldR 50 390 x4 h fun x5 =>
  ldR 45 353 x5 h fun x6 =>
  txEq x6 v1 h fun x7 =>
  if x7 = 0 then
  (lt3 (a2 + 1) fun x8 =>
  ih x8 h)
  else
  (rok (Sum.inl a2) h)))
noncomputable def f_X4_own_l2 (v0 : Nat) (v1 : Nat) (n : Nat) : Int32 → HP → Rs (Int32 ⊕ Unit) := @Nat.rec (fun _ => Int32 → HP → Rs (Int32 ⊕ Unit)) (fun _ _ => none) (fun _ ih => b_X4_own_l2 v0 v1 ih) n
noncomputable def f_X4_own (a0 : Nat) (a1 : Nat) (h : HP) : Rs Nat :=
  bd (f_X4_own_l2 a0 a1 NN (0 : Int32) h) (Sum.elim (fun x1 => fun h2 => ldR 47 372 a0 h2 fun x3 =>
  lsGet x3 x1 h2 fun x4 =>
  castR [50] x4 h2 (
  rok x4 h2)) (fun x5 => fun h6 => rok 0 h6))
noncomputable def f_X4_alike_l45b86 (v0 : Nat) (v1 : Nat) (v2 : Nat) (v3 : Int32) (v4 : Nat) (ih : Nat → HP → Rs Unit) (a5 : Nat) (s0 : Nat) (s1 : Int32) (h : HP) : Rs Unit :=
  ldR 50 390 v4 h fun x1 =>
  ldI 45 354 x1 h fun x2 =>
  if kc h s0 = 5 then
  bd (f_X4_must s0 s1 x2 h) (fun _ h3 =>
  ldR 47 375 a5 h3 fun x4 =>
  ih x4 h3)
  else none
noncomputable def f_X4_alike_l45b81 (v0 : Nat) (v1 : Nat) (v2 : Nat) (v3 : Int32) (v4 : Nat) (ih : Nat → HP → Rs Unit) (a5 : Nat) (s0 : Nat) (h : HP) : Rs Unit :=
  f_X4_alike_l45b86 v0 v1 v2 v3 v4 ih a5 s0 (1 : Int32) h
noncomputable def b_X4_alike_l45 (v0 : Nat) (v1 : Nat) (v2 : Nat) (v3 : Int32) (v4 : Nat) (ih : Nat → HP → Rs Unit) (a5 : Nat) (h : HP) : Rs Unit :=
  if a5 = 0 then
  (rok () h)
  else
  (ldR 50 390 v4 h fun x1 =>
  ldR 45 353 x1 h fun x2 =>
  bd (f_X4_own a5 x2 h) (fun x3 h4 =>
  if x3 = 0 then
  (f_X4_alike_l45b81 v0 v1 v2 v3 v4 ih a5 v0 h4)
  else
  (bd (f_X4_isSameTypes v4 x3 h4) (fun x5 h6 =>
  if x5 = 0 then
  (f_X4_alike_l45b86 v0 v1 v2 v3 v4 ih a5 v0 (0 : Int32) h6)
  else
  (f_X4_alike_l45b81 v0 v1 v2 v3 v4 ih a5 v0 h6)))))
noncomputable def f_X4_alike_l45 (v0 : Nat) (v1 : Nat) (v2 : Nat) (v3 : Int32) (v4 : Nat) (n : Nat) : Nat → HP → Rs Unit := @Nat.rec (fun _ => Nat → HP → Rs Unit) (fun _ _ => none) (fun _ ih => b_X4_alike_l45 v0 v1 v2 v3 v4 ih) n
noncomputable def f_X4_alike_l110b162 (v0 : Nat) (v1 : Nat) (v2 : Nat) (v3 : Int32) (v4 : Nat) (ih : Int32 → HP → Rs Unit) (a5 : Int32) (s0 : Nat) (s1 : Int32) (h : HP) : Rs Unit :=
  ldR 50 390 v4 h fun x1 =>
  ldI 45 354 x1 h fun x2 =>
  if kc h s0 = 5 then
  bd (f_X4_must s0 s1 x2 h) (fun _ h3 =>
  lt3 (a5 + 1) fun x4 =>
  ih x4 h3)
  else none
noncomputable def f_X4_alike_l110b157 (v0 : Nat) (v1 : Nat) (v2 : Nat) (v3 : Int32) (v4 : Nat) (ih : Int32 → HP → Rs Unit) (a5 : Int32) (s0 : Nat) (h : HP) : Rs Unit :=
  f_X4_alike_l110b162 v0 v1 v2 v3 v4 ih a5 s0 (1 : Int32) h
noncomputable def b_X4_alike_l110 (v0 : Nat) (v1 : Nat) (v2 : Nat) (v3 : Int32) (v4 : Nat) (ih : Int32 → HP → Rs Unit) (a5 : Int32) (h : HP) : Rs Unit :=
  lsSize v2 h fun x1 =>
  if x1 ≤ a5 then
  (rok () h)
  else
  (lsGet v2 a5 h fun x2 =>
  castR [47] x2 h (
  ldR 50 390 v4 h fun x3 =>
  ldR 45 353 x3 h fun x4 =>
  bd (f_X4_own x2 x4 h) (fun x5 h6 =>
  if x5 = 0 then
  (f_X4_alike_l110b157 v0 v1 v2 v3 v4 ih a5 v0 h6)
  else
  (bd (f_X4_isSameTypes v4 x5 h6) (fun x7 h8 =>
  if x7 = 0 then
  (f_X4_alike_l110b162 v0 v1 v2 v3 v4 ih a5 v0 (0 : Int32) h8)
  else
  (f_X4_alike_l110b157 v0 v1 v2 v3 v4 ih a5 v0 h8))))))
noncomputable def f_X4_alike_l110 (v0 : Nat) (v1 : Nat) (v2 : Nat) (v3 : Int32) (v4 : Nat) (n : Nat) : Int32 → HP → Rs Unit := @Nat.rec (fun _ => Int32 → HP → Rs Unit) (fun _ _ => none) (fun _ ih => b_X4_alike_l110 v0 v1 v2 v3 v4 ih) n
noncomputable def b_X4_alike_l15 (v0 : Nat) (v1 : Nat) (v2 : Nat) (ih : Int32 → HP → Rs Unit) (a3 : Int32) (h : HP) : Rs Unit :=
  ldR 47 372 v1 h fun x1 =>
  lsSize x1 h fun x2 =>
  if x2 ≤ a3 then
  (rok () h)
  else
  (ldR 47 372 v1 h fun x3 =>
  lsGet x3 a3 h fun x4 =>
  castR [50] x4 h (
  ldR 47 375 v1 h fun x5 =>
  bd (f_X4_alike_l45 v0 v1 v2 a3 x4 NN x5 h) (fun x6 h7 => bd (f_X4_alike_l110 v0 v1 v2 a3 x4 NN (0 : Int32) h7) (fun x8 h9 => lt3 (a3 + 1) fun x10 =>
  ih x10 h9))))
noncomputable def f_X4_alike_l15 (v0 : Nat) (v1 : Nat) (v2 : Nat) (n : Nat) : Int32 → HP → Rs Unit := @Nat.rec (fun _ => Int32 → HP → Rs Unit) (fun _ _ => none) (fun _ ih => b_X4_alike_l15 v0 v1 v2 ih) n
noncomputable def b_X4_alike_l199 (v0 : Nat) (v1 : Nat) (v2 : Nat) (v3 : Nat) (ih : Nat → HP → Rs Unit) (a4 : Nat) (h : HP) : Rs Unit :=
  if a4 = 0 then
  (rok () h)
  else
  (lsAdd v3 a4 h fun h1 =>
  ldR 47 375 a4 h1 fun x2 =>
  ih x2 h1)
noncomputable def f_X4_alike_l199 (v0 : Nat) (v1 : Nat) (v2 : Nat) (v3 : Nat) (n : Nat) : Nat → HP → Rs Unit := @Nat.rec (fun _ => Nat → HP → Rs Unit) (fun _ _ => none) (fun _ ih => b_X4_alike_l199 v0 v1 v2 v3 ih) n
noncomputable def b_X4_alike_l224 (v0 : Nat) (v1 : Nat) (v2 : Nat) (v3 : Nat) (ih : Int32 → HP → Rs Unit) (a4 : Int32) (h : HP) : Rs Unit :=
  lsSize v2 h fun x1 =>
  if x1 ≤ a4 then
  (rok () h)
  else
  (lsGet v2 a4 h fun x2 =>
  castR [47] x2 h (
  lsAdd v3 x2 h fun h3 =>
  lt3 (a4 + 1) fun x4 =>
  ih x4 h3))
noncomputable def f_X4_alike_l224 (v0 : Nat) (v1 : Nat) (v2 : Nat) (v3 : Nat) (n : Nat) : Int32 → HP → Rs Unit := @Nat.rec (fun _ => Int32 → HP → Rs Unit) (fun _ _ => none) (fun _ ih => b_X4_alike_l224 v0 v1 v2 v3 ih) n
noncomputable def f_X4_alike_l313b363 (v0 : Nat) (v1 : Nat) (v3 : Nat) (v4 : Int32) (v5 : Int32) (v6 : Nat) (ih : Int32 → HP → Rs Unit) (a7 : Int32) (s0 : Nat) (s1 : Int32) (h : HP) : Rs Unit :=
  ldI 47 366 v1 h fun x1 =>
  if kc h s0 = 5 then
  bd (f_X4_must s0 s1 x1 h) (fun _ h2 =>
  lt3 (a7 + 1) fun x3 =>
  ih x3 h2)
  else none
noncomputable def f_X4_alike_l313b358 (v0 : Nat) (v1 : Nat) (v3 : Nat) (v4 : Int32) (v5 : Int32) (v6 : Nat) (ih : Int32 → HP → Rs Unit) (a7 : Int32) (s0 : Nat) (h : HP) : Rs Unit :=
  f_X4_alike_l313b363 v0 v1 v3 v4 v5 v6 ih a7 s0 (1 : Int32) h
noncomputable def b_X4_alike_l313 (v0 : Nat) (v1 : Nat) (v3 : Nat) (v4 : Int32) (v5 : Int32) (v6 : Nat) (ih : Int32 → HP → Rs Unit) (a7 : Int32) (h : HP) : Rs Unit :=
  if v4 ≤ a7 then
  (rok () h)
  else
  (lsGet v3 a7 h fun x1 =>
  castR [47] x1 h (
  ldR 50 390 v6 h fun x2 =>
  ldR 45 353 x2 h fun x3 =>
  bd (f_X4_own x1 x3 h) (fun x4 h5 =>
  if x4 = 0 then
  (f_X4_alike_l313b358 v0 v1 v3 v4 v5 v6 ih a7 v0 h5)
  else
  (bd (f_X4_isSameTypes v6 x4 h5) (fun x6 h7 =>
  if x6 = 0 then
  (f_X4_alike_l313b363 v0 v1 v3 v4 v5 v6 ih a7 v0 (0 : Int32) h7)
  else
  (f_X4_alike_l313b358 v0 v1 v3 v4 v5 v6 ih a7 v0 h7))))))
noncomputable def f_X4_alike_l313 (v0 : Nat) (v1 : Nat) (v3 : Nat) (v4 : Int32) (v5 : Int32) (v6 : Nat) (n : Nat) : Int32 → HP → Rs Unit := @Nat.rec (fun _ => Int32 → HP → Rs Unit) (fun _ _ => none) (fun _ ih => b_X4_alike_l313 v0 v1 v3 v4 v5 v6 ih) n
noncomputable def b_X4_alike_l268 (v0 : Nat) (v1 : Nat) (v3 : Nat) (v4 : Int32) (ih : Int32 → HP → Rs Unit) (a5 : Int32) (h : HP) : Rs Unit :=
  lsGet v3 v4 h fun x1 =>
  castR [47] x1 h (
  ldR 47 372 x1 h fun x2 =>
  lsSize x2 h fun x3 =>
  if x3 ≤ a5 then
  (rok () h)
  else
  (lsGet v3 v4 h fun x4 =>
  castR [47] x4 h (
  ldR 47 372 x4 h fun x5 =>
  lsGet x5 a5 h fun x6 =>
  castR [50] x6 h (
  bd (f_X4_alike_l313 v0 v1 v3 v4 a5 x6 NN (0 : Int32) h) (fun x7 h8 => lt3 (a5 + 1) fun x9 =>
  ih x9 h8)))))
noncomputable def f_X4_alike_l268 (v0 : Nat) (v1 : Nat) (v3 : Nat) (v4 : Int32) (n : Nat) : Int32 → HP → Rs Unit := @Nat.rec (fun _ => Int32 → HP → Rs Unit) (fun _ _ => none) (fun _ ih => b_X4_alike_l268 v0 v1 v3 v4 ih) n
noncomputable def b_X4_alike_l256 (v0 : Nat) (v1 : Nat) (v3 : Nat) (ih : Int32 → HP → Rs Unit) (a4 : Int32) (h : HP) : Rs Unit :=
  lsSize v3 h fun x1 =>
  if x1 ≤ a4 then
  (rok () h)
  else
  (bd (f_X4_alike_l268 v0 v1 v3 a4 NN (0 : Int32) h) (fun x2 h3 => lt3 (a4 + 1) fun x4 =>
  ih x4 h3))
noncomputable def f_X4_alike_l256 (v0 : Nat) (v1 : Nat) (v3 : Nat) (n : Nat) : Int32 → HP → Rs Unit := @Nat.rec (fun _ => Int32 → HP → Rs Unit) (fun _ _ => none) (fun _ ih => b_X4_alike_l256 v0 v1 v3 ih) n
noncomputable def f_X4_alike (a0 : Nat) (a1 : Nat) (h : HP) : Rs Unit :=
  nwC 146 3 h fun p1 h2 =>
  lsInit p1 h2 fun h3 =>
  bd (f_X4_allFaces 100 a1 p1 h3) (fun _ h4 =>
  bd (f_X4_alike_l15 a0 a1 p1 NN (0 : Int32) h4) (fun x5 h6 => nwC 145 3 h6 fun p7 h8 =>
  lsInit p7 h8 fun h9 =>
  ldR 47 375 a1 h9 fun x10 =>
  bd (f_X4_alike_l199 a0 a1 p1 p7 NN x10 h9) (fun x11 h12 => bd (f_X4_alike_l224 a0 a1 p1 p7 NN (0 : Int32) h12) (fun x13 h14 => bd (f_X4_alike_l256 a0 a1 p7 NN (0 : Int32) h14) (fun x15 h16 => rok () h16)))))
noncomputable def f_X4_isOpen (a0 : Nat) (h : HP) : Rs Int32 :=
  ldI 5 55 a0 h fun x1 =>
  if x1 = 0 then
  (rok (0 : Int32) h)
  else
  (ldI 5 70 a0 h fun x2 =>
  if x2 = 0 then
  (rok (1 : Int32) h)
  else
  (rok (0 : Int32) h))
noncomputable def f_X4_hasView (a0 : Nat) (h : HP) : Rs Int32 :=
  if kc h a0 = 5 then
  bd (f_X4_isOpen a0 h) (fun x1 h2 =>
  if x1 = 0 then
  (rok (0 : Int32) h2)
  else
  (ldR 5 68 a0 h2 fun x3 =>
  if x3 = 0 then
  (ldI 5 69 a0 h2 fun x4 =>
  if x4 < 0 then
  (rok (0 : Int32) h2)
  else
  (rok (1 : Int32) h2))
  else
  (rok (1 : Int32) h2)))
  else none
noncomputable def f_X4_alive (a0 : Nat) (a1 : Int32) (h : HP) : Rs Int32 :=
  if kc h a0 = 5 then
  bd (f_X4_hasView a0 h) (fun x1 h2 =>
  if x1 = 0 then
  (rok (0 : Int32) h2)
  else
  (if kc h2 a0 = 5 then
  bd (f_X4_isAlive a0 (Int32.toInt64 a1) h2) (fun x3 h4 =>
  if x3 = 0 then
  (rok (0 : Int32) h4)
  else
  (rok (1 : Int32) h4))
  else none))
  else none
noncomputable def f_X4_answer (a0 : Nat) (a1 : Int32) (a2 : Int32) (h : HP) : Rs Int64 :=
  if a1 < 0 then
  (rok (0 : Int64) h)
  else
  (ldI 5 98 a0 h fun x1 =>
  if x1 ≤ a1 then
  (rok (0 : Int64) h)
  else
  (if a2 < 0 then
  (rok (0 : Int64) h)
  else
  (ldI 5 100 a0 h fun x2 =>
  if x2 ≤ a2 then
  (rok (0 : Int64) h)
  else
  (ldR 5 95 a0 h fun x3 =>
  aldJ 3 x3 (((4 : Int32) * a1) + a2) h fun x4 =>
  rok x4 h))))
noncomputable def f_X4_answerKind (a0 : Nat) (a1 : Int32) (h : HP) : Rs Int32 :=
  if a1 < 0 then
  (rok (-1 : Int32) h)
  else
  (ldI 5 100 a0 h fun x1 =>
  if x1 ≤ a1 then
  (rok (-1 : Int32) h)
  else
  (ldR 5 99 a0 h fun x2 =>
  aldI 0 x2 a1 h fun x3 =>
  rok x3 h))
noncomputable def f_X4_answered (a0 : Nat) (h : HP) : Rs Int64 :=
  ldJ 5 92 a0 h fun x1 =>
  rok x1 h
noncomputable def b_X4_sum_l5 (v0 : Nat) (v2 : Int32) (ih : Int64 → Int32 → HP → Rs Int64) (a3 : Int64) (a5 : Int32) (h : HP) : Rs Int64 :=
  if v2 ≤ a5 then
  (rok a3 h)
  else
  (aldI 1 v0 a5 h fun x1 =>
  lt3 ((rotl (a3 ^^^ (Int32.toInt64 (x1 &&& (255 : Int32)))) (27 : Int32)) * (-7046029254386353131 : Int64)) fun x2 =>
  lt3 (a5 + 1) fun x3 =>
  ih x2 x3 h)
noncomputable def f_X4_sum_l5 (v0 : Nat) (v2 : Int32) (n : Nat) : Int64 → Int32 → HP → Rs Int64 := @Nat.rec (fun _ => Int64 → Int32 → HP → Rs Int64) (fun _ _ _ => none) (fun _ ih => b_X4_sum_l5 v0 v2 ih) n
noncomputable def f_X4_sum (a0 : Nat) (a1 : Int32) (a2 : Int32) (h : HP) : Rs Int64 :=
  bd (f_X4_sum_l5 a0 a2 NN (0 : Int64) a1 h) (fun x1 h2 => rok x1 h2)
noncomputable def f_X6_add_b51 (a0 : Nat) (a1 : Int32) (h : HP) : Rs Unit :=
  ldR 7 133 a0 h fun x1 =>
  ldI 7 134 a0 h fun x2 =>
  astI 1 x1 x2 (vp_nar .byte (Int8.toInt32 (Int32.toInt8 a1))) h fun h3 =>
  ldI 7 134 a0 h3 fun x4 =>
  stI 7 134 a0 (x4 + (1 : Int32)) h3 fun h5 =>
  rok () h5
noncomputable def b_X6_add_l23 (v0 : Nat) (v1 : Int32) (v2 : Nat) (ih : Int32 → HP → Rs Unit) (a3 : Int32) (h : HP) : Rs Unit :=
  ldI 7 134 v0 h fun x1 =>
  if x1 ≤ a3 then
  (rok () h)
  else
  (ldR 7 133 v0 h fun x2 =>
  aldI 1 x2 a3 h fun x3 =>
  astI 1 v2 a3 (vp_nar .byte x3) h fun h4 =>
  lt3 (a3 + 1) fun x5 =>
  ih x5 h4)
noncomputable def f_X6_add_l23 (v0 : Nat) (v1 : Int32) (v2 : Nat) (n : Nat) : Int32 → HP → Rs Unit := @Nat.rec (fun _ => Int32 → HP → Rs Unit) (fun _ _ => none) (fun _ ih => b_X6_add_l23 v0 v1 v2 ih) n
noncomputable def f_X6_add (a0 : Nat) (a1 : Int32) (h : HP) : Rs Unit :=
  ldI 7 134 a0 h fun x1 =>
  ldR 7 133 a0 h fun x2 =>
  alen x2 h fun x3 =>
  if x1 = x3 then
  (ldI 7 134 a0 h fun x4 =>
  nwA 1181 ((2 : Int32) * x4) h fun p5 h6 =>
  bd (f_X6_add_l23 a0 a1 p5 NN (0 : Int32) h6) (fun x7 h8 => stR 7 133 a0 p5 h8 fun h9 =>
  f_X6_add_b51  a0 a1 h9))
  else
  (f_X6_add_b51  a0 a1 h)
noncomputable def b_X6_number_l5 (v0 : Nat) (v1 : Int64) (ih : Int32 → HP → Rs Unit) (a4 : Int32) (h : HP) : Rs Unit :=
  if a4 < 0 then
  (rok () h)
  else
  (if kc h v0 = 7 then
  bd (f_X6_add v0 ((Int64.toInt32 (v1 >>> (Int32.toInt64 ((8 : Int32) * a4) &&& 63))) &&& (255 : Int32)) h) (fun _ h1 =>
  lt3 (a4 + (-1)) fun x2 =>
  ih x2 h1)
  else none)
noncomputable def f_X6_number_l5 (v0 : Nat) (v1 : Int64) (n : Nat) : Int32 → HP → Rs Unit := @Nat.rec (fun _ => Int32 → HP → Rs Unit) (fun _ _ => none) (fun _ ih => b_X6_number_l5 v0 v1 ih) n
noncomputable def f_X6_number (a0 : Nat) (a1 : Int64) (a3 : Int32) (h : HP) : Rs Unit :=
  lt3 (a3 - (1 : Int32)) fun x1 =>
  bd (f_X6_number_l5 a0 a1 NN x1 h) (fun x2 h3 => rok () h3)
noncomputable def b_X4_appended_l23 (v0 : Nat) (v1 : Nat) (v2 : Int32) (ih : Int32 → HP → Rs Unit) (a3 : Int32) (h : HP) : Rs Unit :=
  if (4 : Int32) ≤ a3 then
  (rok () h)
  else
  (ldR 7 133 v1 h fun x1 =>
  astI 1 x1 a3 (vp_nar .byte (Int8.toInt32 (Int32.toInt8 (v2 >>> (((24 : Int32) - ((8 : Int32) * a3)) &&& 31))))) h fun h2 =>
  lt3 (a3 + 1) fun x3 =>
  ih x3 h2)
noncomputable def f_X4_appended_l23 (v0 : Nat) (v1 : Nat) (v2 : Int32) (n : Nat) : Int32 → HP → Rs Unit := @Nat.rec (fun _ => Int32 → HP → Rs Unit) (fun _ _ => none) (fun _ ih => b_X4_appended_l23 v0 v1 v2 ih) n
noncomputable def b_X4_appended_l97 (v0 : Nat) (v1 : Nat) (v2 : Int32) (ih : Int32 → HP → Rs Unit) (a3 : Int32) (h : HP) : Rs Unit :=
  if v2 ≤ a3 then
  (rok () h)
  else
  (ldR 5 120 v0 h fun x1 =>
  ldI 5 122 v0 h fun x2 =>
  ldR 7 133 v1 h fun x3 =>
  aldI 1 x3 a3 h fun x4 =>
  astI 1 x1 (x2 + a3) (vp_nar .byte x4) h fun h5 =>
  ldR 5 121 v0 h5 fun x6 =>
  ldI 5 122 v0 h5 fun x7 =>
  ldR 7 133 v1 h5 fun x8 =>
  aldI 1 x8 a3 h5 fun x9 =>
  astI 1 x6 (x7 + a3) (vp_nar .byte x9) h5 fun h10 =>
  lt3 (a3 + 1) fun x11 =>
  ih x11 h10)
noncomputable def f_X4_appended_l97 (v0 : Nat) (v1 : Nat) (v2 : Int32) (n : Nat) : Int32 → HP → Rs Unit := @Nat.rec (fun _ => Int32 → HP → Rs Unit) (fun _ _ => none) (fun _ ih => b_X4_appended_l97 v0 v1 v2 ih) n
noncomputable def f_X4_appended (a0 : Nat) (a1 : Nat) (h : HP) : Rs Int32 :=
  ldI 7 134 a1 h fun x1 =>
  lt3 (x1 + (8 : Int32)) fun x2 =>
  ldI 5 122 a0 h fun x3 =>
  if (x3 + x2) ≤ (40000 : Int32) then
  (bd (f_X4_appended_l23 a0 a1 x2 NN (0 : Int32) h) (fun x4 h5 => ldR 7 133 a1 h5 fun x6 =>
  ldI 7 134 a1 h5 fun x7 =>
  bd (f_X4_sum x6 (0 : Int32) x7 h5) (fun x8 h9 =>
  if kc h9 a1 = 7 then
  bd (f_X6_number a1 x8 (8 : Int32) h9) (fun _ h10 =>
  ldR 5 123 a0 h10 fun x11 =>
  ldI 5 122 a0 h10 fun x12 =>
  ivOf x12 h10 fun x13 h14 =>
  lsAdd x11 x13 h14 fun h15 =>
  ldR 5 124 a0 h15 fun x16 =>
  ivOf x2 h15 fun x17 h18 =>
  lsAdd x16 x17 h18 fun h19 =>
  bd (f_X4_appended_l97 a0 a1 x2 NN (0 : Int32) h19) (fun x20 h21 => ldI 5 122 a0 h21 fun x22 =>
  stI 5 122 a0 (x22 + x2) h21 fun h23 =>
  rok (1 : Int32) h23))
  else none)))
  else
  (rok (0 : Int32) h)
noncomputable def b_X4_longs_l7 (v0 : Nat) (v1 : Nat) (ih : Int32 → HP → Rs Unit) (a2 : Int32) (h : HP) : Rs Unit :=
  alen v1 h fun x1 =>
  if x1 ≤ a2 then
  (rok () h)
  else
  (aldJ 3 v0 a2 h fun x2 =>
  astJ 3 v1 a2 x2 h fun h3 =>
  lt3 (a2 + 1) fun x4 =>
  ih x4 h3)
noncomputable def f_X4_longs_l7 (v0 : Nat) (v1 : Nat) (n : Nat) : Int32 → HP → Rs Unit := @Nat.rec (fun _ => Int32 → HP → Rs Unit) (fun _ _ => none) (fun _ ih => b_X4_longs_l7 v0 v1 ih) n
noncomputable def f_X4_longs (a0 : Nat) (h : HP) : Rs Nat :=
  alen a0 h fun x1 =>
  nwA 1203 x1 h fun p2 h3 =>
  bd (f_X4_longs_l7 a0 p2 NN (0 : Int32) h3) (fun x4 h5 => rok p2 h5)
noncomputable def f_X4_changing (a0 : Nat) (a1 : Nat) (h : HP) : Rs Nat :=
  ldR 5 68 a0 h fun x1 =>
  ldI 58 434 a1 h fun x2 =>
  if 0 ≤ x2 then
  (ldR 9 140 x1 h fun x3 =>
  ldI 58 429 a1 h fun x4 =>
  aldR 9 x3 x4 h fun x5 =>
  if x5 = 0 then
  (bd (f_X4_valuesIn a1 x1 (0 : Int32) h) (fun x9 h10 =>
  ldI 5 62 a0 h10 fun x11 =>
  alen x9 h10 fun x12 =>
  if (x11 + x12) ≤ (60000 : Int32) then
  (ldI 5 62 a0 h10 fun x13 =>
  alen x9 h10 fun x14 =>
  stI 5 62 a0 (x13 + x14) h10 fun h15 =>
  ldR 9 140 x1 h15 fun x16 =>
  ldI 58 429 a1 h15 fun x17 =>
  bd (f_X4_longs x9 h15) (fun x18 h19 =>
  astA x16 x17 x18 h19 fun h20 =>
  ldR 9 141 x1 h20 fun x21 =>
  lsAdd x21 a1 h20 fun h22 =>
  ldR 9 140 x1 h22 fun x23 =>
  ldI 58 429 a1 h22 fun x24 =>
  aldR 9 x23 x24 h22 fun x25 =>
  rok x25 h22))
  else
  (rok 0 h10)))
  else
  (ldR 9 140 x1 h fun x6 =>
  ldI 58 429 a1 h fun x7 =>
  aldR 9 x6 x7 h fun x8 =>
  rok x8 h))
  else
  (ldR 9 140 x1 h fun x26 =>
  ldI 58 429 a1 h fun x27 =>
  aldR 9 x26 x27 h fun x28 =>
  rok x28 h)
noncomputable def f_X4_hasAct (a0 : Nat) (h : HP) : Rs Int32 :=
  if kc h a0 = 5 then
  bd (f_X4_isOpen a0 h) (fun x1 h2 =>
  if x1 = 0 then
  (rok (0 : Int32) h2)
  else
  (ldR 5 68 a0 h2 fun x3 =>
  if x3 = 0 then
  (rok (0 : Int32) h2)
  else
  (rok (1 : Int32) h2)))
  else none
noncomputable def f_X4_isArray (a0 : Nat) (a1 : Nat) (h : HP) : Rs Int32 :=
  ldI 58 430 a1 h fun x1 =>
  if kc h a0 = 5 then
  bd (f_X4_kindAt a0 x1 h) (fun x2 h3 =>
  if kc h3 x2 = 47 then
  bd (f_X49_array x2 h3) (fun x4 h5 =>
  rokZ x4 h5)
  else none)
  else none
noncomputable def f_X4_kindOfPlace (a0 : Nat) (a1 : Nat) (a2 : Int32) (h : HP) : Rs Int32 :=
  if kc h a0 = 5 then
  bd (f_X4_isArray a0 a1 h) (fun x1 h2 =>
  if x1 = 0 then
  (ldI 58 430 a1 h2 fun x3 =>
  if kc h2 a0 = 5 then
  bd (f_X4_kindAt a0 x3 h2) (fun x4 h5 =>
  ldR 47 377 x4 h5 fun x6 =>
  lsGet x6 a2 h5 fun x7 =>
  castR [49] x7 h5 (
  ldR 49 384 x7 h5 fun x8 =>
  ldI 48 383 x8 h5 fun x9 =>
  rok x9 h5))
  else none)
  else
  (ldI 58 430 a1 h2 fun x10 =>
  if kc h2 a0 = 5 then
  bd (f_X4_kindAt a0 x10 h2) (fun x11 h12 =>
  ldI 47 367 x11 h12 fun x13 =>
  rok x13 h12)
  else none))
  else none
noncomputable def f_X4_thing (a0 : Nat) (a1 : Int32) (h : HP) : Rs Nat :=
  nwO 58 10 h fun p1 h2 =>
  ldI 5 60 a0 h2 fun x3 =>
  if kc h2 p1 = 58 then
  bd (f_X60_init p1 x3 a1 h2) (fun _ h4 =>
  ldR 5 59 a0 h4 fun x5 =>
  ldI 5 60 a0 h4 fun x6 =>
  astO 13 58 x5 x6 p1 h4 fun h7 =>
  ldI 5 60 a0 h7 fun x8 =>
  stI 5 60 a0 (x8 + (1 : Int32)) h7 fun h9 =>
  rok p1 h9)
  else none
noncomputable def f_X4_made (a0 : Nat) (a1 : Int32) (a2 : Nat) (h : HP) : Rs Nat :=
  if kc h a0 = 5 then
  bd (f_X4_thing a0 a1 h) (fun x1 h2 =>
  ldR 5 68 a0 h2 fun x3 =>
  ldI 9 138 x3 h2 fun x4 =>
  stI 58 435 x1 x4 h2 fun h5 =>
  ldR 5 68 a0 h5 fun x6 =>
  ldR 9 140 x6 h5 fun x7 =>
  ldI 58 429 x1 h5 fun x8 =>
  astA x7 x8 a2 h5 fun h9 =>
  ldR 5 68 a0 h9 fun x10 =>
  ldR 9 142 x10 h9 fun x11 =>
  lsAdd x11 x1 h9 fun h12 =>
  ldI 5 61 a0 h12 fun x13 =>
  alen a2 h12 fun x14 =>
  stI 5 61 a0 (x13 + x14) h12 fun h15 =>
  rok x1 h15)
  else none
noncomputable def f_X7_cell (a0 : Nat) (a1 : Int32) (a2 : Int32) (h : HP) : Rs Int64 :=
  ldR 8 135 a0 h fun x1 =>
  aldJ 3 x1 (((5 : Int32) * a1) + a2) h fun x2 =>
  rok x2 h
noncomputable def f_X4_sizeNew (a0 : Nat) (a1 : Int32) (h : HP) : Rs Int32 :=
  ldR 5 111 a0 h fun x1 =>
  if kc h x1 = 8 then
  bd (f_X7_cell x1 a1 (2 : Int32) h) (fun x2 h3 =>
  if kc h3 a0 = 5 then
  bd (f_X4_kindAt a0 (Int64.toInt32 x2) h3) (fun x4 h5 =>
  if kc h5 x4 = 47 then
  bd (f_X49_array x4 h5) (fun x6 h7 =>
  if x6 = 0 then
  (ldR 47 377 x4 h7 fun x8 =>
  lsSize x8 h7 fun x9 =>
  rok x9 h7)
  else
  (ldR 5 111 a0 h7 fun x10 =>
  if kc h7 x10 = 8 then
  bd (f_X7_cell x10 a1 (3 : Int32) h7) (fun x11 h12 =>
  rok (Int64.toInt32 x11) h12)
  else none))
  else none)
  else none)
  else none
noncomputable def f_X4_sizeOf (a0 : Nat) (a1 : Nat) (h : HP) : Rs Int32 :=
  ldR 58 431 a1 h fun x1 =>
  if x1 = 0 then
  (ldI 58 432 a1 h fun x2 =>
  if x2 < 0 then
  (if kc h a0 = 5 then
  bd (f_X4_isArray a0 a1 h) (fun x3 h4 =>
  if x3 = 0 then
  (ldI 58 430 a1 h4 fun x5 =>
  if kc h4 a0 = 5 then
  bd (f_X4_kindAt a0 x5 h4) (fun x6 h7 =>
  ldR 47 377 x6 h7 fun x8 =>
  lsSize x8 h7 fun x9 =>
  rok x9 h7)
  else none)
  else
  (if kc h4 a0 = 5 then
  bd (f_X4_seen a0 a1 h4) (fun x10 h11 =>
  alen x10 h11 fun x12 =>
  rok x12 h11)
  else none))
  else none)
  else
  (rok (0 : Int32) h))
  else
  (ldR 58 431 a1 h fun x13 =>
  txLen x13 h fun x14 =>
  rok x14 h)
noncomputable def f_X4_touch (a0 : Nat) (a1 : Nat) (h : HP) : Rs Unit :=
  ldR 5 68 a0 h fun x1 =>
  if x1 = 0 then
  (rok () h)
  else
  (ldR 5 68 a0 h fun x2 =>
  ldR 9 143 x2 h fun x3 =>
  ldI 58 429 a1 h fun x4 =>
  astI 2 x3 x4 (vp_nar .boolean (1 : Int32)) h fun h5 =>
  rok () h5)
noncomputable def f_X4_apply_l26b393 (v0 : Nat) (ih : Int32 → Int32 → Int32 → Int32 → HP → Rs (Unit ⊕ Unit ⊕ Unit ⊕ Unit ⊕ (Int32 × Int32 × Int32))) (a1 : Int32) (a2 : Int32) (a3 : Int32) (a4 : Int32) (h : HP) : Rs (Unit ⊕ Unit ⊕ Unit ⊕ Unit ⊕ (Int32 × Int32 × Int32)) :=
  lt3 (a4 + 1) fun x1 =>
  ih a1 a2 a3 x1 h
noncomputable def f_X4_apply_l26b351 (v0 : Nat) (ih : Int32 → Int32 → Int32 → Int32 → HP → Rs (Unit ⊕ Unit ⊕ Unit ⊕ Unit ⊕ (Int32 × Int32 × Int32))) (a1 : Int32) (a2 : Int32) (a3 : Int32) (a4 : Int32) (a8 : Int32) (h : HP) : Rs (Unit ⊕ Unit ⊕ Unit ⊕ Unit ⊕ (Int32 × Int32 × Int32)) :=
  if a8 < (8 : Int32) then
  (f_X4_apply_l26b393 v0 ih a1 a2 a3 a4 h)
  else
  (ldR 5 111 v0 h fun x1 =>
  if kc h x1 = 8 then
  bd (f_X7_cell x1 a4 (4 : Int32) h) (fun x2 h3 =>
  if (lg_cmp x2 (0 : Int64)) ≤ 0 then
  (f_X4_apply_l26b393 v0 ih a1 a2 a3 a4 h3)
  else
  (ldR 5 111 v0 h3 fun x4 =>
  if kc h3 x4 = 8 then
  bd (f_X7_cell x4 a4 (4 : Int32) h3) (fun x5 h6 =>
  if kc h6 v0 = 5 then
  bd (f_X4_isAlive v0 x5 h6) (fun x7 h8 =>
  if x7 = 0 then
  (rok (Sum.inr (Sum.inr (Sum.inr (Sum.inl ())))) h8)
  else
  (f_X4_apply_l26b393 v0 ih a1 a2 a3 a4 h8))
  else none)
  else none))
  else none)
noncomputable def f_X4_apply_l26b349 (v0 : Nat) (ih : Int32 → Int32 → Int32 → Int32 → HP → Rs (Unit ⊕ Unit ⊕ Unit ⊕ Unit ⊕ (Int32 × Int32 × Int32))) (a1 : Int32) (a2 : Int32) (a3 : Int32) (a4 : Int32) (s0 : Int32) (h : HP) : Rs (Unit ⊕ Unit ⊕ Unit ⊕ Unit ⊕ (Int32 × Int32 × Int32)) :=
  f_X4_apply_l26b351 v0 ih a1 a2 a3 a4 s0 h
noncomputable def f_X4_apply_l220b256 (v0 : Nat) (v1 : Int32) (v2 : Int32) (v3 : Int32) (v4 : Int32) (v8 : Int32) (v9 : Nat) (ih : Int32 → Int32 → HP → Rs Int32) (a11 : Int32) (s0 : Int32) (h : HP) : Rs Int32 :=
  lt3 (a11 + 1) fun x1 =>
  ih s0 x1 h
noncomputable def b_X4_apply_l220 (v0 : Nat) (v1 : Int32) (v2 : Int32) (v3 : Int32) (v4 : Int32) (v8 : Int32) (v9 : Nat) (ih : Int32 → Int32 → HP → Rs Int32) (a10 : Int32) (a11 : Int32) (h : HP) : Rs Int32 :=
  ldR 5 119 v0 h fun x1 =>
  lsSize x1 h fun x2 =>
  if x2 ≤ a11 then
  (rok a10 h)
  else
  (if a10 = 0 then
  (rok a10 h)
  else
  (ldR 5 119 v0 h fun x3 =>
  lsGet x3 a11 h fun x4 =>
  eqR h x4 v9
  (f_X4_apply_l220b256 v0 v1 v2 v3 v4 v8 v9 ih a11 (0 : Int32) h)
  (f_X4_apply_l220b256 v0 v1 v2 v3 v4 v8 v9 ih a11 (1 : Int32) h)))
noncomputable def f_X4_apply_l220 (v0 : Nat) (v1 : Int32) (v2 : Int32) (v3 : Int32) (v4 : Int32) (v8 : Int32) (v9 : Nat) (n : Nat) : Int32 → Int32 → HP → Rs Int32 := @Nat.rec (fun _ => Int32 → Int32 → HP → Rs Int32) (fun _ _ _ => none) (fun _ ih => b_X4_apply_l220 v0 v1 v2 v3 v4 v8 v9 ih) n
noncomputable def f_X4_apply_l26b288 (v0 : Nat) (ih : Int32 → Int32 → Int32 → Int32 → HP → Rs (Unit ⊕ Unit ⊕ Unit ⊕ Unit ⊕ (Int32 × Int32 × Int32))) (a1 : Int32) (a2 : Int32) (a3 : Int32) (a4 : Int32) (a8 : Int32) (h : HP) : Rs (Unit ⊕ Unit ⊕ Unit ⊕ Unit ⊕ (Int32 × Int32 × Int32)) :=
  f_X4_apply_l26b351 v0 ih a1 a2 a3 a4 a8 h
noncomputable def f_X4_apply_l26b264 (v0 : Nat) (ih : Int32 → Int32 → Int32 → Int32 → HP → Rs (Unit ⊕ Unit ⊕ Unit ⊕ Unit ⊕ (Int32 × Int32 × Int32))) (a1 : Int32) (a2 : Int32) (a3 : Int32) (a4 : Int32) (a8 : Int32) (a9 : Nat) (a10 : Int32) (h : HP) : Rs (Unit ⊕ Unit ⊕ Unit ⊕ Unit ⊕ (Int32 × Int32 × Int32)) :=
  if a10 = 0 then
  (f_X4_apply_l26b288 v0 ih a1 a2 a3 a4 a8 h)
  else
  (ldR 5 119 v0 h fun x1 =>
  lsAdd x1 a9 h fun h2 =>
  if kc h2 v0 = 5 then
  bd (f_X4_sizeOf v0 a9 h2) (fun x3 h4 =>
  lt3 (a3 + x3) fun x5 =>
  f_X4_apply_l26b288 v0 ih a1 a2 x5 a4 a8 h4)
  else none)
noncomputable def f_X4_apply_l26b215 (v0 : Nat) (ih : Int32 → Int32 → Int32 → Int32 → HP → Rs (Unit ⊕ Unit ⊕ Unit ⊕ Unit ⊕ (Int32 × Int32 × Int32))) (a1 : Int32) (a2 : Int32) (a3 : Int32) (a4 : Int32) (a8 : Int32) (a9 : Nat) (s0 : Int32) (h : HP) : Rs (Unit ⊕ Unit ⊕ Unit ⊕ Unit ⊕ (Int32 × Int32 × Int32)) :=
  bd (f_X4_apply_l220 v0 a1 a2 a3 a4 a8 a9 NN s0 (0 : Int32) h) (fun x1 h2 => f_X4_apply_l26b264 v0 ih a1 a2 a3 a4 a8 a9 x1 h2)
noncomputable def f_X4_apply_l26b214 (v0 : Nat) (ih : Int32 → Int32 → Int32 → Int32 → HP → Rs (Unit ⊕ Unit ⊕ Unit ⊕ Unit ⊕ (Int32 × Int32 × Int32))) (a1 : Int32) (a2 : Int32) (a3 : Int32) (a4 : Int32) (a8 : Int32) (a9 : Nat) (h : HP) : Rs (Unit ⊕ Unit ⊕ Unit ⊕ Unit ⊕ (Int32 × Int32 × Int32)) :=
  f_X4_apply_l26b215 v0 ih a1 a2 a3 a4 a8 a9 (0 : Int32) h
noncomputable def b_X4_apply_l26 (v0 : Nat) (ih : Int32 → Int32 → Int32 → Int32 → HP → Rs (Unit ⊕ Unit ⊕ Unit ⊕ Unit ⊕ (Int32 × Int32 × Int32))) (a1 : Int32) (a2 : Int32) (a3 : Int32) (a4 : Int32) (h : HP) : Rs (Unit ⊕ Unit ⊕ Unit ⊕ Unit ⊕ (Int32 × Int32 × Int32)) :=
  ldR 5 111 v0 h fun x1 =>
  ldI 8 136 x1 h fun x2 =>
  if x2 ≤ a4 then
  (rok (Sum.inr (Sum.inr (Sum.inr (Sum.inr (a1, a2, a3))))) h)
  else
  (ldR 5 111 v0 h fun x3 =>
  if kc h x3 = 8 then
  bd (f_X7_cell x3 a4 (1 : Int32) h) (fun x4 h5 =>
  ldR 5 111 v0 h5 fun x6 =>
  if kc h5 x6 = 8 then
  bd (f_X7_cell x6 a4 (2 : Int32) h5) (fun x7 h8 =>
  lt3 (Int64.toInt32 x7) fun x9 =>
  ldR 5 111 v0 h8 fun x10 =>
  if kc h8 x10 = 8 then
  bd (f_X7_cell x10 a4 (0 : Int32) h8) (fun x11 h12 =>
  if (lg_cmp x11 (2 : Int64)) = 0 then
  (lt3 (a1 + 1) fun x48 =>
  ldR 5 117 v0 h12 fun x49 =>
  astI 0 x49 x48 x9 h12 fun h50 =>
  if kc h50 v0 = 5 then
  bd (f_X4_sizeNew v0 a4 h50) (fun x51 h52 =>
  lt3 (a2 + x51) fun x53 =>
  f_X4_apply_l26b393 v0 ih x48 x53 a3 a4 h52)
  else none)
  else
  (if (lg_cmp x4 (0 : Int64)) ≤ 0 then
  (ldR 5 117 v0 h12 fun x13 =>
  aldI 0 x13 (Int64.toInt32 (-x4)) h12 fun x14 =>
  if kc h12 v0 = 5 then
  bd (f_X4_kindAt v0 x14 h12) (fun x15 h16 =>
  if kc h16 x15 = 47 then
  bd (f_X49_array x15 h16) (fun x17 h18 =>
  if x17 = 0 then
  (if kc h18 v0 = 5 then
  bd (f_X4_kindAt v0 x14 h18) (fun x19 h20 =>
  ldR 47 377 x19 h20 fun x21 =>
  lsGet x21 x9 h20 fun x22 =>
  castR [49] x22 h20 (
  ldR 49 384 x22 h20 fun x23 =>
  ldI 48 383 x23 h20 fun x24 =>
  f_X4_apply_l26b349 v0 ih a1 a2 a3 a4 x24 h20))
  else none)
  else
  (if kc h18 v0 = 5 then
  bd (f_X4_kindAt v0 x14 h18) (fun x25 h26 =>
  ldI 47 367 x25 h26 fun x27 =>
  f_X4_apply_l26b349 v0 ih a1 a2 a3 a4 x27 h26)
  else none))
  else none)
  else none)
  else
  (if kc h12 v0 = 5 then
  bd (f_X4_isAlive v0 x4 h12) (fun x28 h29 =>
  if x28 = 0 then
  (rok (Sum.inl ()) h29)
  else
  (if kc h29 v0 = 5 then
  bd (f_X4_thingAt v0 x4 h29) (fun x30 h31 =>
  if kc h31 v0 = 5 then
  bd (f_X4_sizeOf v0 x30 h31) (fun x32 h33 =>
  if x9 < x32 then
  (if kc h33 v0 = 5 then
  bd (f_X4_touch v0 x30 h33) (fun _ h34 =>
  if kc h34 v0 = 5 then
  bd (f_X4_seen v0 x30 h34) (fun x35 h36 =>
  aldJ 3 x35 x9 h36 fun x37 =>
  ldR 5 111 v0 h36 fun x38 =>
  if kc h36 x38 = 8 then
  bd (f_X7_cell x38 a4 (3 : Int32) h36) (fun x39 h40 =>
  if (lg_cmp x37 x39) = 0 then
  (if kc h40 v0 = 5 then
  bd (f_X4_kindOfPlace v0 x30 x9 h40) (fun x41 h42 =>
  ldI 58 434 x30 h42 fun x43 =>
  if x43 < 0 then
  (f_X4_apply_l26b214 v0 ih a1 a2 a3 a4 x41 x30 h42)
  else
  (ldR 5 68 v0 h42 fun x44 =>
  ldR 9 140 x44 h42 fun x45 =>
  ldI 58 429 x30 h42 fun x46 =>
  aldR 9 x45 x46 h42 fun x47 =>
  if x47 = 0 then
  (f_X4_apply_l26b215 v0 ih a1 a2 a3 a4 x41 x30 (1 : Int32) h42)
  else
  (f_X4_apply_l26b214 v0 ih a1 a2 a3 a4 x41 x30 h42)))
  else none)
  else
  (rok (Sum.inr (Sum.inr (Sum.inl ()))) h40))
  else none)
  else none)
  else none)
  else
  (rok (Sum.inr (Sum.inl ())) h33))
  else none)
  else none))
  else none)))
  else none)
  else none)
  else none)
noncomputable def f_X4_apply_l26 (v0 : Nat) (n : Nat) : Int32 → Int32 → Int32 → Int32 → HP → Rs (Unit ⊕ Unit ⊕ Unit ⊕ Unit ⊕ (Int32 × Int32 × Int32)) := @Nat.rec (fun _ => Int32 → Int32 → Int32 → Int32 → HP → Rs (Unit ⊕ Unit ⊕ Unit ⊕ Unit ⊕ (Int32 × Int32 × Int32))) (fun _ _ _ _ _ => none) (fun _ ih => b_X4_apply_l26 v0 ih) n
noncomputable def f_X4_apply_l446b625 (v0 : Nat) (ih : Int32 → Int32 → HP → Rs Unit) (a4 : Int32) (a5 : Int32) (h : HP) : Rs Unit :=
  lt3 (a5 + 1) fun x1 =>
  ih a4 x1 h
noncomputable def f_X4_apply_l446b624 (v0 : Nat) (ih : Int32 → Int32 → HP → Rs Unit) (a4 : Int32) (a5 : Int32) (s0 : Nat) (s1 : Int32) (s2 : Int64) (h : HP) : Rs Unit :=
  astJ 3 s0 s1 s2 h fun h1 =>
  f_X4_apply_l446b625 v0 ih a4 a5 h1
noncomputable def f_X4_apply_l446b591 (v0 : Nat) (ih : Int32 → Int32 → HP → Rs Unit) (a4 : Int32) (a5 : Int32) (a8 : Int32) (a9 : Int64) (a11 : Nat) (s0 : Int32) (h : HP) : Rs Unit :=
  if kc h v0 = 5 then
  bd (f_X4_changing v0 a11 h) (fun x1 h2 =>
  if s0 = 0 then
  (f_X4_apply_l446b624 v0 ih a4 a5 x1 a8 a9 h2)
  else
  (ldR 5 118 v0 h2 fun x3 =>
  aldR 13 x3 (Int64.toInt32 (-a9)) h2 fun x4 =>
  ldI 58 429 x4 h2 fun x5 =>
  f_X4_apply_l446b624 v0 ih a4 a5 x1 a8 (Int32.toInt64 x5) h2))
  else none
noncomputable def f_X4_apply_l446b590 (v0 : Nat) (ih : Int32 → Int32 → HP → Rs Unit) (a4 : Int32) (a5 : Int32) (a8 : Int32) (a9 : Int64) (a11 : Nat) (h : HP) : Rs Unit :=
  f_X4_apply_l446b591 v0 ih a4 a5 a8 a9 a11 (0 : Int32) h
noncomputable def f_X4_apply_l446b564 (v0 : Nat) (ih : Int32 → Int32 → HP → Rs Unit) (a4 : Int32) (a5 : Int32) (a8 : Int32) (a9 : Int64) (s0 : Nat) (h : HP) : Rs Unit :=
  if kc h v0 = 5 then
  bd (f_X4_kindOfPlace v0 s0 a8 h) (fun x1 h2 =>
  if x1 < (8 : Int32) then
  (f_X4_apply_l446b590 v0 ih a4 a5 a8 a9 s0 h2)
  else
  (if 0 ≤ (lg_cmp a9 (0 : Int64)) then
  (f_X4_apply_l446b590 v0 ih a4 a5 a8 a9 s0 h2)
  else
  (f_X4_apply_l446b591 v0 ih a4 a5 a8 a9 s0 (1 : Int32) h2)))
  else none
noncomputable def b_X4_apply_l446 (v0 : Nat) (ih : Int32 → Int32 → HP → Rs Unit) (a4 : Int32) (a5 : Int32) (h : HP) : Rs Unit :=
  ldR 5 111 v0 h fun x1 =>
  ldI 8 136 x1 h fun x2 =>
  if x2 ≤ a5 then
  (rok () h)
  else
  (ldR 5 111 v0 h fun x3 =>
  if kc h x3 = 8 then
  bd (f_X7_cell x3 a5 (1 : Int32) h) (fun x4 h5 =>
  ldR 5 111 v0 h5 fun x6 =>
  if kc h5 x6 = 8 then
  bd (f_X7_cell x6 a5 (2 : Int32) h5) (fun x7 h8 =>
  lt3 (Int64.toInt32 x7) fun x9 =>
  ldR 5 111 v0 h8 fun x10 =>
  if kc h8 x10 = 8 then
  bd (f_X7_cell x10 a5 (4 : Int32) h8) (fun x11 h12 =>
  ldR 5 111 v0 h12 fun x13 =>
  if kc h12 x13 = 8 then
  bd (f_X7_cell x13 a5 (0 : Int32) h12) (fun x14 h15 =>
  if (lg_cmp x14 (2 : Int64)) = 0 then
  (lt3 (a4 + 1) fun x20 =>
  ldR 5 118 v0 h15 fun x21 =>
  if kc h15 v0 = 5 then
  bd (f_X4_sizeNew v0 a5 h15) (fun x22 h23 =>
  nwA 1223 x22 h23 fun p24 h25 =>
  if kc h25 v0 = 5 then
  bd (f_X4_made v0 x9 p24 h25) (fun x26 h27 =>
  astO 13 58 x21 x20 x26 h27 fun h28 =>
  f_X4_apply_l446b625 v0 ih x20 a5 h28)
  else none)
  else none)
  else
  (if (lg_cmp x4 (0 : Int64)) ≤ 0 then
  (ldR 5 118 v0 h15 fun x16 =>
  aldR 13 x16 (Int64.toInt32 (-x4)) h15 fun x17 =>
  f_X4_apply_l446b564 v0 ih a4 a5 x9 x11 x17 h15)
  else
  (if kc h15 v0 = 5 then
  bd (f_X4_thingAt v0 x4 h15) (fun x18 h19 =>
  f_X4_apply_l446b564 v0 ih a4 a5 x9 x11 x18 h19)
  else none)))
  else none)
  else none)
  else none)
  else none)
noncomputable def f_X4_apply_l446 (v0 : Nat) (n : Nat) : Int32 → Int32 → HP → Rs Unit := @Nat.rec (fun _ => Int32 → Int32 → HP → Rs Unit) (fun _ _ _ => none) (fun _ ih => b_X4_apply_l446 v0 ih) n
noncomputable def f_X4_apply (a0 : Nat) (h : HP) : Rs Int32 :=
  if kc h a0 = 5 then
  bd (f_X4_hasAct a0 h) (fun x1 h2 =>
  if x1 = 0 then
  (rok (-13 : Int32) h2)
  else
  (ldR 5 119 a0 h2 fun x3 =>
  lsClr x3 h2 fun h4 =>
  bd (f_X4_apply_l26 a0 NN (0 : Int32) (0 : Int32) (0 : Int32) (0 : Int32) h4) (Sum.elim (fun x5 => fun h6 => rok (-15 : Int32) h6) (Sum.elim (fun x7 => fun h8 => rok (-15 : Int32) h8) (Sum.elim (fun x9 => fun h10 => rok (-15 : Int32) h10) (Sum.elim (fun x11 => fun h12 => rok (-15 : Int32) h12) (fun x13 => fun h14 => ldI 5 60 a0 h14 fun x15 =>
  if (4000 : Int32) < ((x15 - (1 : Int32)) + x13.1) then
  (rok (-12 : Int32) h14)
  else
  (ldI 5 61 a0 h14 fun x16 =>
  if (20000 : Int32) < (x16 + x13.2.1) then
  (rok (-12 : Int32) h14)
  else
  (ldI 5 62 a0 h14 fun x17 =>
  if (x17 + x13.2.2) ≤ (60000 : Int32) then
  (bd (f_X4_apply_l446 a0 NN (0 : Int32) (0 : Int32) h14) (fun x18 h19 => rok (0 : Int32) h19))
  else
  (rok (-12 : Int32) h14))))))))))
  else none
noncomputable def f_X4_areAlive_l2b47 (v0 : Nat) (ih : Int32 → HP → Rs (Unit ⊕ Unit)) (a1 : Int32) (h : HP) : Rs (Unit ⊕ Unit) :=
  lt3 (a1 + 1) fun x1 =>
  ih x1 h
noncomputable def b_X4_areAlive_l2 (v0 : Nat) (ih : Int32 → HP → Rs (Unit ⊕ Unit)) (a1 : Int32) (h : HP) : Rs (Unit ⊕ Unit) :=
  ldI 5 75 v0 h fun x1 =>
  if x1 ≤ a1 then
  (rok (Sum.inr ()) h)
  else
  (ldR 5 73 v0 h fun x2 =>
  aldI 0 x2 a1 h fun x3 =>
  if x3 = (8 : Int32) then
  (ldR 5 74 v0 h fun x4 =>
  aldJ 3 x4 a1 h fun x5 =>
  if (lg_cmp x5 (0 : Int64)) = 0 then
  (f_X4_areAlive_l2b47 v0 ih a1 h)
  else
  (ldR 5 74 v0 h fun x6 =>
  aldJ 3 x6 a1 h fun x7 =>
  if kc h v0 = 5 then
  bd (f_X4_isAlive v0 x7 h) (fun x8 h9 =>
  if x8 = 0 then
  (rok (Sum.inl ()) h9)
  else
  (f_X4_areAlive_l2b47 v0 ih a1 h9))
  else none))
  else
  (f_X4_areAlive_l2b47 v0 ih a1 h))
noncomputable def f_X4_areAlive_l2 (v0 : Nat) (n : Nat) : Int32 → HP → Rs (Unit ⊕ Unit) := @Nat.rec (fun _ => Int32 → HP → Rs (Unit ⊕ Unit)) (fun _ _ => none) (fun _ ih => b_X4_areAlive_l2 v0 ih) n
noncomputable def f_X4_areAlive (a0 : Nat) (h : HP) : Rs Int32 :=
  bd (f_X4_areAlive_l2 a0 NN (0 : Int32) h) (Sum.elim (fun x1 => fun h2 => rok (0 : Int32) h2) (fun x3 => fun h4 => rok (1 : Int32) h4))
noncomputable def f_X4_textThere_l2b66 (v0 : Nat) (v1 : Nat) (ih : Int32 → HP → Rs (Int32 ⊕ Unit)) (a2 : Int32) (h : HP) : Rs (Int32 ⊕ Unit) :=
  lt3 (a2 + 1) fun x1 =>
  ih x1 h
noncomputable def b_X4_textThere_l2 (v0 : Nat) (v1 : Nat) (ih : Int32 → HP → Rs (Int32 ⊕ Unit)) (a2 : Int32) (h : HP) : Rs (Int32 ⊕ Unit) :=
  ldI 5 60 v0 h fun x1 =>
  if x1 ≤ a2 then
  (rok (Sum.inr ()) h)
  else
  (ldR 5 59 v0 h fun x2 =>
  aldR 13 x2 a2 h fun x3 =>
  if x3 = 0 then
  (f_X4_textThere_l2b66 v0 v1 ih a2 h)
  else
  (ldR 5 59 v0 h fun x4 =>
  aldR 13 x4 a2 h fun x5 =>
  ldI 58 436 x5 h fun x6 =>
  if x6 = 0 then
  (ldR 5 59 v0 h fun x7 =>
  aldR 13 x7 a2 h fun x8 =>
  ldR 58 431 x8 h fun x9 =>
  if x9 = 0 then
  (f_X4_textThere_l2b66 v0 v1 ih a2 h)
  else
  (ldR 5 59 v0 h fun x10 =>
  aldR 13 x10 a2 h fun x11 =>
  ldR 58 431 x11 h fun x12 =>
  txEq x12 v1 h fun x13 =>
  if x13 = 0 then
  (f_X4_textThere_l2b66 v0 v1 ih a2 h)
  else
  (rok (Sum.inl a2) h)))
  else
  (f_X4_textThere_l2b66 v0 v1 ih a2 h)))
noncomputable def f_X4_textThere_l2 (v0 : Nat) (v1 : Nat) (n : Nat) : Int32 → HP → Rs (Int32 ⊕ Unit) := @Nat.rec (fun _ => Int32 → HP → Rs (Int32 ⊕ Unit)) (fun _ _ => none) (fun _ ih => b_X4_textThere_l2 v0 v1 ih) n
noncomputable def f_X4_textThere (a0 : Nat) (a1 : Nat) (h : HP) : Rs Nat :=
  bd (f_X4_textThere_l2 a0 a1 NN (1 : Int32) h) (Sum.elim (fun x1 => fun h2 => ldR 5 59 a0 h2 fun x3 =>
  aldR 13 x3 x1 h2 fun x4 =>
  rok x4 h2) (fun x5 => fun h6 => rok 0 h6))
noncomputable def f_X4_textThing (a0 : Nat) (a1 : Nat) (h : HP) : Rs Nat :=
  if kc h a0 = 5 then
  bd (f_X4_textThere a0 a1 h) (fun x1 h2 =>
  if x1 = 0 then
  (if kc h2 a0 = 5 then
  bd (f_X4_thing a0 (9 : Int32) h2) (fun x3 h4 =>
  stR 58 431 x3 a1 h4 fun h5 =>
  stI 58 434 x3 (0 : Int32) h5 fun h6 =>
  rok x3 h6)
  else none)
  else
  (rok x1 h2))
  else none
noncomputable def b_X4_areMade_l40 (v0 : Nat) (v1 : Nat) (v2 : Int32) (v3 : Int32) (ih : Int32 → Int32 → HP → Rs Int32) (a4 : Int32) (a5 : Int32) (h : HP) : Rs Int32 :=
  if v3 ≤ a5 then
  (rok a4 h)
  else
  (if a4 = 0 then
  (lsGet v1 a5 h fun x1 =>
  castR [45] x1 h (
  ldR 45 353 x1 h fun x2 =>
  lsGet v1 v3 h fun x3 =>
  castR [45] x3 h (
  ldR 45 353 x3 h fun x4 =>
  txEq x2 x4 h fun x5 =>
  lt3 (a5 + 1) fun x6 =>
  ih x5 x6 h)))
  else
  (rok a4 h))
noncomputable def f_X4_areMade_l40 (v0 : Nat) (v1 : Nat) (v2 : Int32) (v3 : Int32) (n : Nat) : Int32 → Int32 → HP → Rs Int32 := @Nat.rec (fun _ => Int32 → Int32 → HP → Rs Int32) (fun _ _ _ => none) (fun _ ih => b_X4_areMade_l40 v0 v1 v2 v3 ih) n
noncomputable def f_X4_areMade_l4b93 (v0 : Nat) (v1 : Nat) (ih : Int32 → Int32 → HP → Rs Int32) (a2 : Int32) (a3 : Int32) (h : HP) : Rs Int32 :=
  lt3 (a3 + 1) fun x1 =>
  ih a2 x1 h
noncomputable def f_X4_areMade_l4b85 (v0 : Nat) (v1 : Nat) (ih : Int32 → Int32 → HP → Rs Int32) (a2 : Int32) (a3 : Int32) (a4 : Int32) (h : HP) : Rs Int32 :=
  if a4 = 0 then
  (lt3 (a2 + 1) fun x1 =>
  f_X4_areMade_l4b93 v0 v1 ih x1 a3 h)
  else
  (f_X4_areMade_l4b93 v0 v1 ih a2 a3 h)
noncomputable def f_X4_areMade_l4b35 (v0 : Nat) (v1 : Nat) (ih : Int32 → Int32 → HP → Rs Int32) (a2 : Int32) (a3 : Int32) (s0 : Int32) (h : HP) : Rs Int32 :=
  bd (f_X4_areMade_l40 v0 v1 a2 a3 NN s0 (0 : Int32) h) (fun x1 h2 => f_X4_areMade_l4b85 v0 v1 ih a2 a3 x1 h2)
noncomputable def b_X4_areMade_l4 (v0 : Nat) (v1 : Nat) (ih : Int32 → Int32 → HP → Rs Int32) (a2 : Int32) (a3 : Int32) (h : HP) : Rs Int32 :=
  lsSize v1 h fun x1 =>
  if x1 ≤ a3 then
  (rok a2 h)
  else
  (lsGet v1 a3 h fun x2 =>
  castR [45] x2 h (
  ldR 45 353 x2 h fun x3 =>
  if kc h v0 = 5 then
  bd (f_X4_textThere v0 x3 h) (fun x4 h5 =>
  if x4 = 0 then
  (f_X4_areMade_l4b35 v0 v1 ih a2 a3 (0 : Int32) h5)
  else
  (f_X4_areMade_l4b35 v0 v1 ih a2 a3 (1 : Int32) h5))
  else none))
noncomputable def f_X4_areMade_l4 (v0 : Nat) (v1 : Nat) (n : Nat) : Int32 → Int32 → HP → Rs Int32 := @Nat.rec (fun _ => Int32 → Int32 → HP → Rs Int32) (fun _ _ _ => none) (fun _ ih => b_X4_areMade_l4 v0 v1 ih) n
noncomputable def b_X4_areMade_l117 (v0 : Nat) (v1 : Nat) (ih : Int32 → HP → Rs Unit) (a3 : Int32) (h : HP) : Rs Unit :=
  lsSize v1 h fun x1 =>
  if x1 ≤ a3 then
  (rok () h)
  else
  (lsGet v1 a3 h fun x2 =>
  castR [45] x2 h (
  ldR 45 353 x2 h fun x3 =>
  if kc h v0 = 5 then
  bd (f_X4_textThing v0 x3 h) (fun x4 h5 =>
  lt3 (a3 + 1) fun x6 =>
  ih x6 h5)
  else none))
noncomputable def f_X4_areMade_l117 (v0 : Nat) (v1 : Nat) (n : Nat) : Int32 → HP → Rs Unit := @Nat.rec (fun _ => Int32 → HP → Rs Unit) (fun _ _ => none) (fun _ ih => b_X4_areMade_l117 v0 v1 ih) n
noncomputable def f_X4_areMade (a0 : Nat) (a1 : Nat) (h : HP) : Rs Int32 :=
  bd (f_X4_areMade_l4 a0 a1 NN (0 : Int32) (0 : Int32) h) (fun x1 h2 => ldI 5 60 a0 h2 fun x3 =>
  if ((x3 - (1 : Int32)) + x1) ≤ (4000 : Int32) then
  (bd (f_X4_areMade_l117 a0 a1 NN (0 : Int32) h2) (fun x4 h5 => rok (1 : Int32) h5))
  else
  (rok (0 : Int32) h2))
noncomputable def f_X4_areMet_b24 (a0 : Nat) (a1 : Nat) (a2 : Nat) (h : HP) : Rs Int32 :=
  ldR 5 110 a0 h fun x1 =>
  ldI 58 429 a1 h fun x2 =>
  aldI 0 x1 x2 h fun x3 =>
  ldI 58 429 a2 h fun x4 =>
  if x3 = x4 then
  (rok (1 : Int32) h)
  else
  (rok (0 : Int32) h)
noncomputable def f_X4_areMet_b101 (a0 : Nat) (a1 : Nat) (a2 : Nat) (h : HP) : Rs Int32 :=
  ldR 5 110 a0 h fun x1 =>
  ldI 58 429 a1 h fun x2 =>
  ldI 58 429 a2 h fun x3 =>
  astI 0 x1 x2 x3 h fun h4 =>
  ldR 5 105 a0 h4 fun x5 =>
  ldI 58 429 a2 h4 fun x6 =>
  astI 0 x5 x6 (1 : Int32) h4 fun h7 =>
  ldR 5 104 a0 h7 fun x8 =>
  lsAdd x8 a1 h7 fun h9 =>
  rok (1 : Int32) h9
noncomputable def f_X4_areMet_b76 (a0 : Nat) (a1 : Nat) (a2 : Nat) (h : HP) : Rs Int32 :=
  if kc h a0 = 5 then
  bd (f_X4_isArray a0 a1 h) (fun x1 h2 =>
  if x1 = 0 then
  (f_X4_areMet_b101  a0 a1 a2 h2)
  else
  (if kc h2 a0 = 5 then
  bd (f_X4_seen a0 a1 h2) (fun x3 h4 =>
  alen x3 h4 fun x5 =>
  if kc h4 a0 = 5 then
  bd (f_X4_seen a0 a2 h4) (fun x6 h7 =>
  alen x6 h7 fun x8 =>
  if x5 = x8 then
  (f_X4_areMet_b101  a0 a1 a2 h7)
  else
  (rok (0 : Int32) h7))
  else none)
  else none))
  else none
noncomputable def f_X4_areMet_b71 (a0 : Nat) (a1 : Nat) (a2 : Nat) (h : HP) : Rs Int32 :=
  eqR h a1 a2
  (f_X4_areMet_b76  a0 a1 a2 h)
  (rok (0 : Int32) h)
noncomputable def f_X4_areMet (a0 : Nat) (a1 : Nat) (a2 : Nat) (h : HP) : Rs Int32 :=
  ldR 5 110 a0 h fun x1 =>
  ldI 58 429 a1 h fun x2 =>
  aldI 0 x1 x2 h fun x3 =>
  if 0 < x3 then
  (f_X4_areMet_b24  a0 a1 a2 h)
  else
  (ldR 5 105 a0 h fun x4 =>
  ldI 58 429 a2 h fun x5 =>
  aldI 0 x4 x5 h fun x6 =>
  if x6 ≤ 0 then
  (ldI 58 430 a1 h fun x7 =>
  ldI 58 430 a2 h fun x8 =>
  if x7 = x8 then
  (ldR 58 431 a1 h fun x9 =>
  if x9 = 0 then
  (ldI 58 432 a1 h fun x10 =>
  if x10 < 0 then
  (f_X4_areMet_b76  a0 a1 a2 h)
  else
  (f_X4_areMet_b71  a0 a1 a2 h))
  else
  (f_X4_areMet_b71  a0 a1 a2 h))
  else
  (rok (0 : Int32) h))
  else
  (f_X4_areMet_b24  a0 a1 a2 h))
noncomputable def f_X4_hasBits (a0 : Int32) (a1 : Int64) (h : HP) : Rs Int32 :=
  if a0 = 0 then
  (if (lg_cmp a1 (0 : Int64)) = 0 then
  (rok (1 : Int32) h)
  else
  (if (lg_cmp a1 (1 : Int64)) = 0 then
  (rok (1 : Int32) h)
  else
  (rok (0 : Int32) h)))
  else
  if a0 = 1 then
  (if (lg_cmp a1 (-128 : Int64)) < 0 then
  (rok (0 : Int32) h)
  else
  (if 0 < (lg_cmp a1 (127 : Int64)) then
  (rok (0 : Int32) h)
  else
  (rok (1 : Int32) h)))
  else
  if a0 = 2 then
  (if (lg_cmp a1 (-32768 : Int64)) < 0 then
  (rok (0 : Int32) h)
  else
  (if 0 < (lg_cmp a1 (32767 : Int64)) then
  (rok (0 : Int32) h)
  else
  (rok (1 : Int32) h)))
  else
  if a0 = 3 then
  (if (lg_cmp a1 (0 : Int64)) < 0 then
  (rok (0 : Int32) h)
  else
  (if 0 < (lg_cmp a1 (65535 : Int64)) then
  (rok (0 : Int32) h)
  else
  (rok (1 : Int32) h)))
  else
  if a0 = 4 then
  (if (lg_cmp a1 (-2147483648 : Int64)) < 0 then
  (rok (0 : Int32) h)
  else
  (if 0 < (lg_cmp a1 (2147483647 : Int64)) then
  (rok (0 : Int32) h)
  else
  (rok (1 : Int32) h)))
  else
  if a0 = 5 then
  (rok (1 : Int32) h)
  else
  if a0 = 6 then
  (if (lg_cmp a1 (0 : Int64)) < 0 then
  (rok (0 : Int32) h)
  else
  (if 0 < (lg_cmp a1 (4294967295 : Int64)) then
  (rok (0 : Int32) h)
  else
  (bd (f_X46_wide (Int64.toInt32 a1) h) (fun x1 h2 =>
  bd (f_X46_isNone x1 h2) (fun x3 h4 =>
  if x3 = 0 then
  (rok (1 : Int32) h4)
  else
  (rok (0 : Int32) h4))))))
  else
  if a0 = 7 then
  (bd (f_X46_isNone a1 h) (fun x5 h6 =>
  if x5 = 0 then
  (rok (1 : Int32) h6)
  else
  (rok (0 : Int32) h6)))
  else
  if a0 = 8 then
  (if (lg_cmp a1 (0 : Int64)) < 0 then
  (rok (0 : Int32) h)
  else
  (if 0 < (lg_cmp a1 (2147483647 : Int64)) then
  (rok (0 : Int32) h)
  else
  (rok (1 : Int32) h)))
  else
  (rok (0 : Int32) h)
noncomputable def f_X4_argument (a0 : Nat) (a1 : Int32) (a2 : Int64) (h : HP) : Rs Int32 :=
  bd (f_X4_hasBits a1 a2 h) (fun x1 h2 =>
  if x1 = 0 then
  (rok (-1 : Int32) h2)
  else
  (ldI 5 75 a0 h2 fun x3 =>
  if x3 = (40 : Int32) then
  (rok (-12 : Int32) h2)
  else
  (ldR 5 73 a0 h2 fun x4 =>
  ldI 5 75 a0 h2 fun x5 =>
  astI 0 x4 x5 a1 h2 fun h6 =>
  ldR 5 74 a0 h6 fun x7 =>
  ldI 5 75 a0 h6 fun x8 =>
  astJ 3 x7 x8 a2 h6 fun h9 =>
  ldI 5 75 a0 h9 fun x10 =>
  stI 5 75 a0 (x10 + (1 : Int32)) h9 fun h11 =>
  ldI 5 75 a0 h11 fun x12 =>
  rok x12 h11)))
noncomputable def b_X4_rest_l67 (v6 : Int64) (v9 : Int32) (v10 : Int64) (ih : Int64 → Int32 → HP → Rs Int64) (a12 : Int64) (a14 : Int32) (h : HP) : Rs Int64 :=
  if a14 ≤ v9 then
  (rok a12 h)
  else
  (dvJ v6 (
  lt3 ((a12 <<< (Int32.toInt64 (1 : Int32) &&& 63)) - (a12 <<< (Int32.toInt64 (1 : Int32) &&& 63)) / v6 * v6) fun x1 =>
  lt3 (a14 + (-1)) fun x2 =>
  ih x1 x2 h))
noncomputable def f_X4_rest_l67 (v6 : Int64) (v9 : Int32) (v10 : Int64) (n : Nat) : Int64 → Int32 → HP → Rs Int64 := @Nat.rec (fun _ => Int64 → Int32 → HP → Rs Int64) (fun _ _ _ => none) (fun _ ih => b_X4_rest_l67 v6 v9 v10 ih) n
noncomputable def f_X4_rest (a0 : Int64) (a2 : Int64) (h : HP) : Rs Int64 :=
  bd (f_X46_isInfinite a2 h) (fun x1 h2 =>
  if x1 = 0 then
  (bd (f_X46_isZero a0 h2) (fun x3 h4 =>
  if x3 = 0 then
  (bd (f_X46_significand a0 h4) (fun x5 h6 =>
  bd (f_X46_significand a2 h6) (fun x7 h8 =>
  bd (f_X46_exponent a0 h8) (fun x9 h10 =>
  bd (f_X46_exponent a2 h10) (fun x11 h12 =>
  lt3 (a0 &&& (-9223372036854775808 : Int64)) fun x13 =>
  if x11 ≤ x9 then
  (dvJ x7 (
  lt3 (x5 - x5 / x7 * x7) fun x14 =>
  bd (f_X4_rest_l67 x7 x11 x13 NN x14 x9 h12) (fun x15 h16 => if (lg_cmp x15 (0 : Int64)) = 0 then
  (rok x13 h16)
  else
  (bd (f_X46_made (0 : Int32) x15 x11 (0 : Int32) h16) (fun x17 h18 =>
  rok (x13 ||| x17) h18)))))
  else
  (rok a0 h12))))))
  else
  (rok a0 h4)))
  else
  (rok a0 h2))
noncomputable def f_X4_floating_b164 (a0 : Nat) (a2 : Int64) (s0 : Int64) (h : HP) : Rs Int64 :=
  bd (f_X46_isInfinite a2 h) (fun x1 h2 =>
  if x1 = 0 then
  (bd (f_X46_add a2 s0 h2) (fun x3 h4 =>
  rok x3 h4))
  else
  (bd (f_X46_isInfinite s0 h2) (fun x5 h6 =>
  if x5 = 0 then
  (bd (f_X46_add a2 s0 h6) (fun x7 h8 =>
  rok x7 h8))
  else
  (if (lg_cmp a2 s0) = 0 then
  (bd (f_X46_add a2 s0 h6) (fun x9 h10 =>
  rok x9 h10))
  else
  (if kc h6 a0 = 5 then
  bd (f_X4_fails a0 (8 : Int32) h6) (fun x11 h12 =>
  if kc h12 x11 = 69 then rex h12 else none)
  else none)))))
noncomputable def f_X4_floating_b144 (a0 : Nat) (a1 : Nat) (a2 : Int64) (a4 : Int64) (h : HP) : Rs Int64 :=
  txEq a1 14 h fun x1 =>
  if x1 = 0 then
  (f_X4_floating_b164  a0 a2 a4 h)
  else
  (bd (f_X46_negative a4 h) (fun x2 h3 =>
  f_X4_floating_b164  a0 a2 x2 h3))
noncomputable def f_X4_floating_b217 (a0 : Nat) (a2 : Int64) (a4 : Int64) (h : HP) : Rs Int64 :=
  bd (f_X46_isZero a2 h) (fun x1 h2 =>
  if x1 = 0 then
  (bd (f_X46_multiply a2 a4 h2) (fun x3 h4 =>
  rok x3 h4))
  else
  (bd (f_X46_isInfinite a4 h2) (fun x5 h6 =>
  if x5 = 0 then
  (bd (f_X46_multiply a2 a4 h6) (fun x7 h8 =>
  rok x7 h8))
  else
  (if kc h6 a0 = 5 then
  bd (f_X4_fails a0 (8 : Int32) h6) (fun x9 h10 =>
  if kc h10 x9 = 69 then rex h10 else none)
  else none))))
noncomputable def f_X4_floating_b261 (a0 : Nat) (a2 : Int64) (a4 : Int64) (h : HP) : Rs Int64 :=
  bd (f_X46_isZero a2 h) (fun x1 h2 =>
  if x1 = 0 then
  (bd (f_X46_divide a2 a4 h2) (fun x3 h4 =>
  rok x3 h4))
  else
  (bd (f_X46_isZero a4 h2) (fun x5 h6 =>
  if x5 = 0 then
  (bd (f_X46_divide a2 a4 h6) (fun x7 h8 =>
  rok x7 h8))
  else
  (if kc h6 a0 = 5 then
  bd (f_X4_fails a0 (8 : Int32) h6) (fun x9 h10 =>
  if kc h10 x9 = 69 then rex h10 else none)
  else none))))
noncomputable def f_X4_floating_b113 (a0 : Nat) (a1 : Nat) (a2 : Int64) (a4 : Int64) (a7 : Int32) (h : HP) : Rs Int64 :=
  if a7 = 0 then
  (f_X4_floating_b144  a0 a1 a2 a4 h)
  else
  if a7 = 1 then
  (f_X4_floating_b144  a0 a1 a2 a4 h)
  else
  if a7 = 2 then
  (bd (f_X46_isInfinite a2 h) (fun x11 h12 =>
  if x11 = 0 then
  (f_X4_floating_b217  a0 a2 a4 h12)
  else
  (bd (f_X46_isZero a4 h12) (fun x13 h14 =>
  if x13 = 0 then
  (f_X4_floating_b217  a0 a2 a4 h14)
  else
  (if kc h14 a0 = 5 then
  bd (f_X4_fails a0 (8 : Int32) h14) (fun x15 h16 =>
  if kc h16 x15 = 69 then rex h16 else none)
  else none)))))
  else
  if a7 = 3 then
  (bd (f_X46_isInfinite a2 h) (fun x17 h18 =>
  if x17 = 0 then
  (f_X4_floating_b261  a0 a2 a4 h18)
  else
  (bd (f_X46_isInfinite a4 h18) (fun x19 h20 =>
  if x19 = 0 then
  (f_X4_floating_b261  a0 a2 a4 h20)
  else
  (if kc h20 a0 = 5 then
  bd (f_X4_fails a0 (8 : Int32) h20) (fun x21 h22 =>
  if kc h22 x21 = 69 then rex h22 else none)
  else none)))))
  else
  (bd (f_X46_isInfinite a2 h) (fun x1 h2 =>
  if x1 = 0 then
  (bd (f_X46_isZero a4 h2) (fun x5 h6 =>
  if x5 = 0 then
  (bd (f_X4_rest a2 a4 h6) (fun x7 h8 =>
  rok x7 h8))
  else
  (if kc h6 a0 = 5 then
  bd (f_X4_fails a0 (8 : Int32) h6) (fun x9 h10 =>
  if kc h10 x9 = 69 then rex h10 else none)
  else none)))
  else
  (if kc h2 a0 = 5 then
  bd (f_X4_fails a0 (8 : Int32) h2) (fun x3 h4 =>
  if kc h4 x3 = 69 then rex h4 else none)
  else none)))
noncomputable def f_X4_floating (a0 : Nat) (a1 : Nat) (a2 : Int64) (a4 : Int64) (h : HP) : Rs Int64 :=
  txHash a1 h fun x1 =>
  if x1 = 42 then
  (txEq a1 11 h fun x2 =>
  if x2 = 0 then
  (f_X4_floating_b113  a0 a1 a2 a4 (-1 : Int32) h)
  else
  (f_X4_floating_b113  a0 a1 a2 a4 (2 : Int32) h))
  else
  if x1 = 43 then
  (txEq a1 12 h fun x3 =>
  if x3 = 0 then
  (f_X4_floating_b113  a0 a1 a2 a4 (-1 : Int32) h)
  else
  (f_X4_floating_b113  a0 a1 a2 a4 (0 : Int32) h))
  else
  if x1 = 44 then
  (f_X4_floating_b113  a0 a1 a2 a4 (-1 : Int32) h)
  else
  if x1 = 45 then
  (txEq a1 14 h fun x4 =>
  if x4 = 0 then
  (f_X4_floating_b113  a0 a1 a2 a4 (-1 : Int32) h)
  else
  (f_X4_floating_b113  a0 a1 a2 a4 (1 : Int32) h))
  else
  if x1 = 46 then
  (f_X4_floating_b113  a0 a1 a2 a4 (-1 : Int32) h)
  else
  if x1 = 47 then
  (txEq a1 16 h fun x5 =>
  if x5 = 0 then
  (f_X4_floating_b113  a0 a1 a2 a4 (-1 : Int32) h)
  else
  (f_X4_floating_b113  a0 a1 a2 a4 (3 : Int32) h))
  else
  (f_X4_floating_b113  a0 a1 a2 a4 (-1 : Int32) h)
noncomputable def f_X4_arithmetic_b257 (a2 : Int32) (a7 : Int64) (h : HP) : Rs Int64 :=
  if a2 = (4 : Int32) then
  (rok (Int32.toInt64 (Int64.toInt32 a7)) h)
  else
  (rok a7 h)
noncomputable def f_X4_arithmetic_b255 (a2 : Int32) (s0 : Int64) (h : HP) : Rs Int64 :=
  f_X4_arithmetic_b257  a2 s0 h
noncomputable def f_X4_arithmetic_b233 (a2 : Int32) (s0 : Int64) (h : HP) : Rs Int64 :=
  f_X4_arithmetic_b257  a2 s0 h
noncomputable def f_X4_arithmetic_b157 (a2 : Int32) (a3 : Int64) (a5 : Int64) (a10 : Int32) (h : HP) : Rs Int64 :=
  if a10 = 0 then
  (lt3 (a3 + a5) fun x1 =>
  f_X4_arithmetic_b257  a2 x1 h)
  else
  if a10 = 1 then
  (lt3 (a3 - a5) fun x2 =>
  f_X4_arithmetic_b257  a2 x2 h)
  else
  if a10 = 2 then
  (lt3 (a3 * a5) fun x3 =>
  f_X4_arithmetic_b257  a2 x3 h)
  else
  if a10 = 3 then
  (if (lg_cmp a5 (-1 : Int64)) = 0 then
  (f_X4_arithmetic_b233  a2 (-a3) h)
  else
  (dvJ a5 (
  f_X4_arithmetic_b233  a2 (a3 / a5) h)))
  else
  (if (lg_cmp a5 (-1 : Int64)) = 0 then
  (f_X4_arithmetic_b255  a2 (0 : Int64) h)
  else
  (dvJ a5 (
  f_X4_arithmetic_b255  a2 (a3 - a3 / a5 * a5) h)))
noncomputable def f_X4_arithmetic_b44 (a1 : Nat) (a2 : Int32) (a3 : Int64) (a5 : Int64) (h : HP) : Rs Int64 :=
  txHash a1 h fun x1 =>
  if x1 = 42 then
  (txEq a1 11 h fun x2 =>
  if x2 = 0 then
  (f_X4_arithmetic_b157  a2 a3 a5 (-1 : Int32) h)
  else
  (f_X4_arithmetic_b157  a2 a3 a5 (2 : Int32) h))
  else
  if x1 = 43 then
  (txEq a1 12 h fun x3 =>
  if x3 = 0 then
  (f_X4_arithmetic_b157  a2 a3 a5 (-1 : Int32) h)
  else
  (f_X4_arithmetic_b157  a2 a3 a5 (0 : Int32) h))
  else
  if x1 = 44 then
  (f_X4_arithmetic_b157  a2 a3 a5 (-1 : Int32) h)
  else
  if x1 = 45 then
  (txEq a1 14 h fun x4 =>
  if x4 = 0 then
  (f_X4_arithmetic_b157  a2 a3 a5 (-1 : Int32) h)
  else
  (f_X4_arithmetic_b157  a2 a3 a5 (1 : Int32) h))
  else
  if x1 = 46 then
  (f_X4_arithmetic_b157  a2 a3 a5 (-1 : Int32) h)
  else
  if x1 = 47 then
  (txEq a1 16 h fun x5 =>
  if x5 = 0 then
  (f_X4_arithmetic_b157  a2 a3 a5 (-1 : Int32) h)
  else
  (f_X4_arithmetic_b157  a2 a3 a5 (3 : Int32) h))
  else
  (f_X4_arithmetic_b157  a2 a3 a5 (-1 : Int32) h)
noncomputable def f_X4_arithmetic_b30 (a0 : Nat) (a1 : Nat) (a2 : Int32) (a3 : Int64) (a5 : Int64) (h : HP) : Rs Int64 :=
  if (lg_cmp a5 (0 : Int64)) = 0 then
  (if kc h a0 = 5 then
  bd (f_X4_fails a0 (8 : Int32) h) (fun x1 h2 =>
  if kc h2 x1 = 69 then rex h2 else none)
  else none)
  else
  (f_X4_arithmetic_b44  a1 a2 a3 a5 h)
noncomputable def f_X4_arithmetic_b10 (a0 : Nat) (a1 : Nat) (a2 : Int32) (a3 : Int64) (a5 : Int64) (h : HP) : Rs Int64 :=
  txEq a1 16 h fun x1 =>
  if x1 = 0 then
  (txEq a1 6 h fun x2 =>
  if x2 = 0 then
  (f_X4_arithmetic_b44  a1 a2 a3 a5 h)
  else
  (f_X4_arithmetic_b30  a0 a1 a2 a3 a5 h))
  else
  (f_X4_arithmetic_b30  a0 a1 a2 a3 a5 h)
noncomputable def f_X4_arithmetic_b306 (a0 : Nat) (a1 : Nat) (a2 : Int32) (a7 : Int64) (s0 : Int64) (h : HP) : Rs Int64 :=
  if kc h a0 = 5 then
  bd (f_X4_floating a0 a1 a7 s0 h) (fun x1 h2 =>
  if a2 = (6 : Int32) then
  (bd (f_X46_narrow x1 h2) (fun x3 h4 =>
  rok ((Int32.toInt64 x3) &&& (4294967295 : Int64)) h4))
  else
  (rok x1 h2))
  else none
noncomputable def f_X4_arithmetic_b287 (a0 : Nat) (a1 : Nat) (a2 : Int32) (a5 : Int64) (s0 : Int64) (h : HP) : Rs Int64 :=
  if a2 = (6 : Int32) then
  (bd (f_X46_wide (Int64.toInt32 a5) h) (fun x1 h2 =>
  f_X4_arithmetic_b306  a0 a1 a2 s0 x1 h2))
  else
  (f_X4_arithmetic_b306  a0 a1 a2 s0 a5 h)
noncomputable def f_X4_arithmetic (a0 : Nat) (a1 : Nat) (a2 : Int32) (a3 : Int64) (a5 : Int64) (h : HP) : Rs Int64 :=
  if a2 = (4 : Int32) then
  (f_X4_arithmetic_b10  a0 a1 a2 a3 a5 h)
  else
  (if a2 = (5 : Int32) then
  (f_X4_arithmetic_b10  a0 a1 a2 a3 a5 h)
  else
  (if a2 = (6 : Int32) then
  (bd (f_X46_wide (Int64.toInt32 a3) h) (fun x1 h2 =>
  f_X4_arithmetic_b287  a0 a1 a2 a5 x1 h2))
  else
  (f_X4_arithmetic_b287  a0 a1 a2 a5 a3 h)))
noncomputable def f_X4_isKind (a0 : Nat) (a1 : Int32) (h : HP) : Rs Int32 :=
  ldI 5 55 a0 h fun x1 =>
  if x1 = 0 then
  (rok (0 : Int32) h)
  else
  (if a1 < 0 then
  (rok (0 : Int32) h)
  else
  (ldR 5 53 a0 h fun x2 =>
  lsSize x2 h fun x3 =>
  if x3 ≤ a1 then
  (rok (0 : Int32) h)
  else
  (rok (1 : Int32) h)))
noncomputable def f_X4_isRoom (a0 : Nat) (a1 : Int32) (h : HP) : Rs Int32 :=
  ldI 5 60 a0 h fun x1 =>
  if (4000 : Int32) < x1 then
  (rok (0 : Int32) h)
  else
  (ldI 5 61 a0 h fun x2 =>
  if (20000 : Int32) < (x2 + a1) then
  (rok (0 : Int32) h)
  else
  (rok (1 : Int32) h))
noncomputable def f_X4_array (a0 : Nat) (a1 : Int32) (a2 : Int32) (h : HP) : Rs Int32 :=
  if kc h a0 = 5 then
  bd (f_X4_hasAct a0 h) (fun x1 h2 =>
  if x1 = 0 then
  (rok (-13 : Int32) h2)
  else
  (if kc h2 a0 = 5 then
  bd (f_X4_isKind a0 a1 h2) (fun x3 h4 =>
  if x3 = 0 then
  (rok (-14 : Int32) h4)
  else
  (if 0 ≤ a2 then
  (if (400 : Int32) < a2 then
  (rok (-12 : Int32) h4)
  else
  (if kc h4 a0 = 5 then
  bd (f_X4_isRoom a0 a2 h4) (fun x5 h6 =>
  if x5 = 0 then
  (rok (-12 : Int32) h6)
  else
  (ldR 5 53 a0 h6 fun x7 =>
  bd (f_X4_arrayMade x7 a1 h6) (fun x8 h9 =>
  if 0 ≤ x8 then
  (nwA 1243 a2 h9 fun p10 h11 =>
  if kc h11 a0 = 5 then
  bd (f_X4_made a0 x8 p10 h11) (fun x12 h13 =>
  ldI 58 429 x12 h13 fun x14 =>
  rok x14 h13)
  else none)
  else
  (rok (-12 : Int32) h9))))
  else none))
  else
  (rok (-4 : Int32) h4)))
  else none))
  else none
noncomputable def f_X4_clearMachine (a0 : Nat) (a1 : Int32) (a2 : Int32) (h : HP) : Rs Unit :=
  stI 5 79 a0 a2 h fun h1 =>
  stI 5 82 a0 (0 : Int32) h1 fun h2 =>
  stI 5 83 a0 (0 : Int32) h2 fun h3 =>
  stI 5 84 a0 (0 : Int32) h3 fun h4 =>
  stI 5 86 a0 (0 : Int32) h4 fun h5 =>
  stI 5 87 a0 a1 h5 fun h6 =>
  stI 5 88 a0 (0 : Int32) h6 fun h7 =>
  rok () h7
noncomputable def f_X4_pop (a0 : Nat) (h : HP) : Rs Int64 :=
  ldI 5 84 a0 h fun x1 =>
  stI 5 84 a0 (x1 - (1 : Int32)) h fun h2 =>
  ldR 5 81 a0 h2 fun x3 =>
  ldI 5 84 a0 h2 fun x4 =>
  aldJ 3 x3 x4 h2 fun x5 =>
  rok x5 h2
noncomputable def f_X65_init (a0 : Nat) (h : HP) : Rs Unit :=
  if a0 = 0 then none else (
  rok () h)
noncomputable def b_X4_enter_l142 (v0 : Nat) (v3 : Int32) (v4 : Nat) (v5 : Nat) (ih : Int32 → HP → Rs Unit) (a6 : Int32) (h : HP) : Rs Unit :=
  ldR 5 85 v0 h fun x1 =>
  alen x1 h fun x2 =>
  if x2 ≤ a6 then
  (rok () h)
  else
  (ldR 5 85 v0 h fun x3 =>
  aldJ 3 x3 a6 h fun x4 =>
  astJ 3 v5 a6 x4 h fun h5 =>
  lt3 (a6 + 1) fun x6 =>
  ih x6 h5)
noncomputable def f_X4_enter_l142 (v0 : Nat) (v3 : Int32) (v4 : Nat) (v5 : Nat) (n : Nat) : Int32 → HP → Rs Unit := @Nat.rec (fun _ => Int32 → HP → Rs Unit) (fun _ _ => none) (fun _ ih => b_X4_enter_l142 v0 v3 v4 v5 ih) n
noncomputable def b_X4_enter_l116 (v0 : Nat) (v3 : Int32) (v4 : Nat) (ih : HP → Rs Unit) (h : HP) : Rs Unit :=
  ldI 5 86 v0 h fun x1 =>
  ldR 5 85 v0 h fun x2 =>
  alen x2 h fun x3 =>
  if x1 ≤ x3 then
  (rok () h)
  else
  (ldR 5 85 v0 h fun x4 =>
  alen x4 h fun x5 =>
  nwA 1263 ((2 : Int32) * x5) h fun p6 h7 =>
  bd (f_X4_enter_l142 v0 v3 v4 p6 NN (0 : Int32) h7) (fun x8 h9 => stR 5 85 v0 p6 h9 fun h10 =>
  ih  h10))
noncomputable def f_X4_enter_l116 (v0 : Nat) (v3 : Int32) (v4 : Nat) (n : Nat) : HP → Rs Unit := @Nat.rec (fun _ => HP → Rs Unit) (fun _ => none) (fun _ ih => b_X4_enter_l116 v0 v3 v4 ih) n
noncomputable def b_X4_enter_l184 (v0 : Nat) (v4 : Nat) (ih : Int32 → HP → Rs Unit) (a5 : Int32) (h : HP) : Rs Unit :=
  if a5 < 0 then
  (rok () h)
  else
  (ldR 5 85 v0 h fun x1 =>
  ldI 63 455 v4 h fun x2 =>
  if kc h v0 = 5 then
  bd (f_X4_pop v0 h) (fun x3 h4 =>
  astJ 3 x1 (x2 + a5) x3 h4 fun h5 =>
  lt3 (a5 + (-1)) fun x6 =>
  ih x6 h5)
  else none)
noncomputable def f_X4_enter_l184 (v0 : Nat) (v4 : Nat) (n : Nat) : Int32 → HP → Rs Unit := @Nat.rec (fun _ => Int32 → HP → Rs Unit) (fun _ _ => none) (fun _ ih => b_X4_enter_l184 v0 v4 ih) n
noncomputable def f_X4_enter_b46 (a0 : Nat) (a1 : Nat) (a2 : Int32) (a3 : Int32) (h : HP) : Rs Unit :=
  ldR 5 78 a0 h fun x1 =>
  ldI 5 82 a0 h fun x2 =>
  aldR 11 x1 x2 h fun x3 =>
  ldI 5 82 a0 h fun x4 =>
  stI 5 82 a0 (x4 + (1 : Int32)) h fun h5 =>
  stR 63 452 x3 a1 h5 fun h6 =>
  stI 63 453 x3 (0 : Int32) h6 fun h7 =>
  stI 63 454 x3 a2 h7 fun h8 =>
  ldI 5 86 a0 h8 fun x9 =>
  stI 63 455 x3 x9 h8 fun h10 =>
  ldI 5 83 a0 h10 fun x11 =>
  stI 63 456 x3 x11 h10 fun h12 =>
  ldI 5 86 a0 h12 fun x13 =>
  ldI 54 412 a1 h12 fun x14 =>
  stI 5 86 a0 (x13 + x14) h12 fun h15 =>
  bd (f_X4_enter_l116 a0 a3 x3 NN h15) (fun x16 h17 => lt3 (a3 - (1 : Int32)) fun x18 =>
  bd (f_X4_enter_l184 a0 x3 NN x18 h17) (fun x19 h20 => rok () h20))
noncomputable def f_X4_enter (a0 : Nat) (a1 : Nat) (a2 : Int32) (a3 : Int32) (h : HP) : Rs Unit :=
  ldI 5 82 a0 h fun x1 =>
  ldI 5 79 a0 h fun x2 =>
  if x1 = x2 then
  (if kc h a0 = 5 then
  bd (f_X4_fails a0 (9 : Int32) h) (fun x12 h13 =>
  if kc h13 x12 = 69 then rex h13 else none)
  else none)
  else
  (ldR 5 78 a0 h fun x3 =>
  ldI 5 82 a0 h fun x4 =>
  aldR 11 x3 x4 h fun x5 =>
  if x5 = 0 then
  (ldR 5 78 a0 h fun x6 =>
  ldI 5 82 a0 h fun x7 =>
  nwO 63 5 h fun p8 h9 =>
  if kc h9 p8 = 63 then
  bd (f_X65_init p8 h9) (fun _ h10 =>
  astO 11 63 x6 x7 p8 h10 fun h11 =>
  f_X4_enter_b46  a0 a1 a2 a3 h11)
  else none)
  else
  (f_X4_enter_b46  a0 a1 a2 a3 h))
noncomputable def b_X4_heightOf_l224 (v0 : Nat) (v2 : Int32) (v3 : Nat) (v4 : Int32) (v6 : Int32) (ih : Int32 → Int32 → HP → Rs Int32) (a7 : Int32) (a8 : Int32) (h : HP) : Rs Int32 :=
  if v6 ≤ a8 then
  (rok a7 h)
  else
  (lsSize v3 h fun x1 =>
  lsRem v3 (x1 - (1 : Int32)) h fun x2 h3 =>
  castR [73] x2 h3 (
  ivGet x2 h3 fun x4 =>
  lt3 (mxI a7 x4) fun x5 =>
  lt3 (a8 + 1) fun x6 =>
  ih x5 x6 h3))
noncomputable def f_X4_heightOf_l224 (v0 : Nat) (v2 : Int32) (v3 : Nat) (v4 : Int32) (v6 : Int32) (n : Nat) : Int32 → Int32 → HP → Rs Int32 := @Nat.rec (fun _ => Int32 → Int32 → HP → Rs Int32) (fun _ _ _ => none) (fun _ ih => b_X4_heightOf_l224 v0 v2 v3 v4 v6 ih) n
noncomputable def f_X4_heightOf_l11b277 (v0 : Nat) (v2 : Int32) (v3 : Nat) (ih : Int32 → HP → Rs Unit) (a4 : Int32) (h : HP) : Rs Unit :=
  lt3 (a4 + 1) fun x1 =>
  ih x1 h
noncomputable def f_X4_heightOf_l11b208 (v0 : Nat) (v2 : Int32) (v3 : Nat) (ih : Int32 → HP → Rs Unit) (a4 : Int32) (s0 : Int32) (h : HP) : Rs Unit :=
  if 0 ≤ s0 then
  (bd (f_X4_heightOf_l224 v0 v2 v3 a4 s0 NN (0 : Int32) (0 : Int32) h) (fun x1 h2 => ivOf (mnI (x1 + (1 : Int32)) (31 : Int32)) h2 fun x3 h4 =>
  lsAdd v3 x3 h4 fun h5 =>
  f_X4_heightOf_l11b277 v0 v2 v3 ih a4 h5))
  else
  (f_X4_heightOf_l11b277 v0 v2 v3 ih a4 h)
noncomputable def f_X4_heightOf_l11b76 (v0 : Nat) (v2 : Int32) (v3 : Nat) (ih : Int32 → HP → Rs Unit) (a4 : Int32) (h : HP) : Rs Unit :=
  f_X4_heightOf_l11b208 v0 v2 v3 ih a4 (-1 : Int32) h
noncomputable def f_X4_heightOf_l11b120 (v0 : Nat) (v2 : Int32) (v3 : Nat) (ih : Int32 → HP → Rs Unit) (a4 : Int32) (h : HP) : Rs Unit :=
  f_X4_heightOf_l11b208 v0 v2 v3 ih a4 (1 : Int32) h
noncomputable def f_X4_heightOf_l11b164 (v0 : Nat) (v2 : Int32) (v3 : Nat) (ih : Int32 → HP → Rs Unit) (a4 : Int32) (h : HP) : Rs Unit :=
  f_X4_heightOf_l11b208 v0 v2 v3 ih a4 (2 : Int32) h
noncomputable def b_X4_heightOf_l11 (v0 : Nat) (v2 : Int32) (v3 : Nat) (ih : Int32 → HP → Rs Unit) (a4 : Int32) (h : HP) : Rs Unit :=
  if v2 ≤ a4 then
  (rok () h)
  else
  (lsGet v0 a4 h fun x1 =>
  castR [51] x1 h (
  ldI 51 395 x1 h fun x2 =>
  if x2 = 0 then
  (f_X4_heightOf_l11b76 v0 v2 v3 ih a4 h)
  else
  (ldI 51 395 x1 h fun x3 =>
  if x3 = (13 : Int32) then
  (f_X4_heightOf_l11b76 v0 v2 v3 ih a4 h)
  else
  (ldI 51 395 x1 h fun x4 =>
  if x4 = (15 : Int32) then
  (f_X4_heightOf_l11b76 v0 v2 v3 ih a4 h)
  else
  (ldI 51 395 x1 h fun x5 =>
  if x5 = (16 : Int32) then
  (f_X4_heightOf_l11b76 v0 v2 v3 ih a4 h)
  else
  (ldI 51 395 x1 h fun x6 =>
  if x6 = (18 : Int32) then
  (f_X4_heightOf_l11b76 v0 v2 v3 ih a4 h)
  else
  (ldI 51 395 x1 h fun x7 =>
  if x7 = (6 : Int32) then
  (f_X4_heightOf_l11b120 v0 v2 v3 ih a4 h)
  else
  (ldI 51 395 x1 h fun x8 =>
  if x8 = (9 : Int32) then
  (f_X4_heightOf_l11b120 v0 v2 v3 ih a4 h)
  else
  (ldI 51 395 x1 h fun x9 =>
  if x9 = (10 : Int32) then
  (f_X4_heightOf_l11b120 v0 v2 v3 ih a4 h)
  else
  (ldI 51 395 x1 h fun x10 =>
  if x10 = (12 : Int32) then
  (f_X4_heightOf_l11b120 v0 v2 v3 ih a4 h)
  else
  (ldI 51 395 x1 h fun x11 =>
  if x11 = (8 : Int32) then
  (f_X4_heightOf_l11b164 v0 v2 v3 ih a4 h)
  else
  (ldI 51 395 x1 h fun x12 =>
  if x12 = (11 : Int32) then
  (f_X4_heightOf_l11b164 v0 v2 v3 ih a4 h)
  else
  (ldI 51 395 x1 h fun x13 =>
  if x13 = (14 : Int32) then
  (f_X4_heightOf_l11b164 v0 v2 v3 ih a4 h)
  else
  (ldI 51 395 x1 h fun x14 =>
  if x14 = (19 : Int32) then
  (f_X4_heightOf_l11b164 v0 v2 v3 ih a4 h)
  else
  (ldI 51 395 x1 h fun x15 =>
  if x15 = (17 : Int32) then
  (f_X4_heightOf_l11b208 v0 v2 v3 ih a4 (3 : Int32) h)
  else
  (ldI 51 395 x1 h fun x16 =>
  if x16 = (7 : Int32) then
  (ldI 51 399 x1 h fun x17 =>
  ldJ 51 398 x1 h fun x18 =>
  f_X4_heightOf_l11b208 v0 v2 v3 ih a4 (x17 + (Int64.toInt32 x18)) h)
  else
  (f_X4_heightOf_l11b208 v0 v2 v3 ih a4 (0 : Int32) h)))))))))))))))))
noncomputable def f_X4_heightOf_l11 (v0 : Nat) (v2 : Int32) (v3 : Nat) (n : Nat) : Int32 → HP → Rs Unit := @Nat.rec (fun _ => Int32 → HP → Rs Unit) (fun _ _ => none) (fun _ ih => b_X4_heightOf_l11 v0 v2 v3 ih) n
noncomputable def f_X4_heightOf (a0 : Nat) (a1 : Int32) (a2 : Int32) (h : HP) : Rs Int32 :=
  nwC 147 3 h fun p1 h2 =>
  lsInit p1 h2 fun h3 =>
  bd (f_X4_heightOf_l11 a0 a2 p1 NN a1 h3) (fun x4 h5 => lsGet p1 (0 : Int32) h5 fun x6 =>
  castR [73] x6 h5 (
  ivGet x6 h5 fun x7 =>
  rok x7 h5))
noncomputable def f_X4_firstConstant (a0 : Nat) (a1 : Nat) (h : HP) : Rs Int32 :=
  ldI 47 378 a1 h fun x1 =>
  rok x1 h
noncomputable def f_X57_init (a0 : Nat) (a1 : Int32) (a2 : Int32) (h : HP) : Rs Unit :=
  if a0 = 0 then none else (
  stI 55 415 a0 a1 h fun h1 =>
  stI 55 416 a0 a2 h1 fun h2 =>
  rok () h2)
noncomputable def f_X55_give (a0 : Nat) (a1 : Int32) (h : HP) : Rs Unit :=
  ldR 53 406 a0 h fun x1 =>
  nwO 55 2 h fun p2 h3 =>
  if kc h3 p2 = 55 then
  bd (f_X57_init p2 a1 (-1 : Int32) h3) (fun _ h4 =>
  lsAdd x1 p2 h4 fun h5 =>
  rok () h5)
  else none
noncomputable def f_X58_init (a0 : Nat) (a1 : Int32) (h : HP) : Rs Unit :=
  if a0 = 0 then none else (
  stR 56 418 a0 1 h fun h1 =>
  stI 56 417 a0 a1 h1 fun h2 =>
  rok () h2)
noncomputable def f_X55_op (a0 : Nat) (a1 : Int32) (h : HP) : Rs Nat :=
  nwO 56 8 h fun p1 h2 =>
  if kc h2 p1 = 56 then
  bd (f_X58_init p1 a1 h2) (fun _ h3 =>
  ldR 53 408 a0 h3 fun x4 =>
  ldR 54 410 x4 h3 fun x5 =>
  lsAdd x5 p1 h3 fun h6 =>
  rok p1 h6)
  else none
noncomputable def f_X55_constant_l5b45 (v0 : Nat) (v1 : Nat) (v2 : Nat) (ih : Int32 → Int32 → HP → Rs Int32) (a3 : Int32) (a4 : Int32) (h : HP) : Rs Int32 :=
  lt3 (a4 + 1) fun x1 =>
  ih a3 x1 h
noncomputable def b_X55_constant_l5 (v0 : Nat) (v1 : Nat) (v2 : Nat) (ih : Int32 → Int32 → HP → Rs Int32) (a3 : Int32) (a4 : Int32) (h : HP) : Rs Int32 :=
  ldR 47 373 v1 h fun x1 =>
  lsSize x1 h fun x2 =>
  if x2 ≤ a4 then
  (rok a3 h)
  else
  (ldR 47 373 v1 h fun x3 =>
  lsGet x3 a4 h fun x4 =>
  castR [45] x4 h (
  ldR 45 353 x4 h fun x5 =>
  ldR 51 397 v2 h fun x6 =>
  txEq x5 x6 h fun x7 =>
  if x7 = 0 then
  (f_X55_constant_l5b45 v0 v1 v2 ih a3 a4 h)
  else
  (f_X55_constant_l5b45 v0 v1 v2 ih a4 a4 h)))
noncomputable def f_X55_constant_l5 (v0 : Nat) (v1 : Nat) (v2 : Nat) (n : Nat) : Int32 → Int32 → HP → Rs Int32 := @Nat.rec (fun _ => Int32 → Int32 → HP → Rs Int32) (fun _ _ _ => none) (fun _ ih => b_X55_constant_l5 v0 v1 v2 ih) n
noncomputable def f_X55_constant_b64 (a0 : Nat) (a1 : Nat) (a2 : Nat) (a3 : Int32) (s0 : Nat) (s1 : Int32) (h : HP) : Rs Unit :=
  ldI 51 396 a2 h fun x1 =>
  if kc h s0 = 5 then
  bd (f_X4_must s0 s1 x1 h) (fun _ h2 =>
  if kc h2 a0 = 53 then
  bd (f_X55_op a0 (1 : Int32) h2) (fun x3 h4 =>
  ldR 53 403 a0 h4 fun x5 =>
  if kc h4 x5 = 5 then
  bd (f_X4_firstConstant x5 a1 h4) (fun x6 h7 =>
  stJ 56 424 x3 (Int32.toInt64 (x6 + a3)) h7 fun h8 =>
  ldI 47 362 a1 h8 fun x9 =>
  if kc h8 a0 = 53 then
  bd (f_X55_give a0 x9 h8) (fun _ h10 =>
  rok () h10)
  else none)
  else none)
  else none)
  else none
noncomputable def f_X55_constant (a0 : Nat) (a1 : Nat) (a2 : Nat) (h : HP) : Rs Unit :=
  bd (f_X55_constant_l5 a0 a1 a2 NN (-1 : Int32) (0 : Int32) h) (fun x1 h2 => ldR 53 403 a0 h2 fun x3 =>
  if x1 < 0 then
  (f_X55_constant_b64  a0 a1 a2 x1 x3 (0 : Int32) h2)
  else
  (f_X55_constant_b64  a0 a1 a2 x1 x3 (1 : Int32) h2))
noncomputable def b_X55_fieldOf_l2 (v0 : Nat) (v1 : Nat) (ih : Int32 → HP → Rs (Int32 ⊕ Unit)) (a2 : Int32) (h : HP) : Rs (Int32 ⊕ Unit) :=
  ldR 47 377 v0 h fun x1 =>
  if x1 = 0 then
  (rok (Sum.inr ()) h)
  else
  (ldR 47 377 v0 h fun x2 =>
  lsSize x2 h fun x3 =>
  if x3 ≤ a2 then
  (rok (Sum.inr ()) h)
  else
  (ldR 47 377 v0 h fun x4 =>
  lsGet x4 a2 h fun x5 =>
  castR [49] x5 h (
  ldR 49 385 x5 h fun x6 =>
  ldR 45 353 x6 h fun x7 =>
  txEq x7 v1 h fun x8 =>
  if x8 = 0 then
  (lt3 (a2 + 1) fun x9 =>
  ih x9 h)
  else
  (rok (Sum.inl a2) h))))
noncomputable def f_X55_fieldOf_l2 (v0 : Nat) (v1 : Nat) (n : Nat) : Int32 → HP → Rs (Int32 ⊕ Unit) := @Nat.rec (fun _ => Int32 → HP → Rs (Int32 ⊕ Unit)) (fun _ _ => none) (fun _ ih => b_X55_fieldOf_l2 v0 v1 ih) n
noncomputable def f_X55_fieldOf (a0 : Nat) (a1 : Nat) (h : HP) : Rs Int32 :=
  bd (f_X55_fieldOf_l2 a0 a1 NN (0 : Int32) h) (Sum.elim (fun x1 => fun h2 => rok x1 h2) (fun x3 => fun h4 => rok (-1 : Int32) h4))
noncomputable def f_X55_field (a0 : Nat) (a1 : Nat) (h : HP) : Rs Int32 :=
  ldR 53 404 a0 h fun x1 =>
  if x1 = 0 then
  (rok (-1 : Int32) h)
  else
  (ldR 53 404 a0 h fun x2 =>
  bd (f_X55_fieldOf x2 a1 h) (fun x3 h4 =>
  rok x3 h4))
noncomputable def f_X4_isClosedKind (a0 : Nat) (a1 : Int32) (h : HP) : Rs Int32 :=
  if kc h a0 = 5 then
  bd (f_X4_kindAt a0 a1 h) (fun x1 h2 =>
  if kc h2 x1 = 47 then
  bd (f_X49_array x1 h2) (fun x3 h4 =>
  if x3 = 0 then
  (if a1 = (9 : Int32) then
  (rok (1 : Int32) h4)
  else
  (if kc h4 a0 = 5 then
  bd (f_X4_kindAt a0 a1 h4) (fun x5 h6 =>
  ldI 47 363 x5 h6 fun x7 =>
  if x7 = (3 : Int32) then
  (rok (1 : Int32) h6)
  else
  (if kc h6 a0 = 5 then
  bd (f_X4_kindAt a0 a1 h6) (fun x8 h9 =>
  ldI 47 363 x8 h9 fun x10 =>
  if x10 = (4 : Int32) then
  (rok (1 : Int32) h9)
  else
  (rok (0 : Int32) h9))
  else none))
  else none))
  else
  (rok (1 : Int32) h4))
  else none)
  else none
noncomputable def f_X4_isCastable_b85 (a3 : Int32) (s0 : Int32) (h : HP) : Rs Int32 :=
  if a3 = 0 then
  (if s0 = 0 then
  (rok (0 : Int32) h)
  else
  (rok (1 : Int32) h))
  else
  (rok (1 : Int32) h)
noncomputable def f_X4_isCastable_b84 (a3 : Int32) (h : HP) : Rs Int32 :=
  f_X4_isCastable_b85  a3 (0 : Int32) h
noncomputable def f_X4_isCastable_b59 (a0 : Nat) (a1 : Int32) (a2 : Int32) (s0 : Int32) (h : HP) : Rs Int32 :=
  if kc h a0 = 5 then
  bd (f_X4_kindAt a0 a2 h) (fun x1 h2 =>
  ldI 47 363 x1 h2 fun x3 =>
  if x3 = (2 : Int32) then
  (if kc h2 a0 = 5 then
  bd (f_X4_isClosedKind a0 a1 h2) (fun x4 h5 =>
  if x4 = 0 then
  (f_X4_isCastable_b85  s0 (1 : Int32) h5)
  else
  (f_X4_isCastable_b84  s0 h5))
  else none)
  else
  (f_X4_isCastable_b84  s0 h2))
  else none
noncomputable def f_X4_isCastable_b58 (a0 : Nat) (a1 : Int32) (a2 : Int32) (h : HP) : Rs Int32 :=
  f_X4_isCastable_b59  a0 a1 a2 (0 : Int32) h
noncomputable def f_X4_isCastable (a0 : Nat) (a1 : Int32) (a2 : Int32) (h : HP) : Rs Int32 :=
  if a1 = (-2 : Int32) then
  (rok (1 : Int32) h)
  else
  (if a2 = (-2 : Int32) then
  (rok (1 : Int32) h)
  else
  (if kc h a0 = 5 then
  bd (f_X4_isBelow 100 a0 a1 a2 h) (fun x1 h2 =>
  if x1 = 0 then
  (if kc h2 a0 = 5 then
  bd (f_X4_isBelow 100 a0 a2 a1 h2) (fun x3 h4 =>
  if x3 = 0 then
  (if kc h4 a0 = 5 then
  bd (f_X4_kindAt a0 a1 h4) (fun x5 h6 =>
  ldI 47 363 x5 h6 fun x7 =>
  if x7 = (2 : Int32) then
  (if kc h6 a0 = 5 then
  bd (f_X4_isClosedKind a0 a2 h6) (fun x8 h9 =>
  if x8 = 0 then
  (f_X4_isCastable_b59  a0 a1 a2 (1 : Int32) h9)
  else
  (f_X4_isCastable_b58  a0 a1 a2 h9))
  else none)
  else
  (f_X4_isCastable_b58  a0 a1 a2 h6))
  else none)
  else
  (rok (1 : Int32) h4))
  else none)
  else
  (rok (1 : Int32) h2))
  else none))
noncomputable def f_X4_kindOfType_l24b54 (v0 : Nat) (v1 : Nat) (v2 : Int32) (ih : Int32 → Int32 → HP → Rs Int32) (a4 : Int32) (s0 : Int32) (h : HP) : Rs Int32 :=
  lt3 (a4 + 1) fun x1 =>
  ih s0 x1 h
noncomputable def b_X4_kindOfType_l24 (v0 : Nat) (v1 : Nat) (v2 : Int32) (ih : Int32 → Int32 → HP → Rs Int32) (a3 : Int32) (a4 : Int32) (h : HP) : Rs Int32 :=
  ldI 48 382 v1 h fun x1 =>
  if x1 ≤ a4 then
  (rok a3 h)
  else
  (if a3 < 0 then
  (rok a3 h)
  else
  (if v2 = 0 then
  (bd (f_X4_arrayOf v0 a3 h) (fun x2 h3 =>
  f_X4_kindOfType_l24b54 v0 v1 v2 ih a4 x2 h3))
  else
  (bd (f_X4_arrayMade v0 a3 h) (fun x4 h5 =>
  f_X4_kindOfType_l24b54 v0 v1 v2 ih a4 x4 h5))))
noncomputable def f_X4_kindOfType_l24 (v0 : Nat) (v1 : Nat) (v2 : Int32) (n : Nat) : Int32 → Int32 → HP → Rs Int32 := @Nat.rec (fun _ => Int32 → Int32 → HP → Rs Int32) (fun _ _ _ => none) (fun _ ih => b_X4_kindOfType_l24 v0 v1 v2 ih) n
noncomputable def f_X4_kindOfType (a0 : Nat) (a1 : Nat) (a2 : Int32) (h : HP) : Rs Int32 :=
  ldI 48 383 a1 h fun x1 =>
  if x1 < 0 then
  (ldR 48 380 a1 h fun x2 =>
  bd (f_X4_kindNamed a0 x2 h) (fun x3 h4 =>
  bd (f_X4_kindOfType_l24 a0 a1 a2 NN x3 (0 : Int32) h4) (fun x5 h6 => stI 48 383 a1 x5 h6 fun h7 =>
  rok x5 h7)))
  else
  (ldI 48 383 a1 h fun x8 =>
  rok x8 h)
noncomputable def f_X55_isNumber (a0 : Int32) (h : HP) : Rs Int32 :=
  if a0 < (1 : Int32) then
  (rok (0 : Int32) h)
  else
  (if (7 : Int32) < a0 then
  (rok (0 : Int32) h)
  else
  (rok (1 : Int32) h))
noncomputable def f_X55_isWhole (a0 : Int32) (h : HP) : Rs Int32 :=
  if a0 < (1 : Int32) then
  (rok (0 : Int32) h)
  else
  (if (5 : Int32) < a0 then
  (rok (0 : Int32) h)
  else
  (rok (1 : Int32) h))
noncomputable def f_X55_take (a0 : Nat) (h : HP) : Rs Int32 :=
  ldR 53 406 a0 h fun x1 =>
  ldR 53 406 a0 h fun x2 =>
  lsSize x2 h fun x3 =>
  lsRem x1 (x3 - (1 : Int32)) h fun x4 h5 =>
  castR [55] x4 h5 (
  ldI 55 415 x4 h5 fun x6 =>
  rok x6 h5)
noncomputable def f_X55_wider (a0 : Int32) (a1 : Int32) (h : HP) : Rs Int32 :=
  rok (mxI (4 : Int32) (mxI a0 a1)) h
noncomputable def f_X55_binary_b787 (a2 : Int32) (a3 : Int32) (a4 : Nat) (a5 : Nat) (h : HP) : Rs Unit :=
  stR 56 418 a5 a4 h fun h1 =>
  stI 56 419 a5 a3 h1 fun h2 =>
  stI 56 420 a5 a2 h2 fun h3 =>
  rok () h3
noncomputable def f_X55_binary_b753 (a0 : Nat) (a1 : Nat) (a2 : Int32) (a3 : Int32) (a4 : Nat) (s0 : Nat) (s1 : Int32) (h : HP) : Rs Unit :=
  ldI 51 396 a1 h fun x1 =>
  if kc h s0 = 5 then
  bd (f_X4_must s0 s1 x1 h) (fun _ h2 =>
  if kc h2 a0 = 53 then
  bd (f_X55_op a0 (19 : Int32) h2) (fun x3 h4 =>
  bd (f_X55_wider a3 a2 h4) (fun x5 h6 =>
  stI 56 421 x3 x5 h6 fun h7 =>
  ldI 56 421 x3 h7 fun x8 =>
  if kc h7 a0 = 53 then
  bd (f_X55_give a0 x8 h7) (fun _ h9 =>
  f_X55_binary_b787  a2 a3 a4 x3 h9)
  else none))
  else none)
  else none
noncomputable def f_X55_binary_b752 (a0 : Nat) (a1 : Nat) (a2 : Int32) (a3 : Int32) (a4 : Nat) (s0 : Nat) (h : HP) : Rs Unit :=
  f_X55_binary_b753  a0 a1 a2 a3 a4 s0 (0 : Int32) h
noncomputable def f_X55_binary_b527 (a0 : Nat) (a2 : Int32) (a3 : Int32) (a4 : Nat) (a5 : Nat) (s0 : Nat) (s1 : Int32) (h : HP) : Rs Unit :=
  stI 56 421 s0 s1 h fun h1 =>
  if kc h1 a0 = 53 then
  bd (f_X55_give a0 (0 : Int32) h1) (fun _ h2 =>
  f_X55_binary_b787  a2 a3 a4 a5 h2)
  else none
noncomputable def f_X55_binary_b487 (a0 : Nat) (a1 : Nat) (a2 : Int32) (a3 : Int32) (a4 : Nat) (a8 : Int32) (s0 : Nat) (s1 : Int32) (h : HP) : Rs Unit :=
  ldI 51 396 a1 h fun x1 =>
  if kc h s0 = 5 then
  bd (f_X4_must s0 s1 x1 h) (fun _ h2 =>
  if kc h2 a0 = 53 then
  bd (f_X55_op a0 (21 : Int32) h2) (fun x3 h4 =>
  if a8 = 0 then
  (if a3 = 0 then
  (f_X55_binary_b527  a0 a2 a3 a4 x3 x3 (0 : Int32) h4)
  else
  (bd (f_X55_wider a3 a2 h4) (fun x5 h6 =>
  f_X55_binary_b527  a0 a2 a3 a4 x3 x3 x5 h6)))
  else
  (f_X55_binary_b527  a0 a2 a3 a4 x3 x3 (8 : Int32) h4))
  else none)
  else none
noncomputable def f_X55_binary_b482 (a0 : Nat) (a1 : Nat) (a2 : Int32) (a3 : Int32) (a4 : Nat) (a8 : Int32) (s0 : Nat) (h : HP) : Rs Unit :=
  f_X55_binary_b487  a0 a1 a2 a3 a4 a8 s0 (1 : Int32) h
noncomputable def f_X55_binary_b486 (a0 : Nat) (a1 : Nat) (a2 : Int32) (a3 : Int32) (a4 : Nat) (a8 : Int32) (s0 : Nat) (h : HP) : Rs Unit :=
  f_X55_binary_b487  a0 a1 a2 a3 a4 a8 s0 (0 : Int32) h
noncomputable def f_X55_binary_b468 (a0 : Nat) (a1 : Nat) (a2 : Int32) (a3 : Int32) (a4 : Nat) (a8 : Int32) (s0 : Nat) (h : HP) : Rs Unit :=
  bd (f_X55_isNumber a3 h) (fun x1 h2 =>
  if x1 = 0 then
  (f_X55_binary_b486  a0 a1 a2 a3 a4 a8 s0 h2)
  else
  (bd (f_X55_isNumber a2 h2) (fun x3 h4 =>
  if x3 = 0 then
  (f_X55_binary_b486  a0 a1 a2 a3 a4 a8 s0 h4)
  else
  (f_X55_binary_b482  a0 a1 a2 a3 a4 a8 s0 h4))))
noncomputable def f_X55_binary_b449 (a0 : Nat) (a1 : Nat) (a2 : Int32) (a3 : Int32) (a4 : Nat) (s0 : Int32) (h : HP) : Rs Unit :=
  ldR 53 403 a0 h fun x1 =>
  if s0 = 0 then
  (if a3 = 0 then
  (if a2 = 0 then
  (f_X55_binary_b482  a0 a1 a2 a3 a4 s0 x1 h)
  else
  (f_X55_binary_b468  a0 a1 a2 a3 a4 s0 x1 h))
  else
  (f_X55_binary_b468  a0 a1 a2 a3 a4 s0 x1 h))
  else
  (f_X55_binary_b482  a0 a1 a2 a3 a4 s0 x1 h)
noncomputable def f_X55_binary_b448 (a0 : Nat) (a1 : Nat) (a2 : Int32) (a3 : Int32) (a4 : Nat) (h : HP) : Rs Unit :=
  f_X55_binary_b449  a0 a1 a2 a3 a4 (0 : Int32) h
noncomputable def f_X55_binary_b432 (a0 : Nat) (a1 : Nat) (a2 : Int32) (a3 : Int32) (a4 : Nat) (h : HP) : Rs Unit :=
  ldR 53 403 a0 h fun x1 =>
  if kc h x1 = 5 then
  bd (f_X4_isCastable x1 a3 a2 h) (fun x2 h3 =>
  if x2 = 0 then
  (f_X55_binary_b448  a0 a1 a2 a3 a4 h3)
  else
  (f_X55_binary_b449  a0 a1 a2 a3 a4 (1 : Int32) h3))
  else none
noncomputable def f_X55_binary_b420 (a0 : Nat) (a1 : Nat) (a2 : Int32) (a3 : Int32) (a4 : Nat) (h : HP) : Rs Unit :=
  if a2 = (-2 : Int32) then
  (f_X55_binary_b432  a0 a1 a2 a3 a4 h)
  else
  (if a2 < (8 : Int32) then
  (f_X55_binary_b448  a0 a1 a2 a3 a4 h)
  else
  (f_X55_binary_b432  a0 a1 a2 a3 a4 h))
noncomputable def f_X55_binary_b408 (a0 : Nat) (a1 : Nat) (a2 : Int32) (a3 : Int32) (a4 : Nat) (h : HP) : Rs Unit :=
  if a3 = (-2 : Int32) then
  (f_X55_binary_b420  a0 a1 a2 a3 a4 h)
  else
  (if a3 < (8 : Int32) then
  (f_X55_binary_b448  a0 a1 a2 a3 a4 h)
  else
  (f_X55_binary_b420  a0 a1 a2 a3 a4 h))
noncomputable def f_X55_binary_b561 (a0 : Nat) (a1 : Nat) (a2 : Int32) (a3 : Int32) (a4 : Nat) (s0 : Nat) (s1 : Int32) (h : HP) : Rs Unit :=
  ldI 51 396 a1 h fun x1 =>
  if kc h s0 = 5 then
  bd (f_X4_must s0 s1 x1 h) (fun _ h2 =>
  if kc h2 a0 = 53 then
  bd (f_X55_op a0 (21 : Int32) h2) (fun x3 h4 =>
  bd (f_X55_wider a3 a2 h4) (fun x5 h6 =>
  stI 56 421 x3 x5 h6 fun h7 =>
  if kc h7 a0 = 53 then
  bd (f_X55_give a0 (0 : Int32) h7) (fun _ h8 =>
  f_X55_binary_b787  a2 a3 a4 x3 h8)
  else none))
  else none)
  else none
noncomputable def f_X55_binary_b560 (a0 : Nat) (a1 : Nat) (a2 : Int32) (a3 : Int32) (a4 : Nat) (s0 : Nat) (h : HP) : Rs Unit :=
  f_X55_binary_b561  a0 a1 a2 a3 a4 s0 (0 : Int32) h
noncomputable def f_X55_binary_b538 (a0 : Nat) (a1 : Nat) (a2 : Int32) (a3 : Int32) (a4 : Nat) (h : HP) : Rs Unit :=
  ldR 53 403 a0 h fun x1 =>
  bd (f_X55_isNumber a3 h) (fun x2 h3 =>
  if x2 = 0 then
  (f_X55_binary_b560  a0 a1 a2 a3 a4 x1 h3)
  else
  (bd (f_X55_isNumber a2 h3) (fun x4 h5 =>
  if x4 = 0 then
  (f_X55_binary_b560  a0 a1 a2 a3 a4 x1 h5)
  else
  (f_X55_binary_b561  a0 a1 a2 a3 a4 x1 (1 : Int32) h5))))
noncomputable def f_X55_binary_b655 (a0 : Nat) (a2 : Int32) (a3 : Int32) (a4 : Nat) (a5 : Nat) (s0 : Nat) (s1 : Int32) (h : HP) : Rs Unit :=
  stI 56 421 s0 s1 h fun h1 =>
  ldI 56 421 a5 h1 fun x2 =>
  if kc h1 a0 = 53 then
  bd (f_X55_give a0 x2 h1) (fun _ h3 =>
  f_X55_binary_b787  a2 a3 a4 a5 h3)
  else none
noncomputable def f_X55_binary_b625 (a0 : Nat) (a1 : Nat) (a2 : Int32) (a3 : Int32) (a4 : Nat) (s0 : Nat) (s1 : Int32) (h : HP) : Rs Unit :=
  ldI 51 396 a1 h fun x1 =>
  if kc h s0 = 5 then
  bd (f_X4_must s0 s1 x1 h) (fun _ h2 =>
  if kc h2 a0 = 53 then
  bd (f_X55_op a0 (22 : Int32) h2) (fun x3 h4 =>
  if a3 = 0 then
  (f_X55_binary_b655  a0 a2 a3 a4 x3 x3 (0 : Int32) h4)
  else
  (bd (f_X55_wider a3 a2 h4) (fun x5 h6 =>
  f_X55_binary_b655  a0 a2 a3 a4 x3 x3 x5 h6)))
  else none)
  else none
noncomputable def f_X55_binary_b624 (a0 : Nat) (a1 : Nat) (a2 : Int32) (a3 : Int32) (a4 : Nat) (s0 : Nat) (h : HP) : Rs Unit :=
  f_X55_binary_b625  a0 a1 a2 a3 a4 s0 (0 : Int32) h
noncomputable def f_X55_binary_b620 (a0 : Nat) (a1 : Nat) (a2 : Int32) (a3 : Int32) (a4 : Nat) (s0 : Nat) (h : HP) : Rs Unit :=
  f_X55_binary_b625  a0 a1 a2 a3 a4 s0 (1 : Int32) h
noncomputable def f_X55_binary_b606 (a0 : Nat) (a1 : Nat) (a2 : Int32) (a3 : Int32) (a4 : Nat) (s0 : Nat) (h : HP) : Rs Unit :=
  bd (f_X55_isWhole a3 h) (fun x1 h2 =>
  if x1 = 0 then
  (f_X55_binary_b624  a0 a1 a2 a3 a4 s0 h2)
  else
  (bd (f_X55_isWhole a2 h2) (fun x3 h4 =>
  if x3 = 0 then
  (f_X55_binary_b624  a0 a1 a2 a3 a4 s0 h4)
  else
  (f_X55_binary_b620  a0 a1 a2 a3 a4 s0 h4))))
noncomputable def f_X55_binary_b594 (a0 : Nat) (a1 : Nat) (a2 : Int32) (a3 : Int32) (a4 : Nat) (h : HP) : Rs Unit :=
  ldR 53 403 a0 h fun x1 =>
  if a3 = 0 then
  (if a2 = 0 then
  (f_X55_binary_b620  a0 a1 a2 a3 a4 x1 h)
  else
  (f_X55_binary_b606  a0 a1 a2 a3 a4 x1 h))
  else
  (f_X55_binary_b606  a0 a1 a2 a3 a4 x1 h)
noncomputable def f_X55_binary_b693 (a0 : Nat) (a1 : Nat) (a2 : Int32) (a3 : Int32) (a4 : Nat) (s0 : Nat) (s1 : Int32) (h : HP) : Rs Unit :=
  ldI 51 396 a1 h fun x1 =>
  if kc h s0 = 5 then
  bd (f_X4_must s0 s1 x1 h) (fun _ h2 =>
  if kc h2 a0 = 53 then
  bd (f_X55_op a0 (20 : Int32) h2) (fun x3 h4 =>
  bd (f_X55_wider a3 a3 h4) (fun x5 h6 =>
  stI 56 421 x3 x5 h6 fun h7 =>
  ldI 56 421 x3 h7 fun x8 =>
  if kc h7 a0 = 53 then
  bd (f_X55_give a0 x8 h7) (fun _ h9 =>
  f_X55_binary_b787  a2 a3 a4 x3 h9)
  else none))
  else none)
  else none
noncomputable def f_X55_binary_b692 (a0 : Nat) (a1 : Nat) (a2 : Int32) (a3 : Int32) (a4 : Nat) (s0 : Nat) (h : HP) : Rs Unit :=
  f_X55_binary_b693  a0 a1 a2 a3 a4 s0 (0 : Int32) h
noncomputable def f_X55_binary_b670 (a0 : Nat) (a1 : Nat) (a2 : Int32) (a3 : Int32) (a4 : Nat) (h : HP) : Rs Unit :=
  ldR 53 403 a0 h fun x1 =>
  bd (f_X55_isWhole a3 h) (fun x2 h3 =>
  if x2 = 0 then
  (f_X55_binary_b692  a0 a1 a2 a3 a4 x1 h3)
  else
  (bd (f_X55_isWhole a2 h3) (fun x4 h5 =>
  if x4 = 0 then
  (f_X55_binary_b692  a0 a1 a2 a3 a4 x1 h5)
  else
  (f_X55_binary_b693  a0 a1 a2 a3 a4 x1 (1 : Int32) h5))))
noncomputable def f_X55_binary_b343 (a0 : Nat) (a1 : Nat) (a2 : Int32) (a3 : Int32) (a4 : Nat) (a7 : Int32) (h : HP) : Rs Unit :=
  if a7 = 0 then
  (f_X55_binary_b408  a0 a1 a2 a3 a4 h)
  else
  if a7 = 1 then
  (f_X55_binary_b408  a0 a1 a2 a3 a4 h)
  else
  if a7 = 2 then
  (f_X55_binary_b538  a0 a1 a2 a3 a4 h)
  else
  if a7 = 3 then
  (f_X55_binary_b538  a0 a1 a2 a3 a4 h)
  else
  if a7 = 4 then
  (f_X55_binary_b538  a0 a1 a2 a3 a4 h)
  else
  if a7 = 5 then
  (f_X55_binary_b538  a0 a1 a2 a3 a4 h)
  else
  if a7 = 6 then
  (f_X55_binary_b594  a0 a1 a2 a3 a4 h)
  else
  if a7 = 7 then
  (f_X55_binary_b594  a0 a1 a2 a3 a4 h)
  else
  if a7 = 8 then
  (f_X55_binary_b594  a0 a1 a2 a3 a4 h)
  else
  if a7 = 9 then
  (f_X55_binary_b670  a0 a1 a2 a3 a4 h)
  else
  if a7 = 10 then
  (f_X55_binary_b670  a0 a1 a2 a3 a4 h)
  else
  if a7 = 11 then
  (f_X55_binary_b670  a0 a1 a2 a3 a4 h)
  else
  (ldR 53 403 a0 h fun x1 =>
  bd (f_X55_isNumber a3 h) (fun x2 h3 =>
  if x2 = 0 then
  (f_X55_binary_b752  a0 a1 a2 a3 a4 x1 h3)
  else
  (bd (f_X55_isNumber a2 h3) (fun x4 h5 =>
  if x4 = 0 then
  (f_X55_binary_b752  a0 a1 a2 a3 a4 x1 h5)
  else
  (f_X55_binary_b753  a0 a1 a2 a3 a4 x1 (1 : Int32) h5)))))
noncomputable def f_X55_binary (a0 : Nat) (a1 : Nat) (h : HP) : Rs Unit :=
  if kc h a0 = 53 then
  bd (f_X55_take a0 h) (fun x1 h2 =>
  if kc h2 a0 = 53 then
  bd (f_X55_take a0 h2) (fun x3 h4 =>
  ldR 51 397 a1 h4 fun x5 =>
  txHash x5 h4 fun x6 =>
  if x6 = (38) then
  (txEq x5 7 h4 fun x7 =>
  if x7 = 0 then
  (f_X55_binary_b343  a0 a1 x1 x3 x5 (-1 : Int32) h4)
  else
  (f_X55_binary_b343  a0 a1 x1 x3 x5 (6 : Int32) h4))
  else
  if x6 = (60) then
  (txEq x5 19 h4 fun x8 =>
  if x8 = 0 then
  (f_X55_binary_b343  a0 a1 x1 x3 x5 (-1 : Int32) h4)
  else
  (f_X55_binary_b343  a0 a1 x1 x3 x5 (2 : Int32) h4))
  else
  if x6 = (62) then
  (txEq x5 24 h4 fun x9 =>
  if x9 = 0 then
  (f_X55_binary_b343  a0 a1 x1 x3 x5 (-1 : Int32) h4)
  else
  (f_X55_binary_b343  a0 a1 x1 x3 x5 (3 : Int32) h4))
  else
  if x6 = (94) then
  (txEq x5 35 h4 fun x10 =>
  if x10 = 0 then
  (f_X55_binary_b343  a0 a1 x1 x3 x5 (-1 : Int32) h4)
  else
  (f_X55_binary_b343  a0 a1 x1 x3 x5 (7 : Int32) h4))
  else
  if x6 = (124) then
  (txEq x5 74 h4 fun x11 =>
  if x11 = 0 then
  (f_X55_binary_b343  a0 a1 x1 x3 x5 (-1 : Int32) h4)
  else
  (f_X55_binary_b343  a0 a1 x1 x3 x5 (8 : Int32) h4))
  else
  if x6 = (1084) then
  (txEq x5 5 h4 fun x12 =>
  if x12 = 0 then
  (f_X55_binary_b343  a0 a1 x1 x3 x5 (-1 : Int32) h4)
  else
  (f_X55_binary_b343  a0 a1 x1 x3 x5 (1 : Int32) h4))
  else
  if x6 = (1920) then
  (txEq x5 20 h4 fun x13 =>
  if x13 = 0 then
  (f_X55_binary_b343  a0 a1 x1 x3 x5 (-1 : Int32) h4)
  else
  (f_X55_binary_b343  a0 a1 x1 x3 x5 (9 : Int32) h4))
  else
  if x6 = (1921) then
  (txEq x5 21 h4 fun x14 =>
  if x14 = 0 then
  (f_X55_binary_b343  a0 a1 x1 x3 x5 (-1 : Int32) h4)
  else
  (f_X55_binary_b343  a0 a1 x1 x3 x5 (4 : Int32) h4))
  else
  if x6 = (1952) then
  (txEq x5 23 h4 fun x15 =>
  if x15 = 0 then
  (f_X55_binary_b343  a0 a1 x1 x3 x5 (-1 : Int32) h4)
  else
  (f_X55_binary_b343  a0 a1 x1 x3 x5 (0 : Int32) h4))
  else
  if x6 = (1983) then
  (txEq x5 25 h4 fun x16 =>
  if x16 = 0 then
  (f_X55_binary_b343  a0 a1 x1 x3 x5 (-1 : Int32) h4)
  else
  (f_X55_binary_b343  a0 a1 x1 x3 x5 (5 : Int32) h4))
  else
  if x6 = (1984) then
  (txEq x5 26 h4 fun x17 =>
  if x17 = 0 then
  (f_X55_binary_b343  a0 a1 x1 x3 x5 (-1 : Int32) h4)
  else
  (f_X55_binary_b343  a0 a1 x1 x3 x5 (10 : Int32) h4))
  else
  if x6 = (61566) then
  (txEq x5 27 h4 fun x18 =>
  if x18 = 0 then
  (f_X55_binary_b343  a0 a1 x1 x3 x5 (-1 : Int32) h4)
  else
  (f_X55_binary_b343  a0 a1 x1 x3 x5 (11 : Int32) h4))
  else
  (f_X55_binary_b343  a0 a1 x1 x3 x5 (-1 : Int32) h4))
  else none)
  else none
noncomputable def f_X4_isWider_b62 (a1 : Int32) (h : HP) : Rs Int32 :=
  if a1 < (4 : Int32) then
  (rok (0 : Int32) h)
  else
  (if (7 : Int32) < a1 then
  (rok (0 : Int32) h)
  else
  (rok (1 : Int32) h))
noncomputable def f_X4_isWider (a0 : Int32) (a1 : Int32) (h : HP) : Rs Int32 :=
  if a0 = 1 then
  (if a1 = (2 : Int32) then
  (rok (1 : Int32) h)
  else
  (if a1 < (4 : Int32) then
  (rok (0 : Int32) h)
  else
  (if (7 : Int32) < a1 then
  (rok (0 : Int32) h)
  else
  (rok (1 : Int32) h))))
  else
  if a0 = 2 then
  (f_X4_isWider_b62  a1 h)
  else
  if a0 = 3 then
  (f_X4_isWider_b62  a1 h)
  else
  if a0 = 4 then
  (if a1 < (5 : Int32) then
  (rok (0 : Int32) h)
  else
  (if (7 : Int32) < a1 then
  (rok (0 : Int32) h)
  else
  (rok (1 : Int32) h)))
  else
  if a0 = 5 then
  (if a1 = (6 : Int32) then
  (rok (1 : Int32) h)
  else
  (if a1 = (7 : Int32) then
  (rok (1 : Int32) h)
  else
  (rok (0 : Int32) h)))
  else
  if a0 = 6 then
  (if a1 = (7 : Int32) then
  (rok (1 : Int32) h)
  else
  (rok (0 : Int32) h))
  else
  (rok (0 : Int32) h)
noncomputable def f_X4_isFitting_b30 (a1 : Int32) (a2 : Int32) (h : HP) : Rs Int32 :=
  if a1 = a2 then
  (rok (1 : Int32) h)
  else
  (if (8 : Int32) ≤ a1 then
  (rok (0 : Int32) h)
  else
  (if (8 : Int32) ≤ a2 then
  (rok (0 : Int32) h)
  else
  (bd (f_X4_isWider a1 a2 h) (fun x1 h2 =>
  if x1 = 0 then
  (rok (0 : Int32) h2)
  else
  (rok (1 : Int32) h2)))))
noncomputable def f_X4_isFitting (a0 : Nat) (a1 : Int32) (a2 : Int32) (h : HP) : Rs Int32 :=
  if a1 = (-2 : Int32) then
  (if a2 < (8 : Int32) then
  (rok (0 : Int32) h)
  else
  (rok (1 : Int32) h))
  else
  (if a1 < (8 : Int32) then
  (f_X4_isFitting_b30  a1 a2 h)
  else
  (if (8 : Int32) ≤ a2 then
  (if kc h a0 = 5 then
  bd (f_X4_isBelow 100 a0 a1 a2 h) (fun x1 h2 =>
  rokZ x1 h2)
  else none)
  else
  (f_X4_isFitting_b30  a1 a2 h)))
noncomputable def b_X4_method_l2 (v0 : Nat) (v1 : Nat) (ih : Nat → HP → Rs (Nat ⊕ Unit)) (a2 : Nat) (h : HP) : Rs (Nat ⊕ Unit) :=
  if a2 = 0 then
  (rok (Sum.inr ()) h)
  else
  (bd (f_X4_own a2 v1 h) (fun x1 h2 =>
  if x1 = 0 then
  (ldR 47 375 a2 h2 fun x3 =>
  ih x3 h2)
  else
  (rok (Sum.inl x1) h2)))
noncomputable def f_X4_method_l2 (v0 : Nat) (v1 : Nat) (n : Nat) : Nat → HP → Rs (Nat ⊕ Unit) := @Nat.rec (fun _ => Nat → HP → Rs (Nat ⊕ Unit)) (fun _ _ => none) (fun _ ih => b_X4_method_l2 v0 v1 ih) n
noncomputable def b_X4_method_l41 (v1 : Nat) (v2 : Nat) (ih : Int32 → HP → Rs (Nat ⊕ Unit)) (a3 : Int32) (h : HP) : Rs (Nat ⊕ Unit) :=
  lsSize v2 h fun x1 =>
  if x1 ≤ a3 then
  (rok (Sum.inr ()) h)
  else
  (lsGet v2 a3 h fun x2 =>
  castR [47] x2 h (
  bd (f_X4_own x2 v1 h) (fun x3 h4 =>
  if x3 = 0 then
  (lt3 (a3 + 1) fun x5 =>
  ih x5 h4)
  else
  (rok (Sum.inl x3) h4))))
noncomputable def f_X4_method_l41 (v1 : Nat) (v2 : Nat) (n : Nat) : Int32 → HP → Rs (Nat ⊕ Unit) := @Nat.rec (fun _ => Int32 → HP → Rs (Nat ⊕ Unit)) (fun _ _ => none) (fun _ ih => b_X4_method_l41 v1 v2 ih) n
noncomputable def f_X4_method (a0 : Nat) (a1 : Nat) (h : HP) : Rs Nat :=
  bd (f_X4_method_l2 a0 a1 NN a0 h) (Sum.elim (fun x1 => fun h2 => rok x1 h2) (fun x3 => fun h4 => nwC 148 3 h4 fun p5 h6 =>
  lsInit p5 h6 fun h7 =>
  bd (f_X4_allFaces 100 a0 p5 h7) (fun _ h8 =>
  bd (f_X4_method_l41 a1 p5 NN (0 : Int32) h8) (Sum.elim (fun x9 => fun h10 => rok x9 h10) (fun x11 => fun h12 => rok 0 h12)))))
noncomputable def f_X55_widen (a0 : Nat) (a1 : Int32) (a2 : Int32) (h : HP) : Rs Unit :=
  if a1 = a2 then
  (rok () h)
  else
  (if a1 = (-2 : Int32) then
  (rok () h)
  else
  (if a1 < (8 : Int32) then
  (if kc h a0 = 53 then
  bd (f_X55_op a0 (15 : Int32) h) (fun x1 h2 =>
  stI 56 419 x1 a1 h2 fun h3 =>
  stI 56 421 x1 a2 h3 fun h4 =>
  rok () h4)
  else none)
  else
  (rok () h)))
noncomputable def b_X55_call_l315 (v0 : Nat) (v1 : Nat) (v2 : Int32) (v3 : Int32) (v5 : Nat) (ih : Int32 → HP → Rs Unit) (a6 : Int32) (h : HP) : Rs Unit :=
  if v2 ≤ a6 then
  (rok () h)
  else
  (ldR 53 403 v0 h fun x1 =>
  ldR 53 403 v0 h fun x2 =>
  ldR 53 406 v0 h fun x3 =>
  lsGet x3 (v3 + a6) h fun x4 =>
  castR [55] x4 h (
  ldI 55 415 x4 h fun x5 =>
  ldR 50 391 v5 h fun x6 =>
  lsGet x6 a6 h fun x7 =>
  castR [49] x7 h (
  ldR 49 384 x7 h fun x8 =>
  ldI 48 383 x8 h fun x9 =>
  if kc h x2 = 5 then
  bd (f_X4_isFitting x2 x5 x9 h) (fun x10 h11 =>
  ldI 51 396 v1 h11 fun x12 =>
  if kc h11 x1 = 5 then
  bd (f_X4_must x1 x10 x12 h11) (fun _ h13 =>
  lt3 (a6 + 1) fun x14 =>
  ih x14 h13)
  else none)
  else none)))
noncomputable def f_X55_call_l315 (v0 : Nat) (v1 : Nat) (v2 : Int32) (v3 : Int32) (v5 : Nat) (n : Nat) : Int32 → HP → Rs Unit := @Nat.rec (fun _ => Int32 → HP → Rs Unit) (fun _ _ => none) (fun _ ih => b_X55_call_l315 v0 v1 v2 v3 v5 ih) n
noncomputable def b_X55_call_l416 (v0 : Nat) (v1 : Nat) (v2 : Int32) (v3 : Int32) (v5 : Nat) (ih : Int32 → HP → Rs Unit) (a7 : Int32) (h : HP) : Rs Unit :=
  if v2 ≤ a7 then
  (rok () h)
  else
  (if kc h v0 = 53 then
  bd (f_X55_op v0 (28 : Int32) h) (fun x1 h2 =>
  ldR 53 406 v0 h2 fun x3 =>
  lsGet x3 (v3 + a7) h2 fun x4 =>
  castR [55] x4 h2 (
  ldI 55 415 x4 h2 fun x5 =>
  stI 56 419 x1 x5 h2 fun h6 =>
  ldR 50 391 v5 h6 fun x7 =>
  lsGet x7 a7 h6 fun x8 =>
  castR [49] x8 h6 (
  ldR 49 384 x8 h6 fun x9 =>
  ldI 48 383 x9 h6 fun x10 =>
  stI 56 421 x1 x10 h6 fun h11 =>
  lt3 (a7 + 1) fun x12 =>
  ih x12 h11)))
  else none)
noncomputable def f_X55_call_l416 (v0 : Nat) (v1 : Nat) (v2 : Int32) (v3 : Int32) (v5 : Nat) (n : Nat) : Int32 → HP → Rs Unit := @Nat.rec (fun _ => Int32 → HP → Rs Unit) (fun _ _ => none) (fun _ ih => b_X55_call_l416 v0 v1 v2 v3 v5 ih) n
noncomputable def b_X55_call_l485 (v0 : Nat) (v1 : Nat) (v2 : Int32) (v5 : Nat) (ih : Int32 → HP → Rs Unit) (a7 : Int32) (h : HP) : Rs Unit :=
  if v2 ≤ a7 then
  (rok () h)
  else
  (if kc h v0 = 53 then
  bd (f_X55_take v0 h) (fun x1 h2 =>
  lt3 (a7 + 1) fun x3 =>
  ih x3 h2)
  else none)
noncomputable def f_X55_call_l485 (v0 : Nat) (v1 : Nat) (v2 : Int32) (v5 : Nat) (n : Nat) : Int32 → HP → Rs Unit := @Nat.rec (fun _ => Int32 → HP → Rs Unit) (fun _ _ => none) (fun _ ih => b_X55_call_l485 v0 v1 v2 v5 ih) n
noncomputable def f_X55_call_b518 (a0 : Nat) (a5 : Nat) (h : HP) : Rs Unit :=
  ldR 50 389 a5 h fun x1 =>
  ldI 48 383 x1 h fun x2 =>
  if kc h a0 = 53 then
  bd (f_X55_give a0 x2 h) (fun _ h3 =>
  rok () h3)
  else none
noncomputable def f_X55_call_b305 (a0 : Nat) (a1 : Nat) (a2 : Int32) (a3 : Int32) (a5 : Nat) (s0 : Nat) (s1 : Int32) (h : HP) : Rs Unit :=
  ldI 51 396 a1 h fun x1 =>
  if kc h s0 = 5 then
  bd (f_X4_must s0 s1 x1 h) (fun _ h2 =>
  bd (f_X55_call_l315 a0 a1 a2 a3 a5 NN (0 : Int32) h2) (fun x3 h4 => if kc h4 a0 = 53 then
  bd (f_X55_op a0 (8 : Int32) h4) (fun x5 h6 =>
  ldR 51 397 a1 h6 fun x7 =>
  stR 56 418 x5 x7 h6 fun h8 =>
  stI 56 422 x5 a2 h8 fun h9 =>
  ldJ 51 398 a1 h9 fun x10 =>
  stJ 56 424 x5 x10 h9 fun h11 =>
  bd (f_X55_call_l416 a0 a1 a2 a3 a5 NN (0 : Int32) h11) (fun x12 h13 => bd (f_X55_call_l485 a0 a1 a2 a5 NN (0 : Int32) h13) (fun x14 h15 => ldJ 51 398 a1 h15 fun x16 =>
  if (lg_cmp x16 (1 : Int64)) = 0 then
  (if kc h15 a0 = 53 then
  bd (f_X55_take a0 h15) (fun x17 h18 =>
  f_X55_call_b518  a0 a5 h18)
  else none)
  else
  (f_X55_call_b518  a0 a5 h15))))
  else none))
  else none
noncomputable def f_X55_call_b304 (a0 : Nat) (a1 : Nat) (a2 : Int32) (a3 : Int32) (a5 : Nat) (s0 : Nat) (h : HP) : Rs Unit :=
  f_X55_call_b305  a0 a1 a2 a3 a5 s0 (0 : Int32) h
noncomputable def f_X55_call_b254 (a0 : Nat) (a1 : Nat) (a2 : Int32) (a3 : Int32) (a4 : Int32) (s0 : Nat) (s1 : Int32) (h : HP) : Rs Unit :=
  ldI 51 396 a1 h fun x1 =>
  if kc h s0 = 5 then
  bd (f_X4_must s0 s1 x1 h) (fun _ h2 =>
  ldR 53 403 a0 h2 fun x3 =>
  if kc h2 x3 = 5 then
  bd (f_X4_kindAt x3 a4 h2) (fun x4 h5 =>
  ldR 51 397 a1 h5 fun x6 =>
  bd (f_X4_method x4 x6 h5) (fun x7 h8 =>
  ldR 53 403 a0 h8 fun x9 =>
  if x7 = 0 then
  (f_X55_call_b304  a0 a1 a2 a3 x7 x9 h8)
  else
  (ldR 50 391 x7 h8 fun x10 =>
  lsSize x10 h8 fun x11 =>
  if x11 = a2 then
  (f_X55_call_b305  a0 a1 a2 a3 x7 x9 (1 : Int32) h8)
  else
  (f_X55_call_b304  a0 a1 a2 a3 x7 x9 h8))))
  else none)
  else none
noncomputable def f_X55_call_b253 (a0 : Nat) (a1 : Nat) (a2 : Int32) (a3 : Int32) (a4 : Int32) (s0 : Nat) (h : HP) : Rs Unit :=
  f_X55_call_b254  a0 a1 a2 a3 a4 s0 (0 : Int32) h
noncomputable def f_X55_call_b203 (a0 : Nat) (a5 : Int32) (s0 : Nat) (s1 : Int32) (h : HP) : Rs Unit :=
  if kc h s0 = 53 then
  bd (f_X55_op s0 s1 h) (fun x1 h2 =>
  if a5 = 0 then
  (if kc h2 a0 = 53 then
  bd (f_X55_give a0 (3 : Int32) h2) (fun _ h3 =>
  rok () h3)
  else none)
  else
  (if kc h2 a0 = 53 then
  bd (f_X55_give a0 (4 : Int32) h2) (fun _ h4 =>
  rok () h4)
  else none))
  else none
noncomputable def f_X55_call_b184 (a0 : Nat) (a5 : Int32) (h : HP) : Rs Unit :=
  if kc h a0 = 53 then
  bd (f_X55_take a0 h) (fun x1 h2 =>
  if a5 = 0 then
  (f_X55_call_b203  a0 a5 a0 (10 : Int32) h2)
  else
  (f_X55_call_b203  a0 a5 a0 (9 : Int32) h2))
  else none
noncomputable def f_X55_call_b163 (a0 : Nat) (a1 : Nat) (a5 : Int32) (a6 : Int32) (s0 : Nat) (s1 : Int32) (h : HP) : Rs Unit :=
  ldI 51 396 a1 h fun x1 =>
  if kc h s0 = 5 then
  bd (f_X4_must s0 s1 x1 h) (fun _ h2 =>
  if a6 = 0 then
  (f_X55_call_b184  a0 a5 h2)
  else
  (if kc h2 a0 = 53 then
  bd (f_X55_take a0 h2) (fun x3 h4 =>
  if kc h4 a0 = 53 then
  bd (f_X55_widen a0 x3 (4 : Int32) h4) (fun _ h5 =>
  f_X55_call_b184  a0 a5 h5)
  else none)
  else none))
  else none
noncomputable def f_X55_call_b158 (a0 : Nat) (a1 : Nat) (a5 : Int32) (a6 : Int32) (s0 : Nat) (h : HP) : Rs Unit :=
  f_X55_call_b163  a0 a1 a5 a6 s0 (1 : Int32) h
noncomputable def f_X55_call_b142 (a0 : Nat) (a1 : Nat) (a5 : Int32) (s0 : Int32) (h : HP) : Rs Unit :=
  ldR 53 403 a0 h fun x1 =>
  if a5 = 0 then
  (if s0 = 0 then
  (f_X55_call_b163  a0 a1 a5 s0 x1 (0 : Int32) h)
  else
  (f_X55_call_b158  a0 a1 a5 s0 x1 h))
  else
  (f_X55_call_b158  a0 a1 a5 s0 x1 h)
noncomputable def f_X55_call_b141 (a0 : Nat) (a1 : Nat) (a5 : Int32) (h : HP) : Rs Unit :=
  f_X55_call_b142  a0 a1 a5 (0 : Int32) h
noncomputable def f_X55_call_b92 (a0 : Nat) (a1 : Nat) (a2 : Int32) (a3 : Int32) (s0 : Int32) (h : HP) : Rs Unit :=
  ldR 51 397 a1 h fun x1 =>
  txEq x1 38 h fun x2 =>
  if x2 = 0 then
  (f_X55_call_b141  a0 a1 s0 h)
  else
  (if a2 = (1 : Int32) then
  (ldR 53 403 a0 h fun x3 =>
  ldR 53 406 a0 h fun x4 =>
  lsGet x4 a3 h fun x5 =>
  castR [55] x5 h (
  ldI 55 415 x5 h fun x6 =>
  if kc h x3 = 5 then
  bd (f_X4_isFitting x3 x6 (4 : Int32) h) (fun x7 h8 =>
  if x7 = 0 then
  (f_X55_call_b141  a0 a1 s0 h8)
  else
  (f_X55_call_b142  a0 a1 s0 (1 : Int32) h8))
  else none))
  else
  (f_X55_call_b141  a0 a1 s0 h))
noncomputable def f_X55_call_b91 (a0 : Nat) (a1 : Nat) (a2 : Int32) (a3 : Int32) (h : HP) : Rs Unit :=
  f_X55_call_b92  a0 a1 a2 a3 (0 : Int32) h
noncomputable def f_X55_call_b61 (a0 : Nat) (a1 : Nat) (a2 : Int32) (a3 : Int32) (s0 : Int32) (h : HP) : Rs Unit :=
  if s0 = (9 : Int32) then
  (ldR 51 397 a1 h fun x7 =>
  txEq x7 60 h fun x8 =>
  if x8 = 0 then
  (f_X55_call_b91  a0 a1 a2 a3 h)
  else
  (if a2 = 0 then
  (f_X55_call_b92  a0 a1 a2 a3 (1 : Int32) h)
  else
  (f_X55_call_b91  a0 a1 a2 a3 h)))
  else
  (ldR 53 403 a0 h fun x1 =>
  if s0 < (10 : Int32) then
  (f_X55_call_b253  a0 a1 a2 a3 s0 x1 h)
  else
  (ldR 53 403 a0 h fun x2 =>
  if kc h x2 = 5 then
  bd (f_X4_kindAt x2 s0 h) (fun x3 h4 =>
  if kc h4 x3 = 47 then
  bd (f_X49_array x3 h4) (fun x5 h6 =>
  if x5 = 0 then
  (f_X55_call_b254  a0 a1 a2 a3 s0 x1 (1 : Int32) h6)
  else
  (f_X55_call_b253  a0 a1 a2 a3 s0 x1 h6))
  else none)
  else none))
noncomputable def f_X55_call (a0 : Nat) (a1 : Nat) (h : HP) : Rs Unit :=
  ldI 51 399 a1 h fun x1 =>
  ldR 53 406 a0 h fun x2 =>
  lsSize x2 h fun x3 =>
  lt3 (x3 - x1) fun x4 =>
  ldJ 51 398 a1 h fun x5 =>
  if (lg_cmp x5 (1 : Int64)) = 0 then
  (ldR 53 406 a0 h fun x9 =>
  lsGet x9 (x4 - (1 : Int32)) h fun x10 =>
  castR [55] x10 h (
  ldI 55 415 x10 h fun x11 =>
  f_X55_call_b61  a0 a1 x1 x4 x11 h))
  else
  (ldR 53 404 a0 h fun x6 =>
  if x6 = 0 then
  (f_X55_call_b61  a0 a1 x1 x4 (-1 : Int32) h)
  else
  (ldR 53 404 a0 h fun x7 =>
  ldI 47 362 x7 h fun x8 =>
  f_X55_call_b61  a0 a1 x1 x4 x8 h))
noncomputable def f_X55_cast_b141 (a0 : Nat) (a1 : Nat) (a3 : Int32) (s0 : Nat) (s1 : Int32) (h : HP) : Rs Unit :=
  ldI 51 396 a1 h fun x1 =>
  if kc h s0 = 5 then
  bd (f_X4_must s0 s1 x1 h) (fun _ h2 =>
  if kc h2 a0 = 53 then
  bd (f_X55_op a0 (17 : Int32) h2) (fun x3 h4 =>
  stI 56 421 x3 a3 h4 fun h5 =>
  if kc h5 a0 = 53 then
  bd (f_X55_give a0 a3 h5) (fun _ h6 =>
  rok () h6)
  else none)
  else none)
  else none
noncomputable def f_X55_cast_b140 (a0 : Nat) (a1 : Nat) (a3 : Int32) (s0 : Nat) (h : HP) : Rs Unit :=
  f_X55_cast_b141  a0 a1 a3 s0 (0 : Int32) h
noncomputable def f_X55_cast_b124 (a0 : Nat) (a1 : Nat) (a2 : Int32) (a3 : Int32) (s0 : Nat) (h : HP) : Rs Unit :=
  ldR 53 403 a0 h fun x1 =>
  if kc h x1 = 5 then
  bd (f_X4_isCastable x1 a2 a3 h) (fun x2 h3 =>
  if x2 = 0 then
  (f_X55_cast_b140  a0 a1 a3 s0 h3)
  else
  (f_X55_cast_b141  a0 a1 a3 s0 (1 : Int32) h3))
  else none
noncomputable def f_X55_cast_b78 (a0 : Nat) (a1 : Nat) (a2 : Int32) (a3 : Int32) (s0 : Nat) (s1 : Int32) (h : HP) : Rs Unit :=
  ldI 51 396 a1 h fun x1 =>
  if kc h s0 = 5 then
  bd (f_X4_must s0 s1 x1 h) (fun _ h2 =>
  if kc h2 a0 = 53 then
  bd (f_X55_op a0 (16 : Int32) h2) (fun x3 h4 =>
  stI 56 419 x3 a2 h4 fun h5 =>
  stI 56 421 x3 a3 h5 fun h6 =>
  if kc h6 a0 = 53 then
  bd (f_X55_give a0 a3 h6) (fun _ h7 =>
  rok () h7)
  else none)
  else none)
  else none
noncomputable def f_X55_cast_b73 (a0 : Nat) (a1 : Nat) (a2 : Int32) (a3 : Int32) (s0 : Nat) (h : HP) : Rs Unit :=
  f_X55_cast_b78  a0 a1 a2 a3 s0 (1 : Int32) h
noncomputable def f_X55_cast_b77 (a0 : Nat) (a1 : Nat) (a2 : Int32) (a3 : Int32) (s0 : Nat) (h : HP) : Rs Unit :=
  f_X55_cast_b78  a0 a1 a2 a3 s0 (0 : Int32) h
noncomputable def f_X55_cast_b34 (a0 : Nat) (a1 : Nat) (a2 : Int32) (a3 : Int32) (s0 : Nat) (s1 : Int32) (h : HP) : Rs Unit :=
  ldR 51 400 a1 h fun x1 =>
  ldI 48 381 x1 h fun x2 =>
  if kc h s0 = 5 then
  bd (f_X4_must s0 s1 x2 h) (fun _ h3 =>
  if (8 : Int32) ≤ a3 then
  (ldR 53 403 a0 h3 fun x4 =>
  if a2 = (-2 : Int32) then
  (f_X55_cast_b124  a0 a1 a2 a3 x4 h3)
  else
  (if a2 < (8 : Int32) then
  (f_X55_cast_b140  a0 a1 a3 x4 h3)
  else
  (f_X55_cast_b124  a0 a1 a2 a3 x4 h3)))
  else
  (ldR 53 403 a0 h3 fun x5 =>
  if a2 = a3 then
  (f_X55_cast_b73  a0 a1 a2 a3 x5 h3)
  else
  (bd (f_X55_isNumber a2 h3) (fun x6 h7 =>
  if x6 = 0 then
  (f_X55_cast_b77  a0 a1 a2 a3 x5 h7)
  else
  (bd (f_X55_isNumber a3 h7) (fun x8 h9 =>
  if x8 = 0 then
  (f_X55_cast_b77  a0 a1 a2 a3 x5 h9)
  else
  (f_X55_cast_b73  a0 a1 a2 a3 x5 h9)))))))
  else none
noncomputable def f_X55_cast (a0 : Nat) (a1 : Nat) (h : HP) : Rs Unit :=
  if kc h a0 = 53 then
  bd (f_X55_take a0 h) (fun x1 h2 =>
  ldR 53 403 a0 h2 fun x3 =>
  ldR 5 53 x3 h2 fun x4 =>
  ldR 51 400 a1 h2 fun x5 =>
  bd (f_X4_kindOfType x4 x5 (0 : Int32) h2) (fun x6 h7 =>
  ldR 53 403 a0 h7 fun x8 =>
  if x6 < 0 then
  (f_X55_cast_b34  a0 a1 x1 x6 x8 (0 : Int32) h7)
  else
  (f_X55_cast_b34  a0 a1 x1 x6 x8 (1 : Int32) h7)))
  else none
noncomputable def f_X55_common_b56 (a0 : Nat) (a1 : Int32) (a2 : Int32) (s0 : Int32) (h : HP) : Rs Int32 :=
  if s0 = 0 then
  (rok (-1 : Int32) h)
  else
  (if a1 = (-2 : Int32) then
  (rok a2 h)
  else
  (if a2 = (-2 : Int32) then
  (rok a1 h)
  else
  (ldR 53 403 a0 h fun x1 =>
  if kc h x1 = 5 then
  bd (f_X4_isFitting x1 a2 a1 h) (fun x2 h3 =>
  if x2 = 0 then
  (ldR 53 403 a0 h3 fun x4 =>
  if kc h3 x4 = 5 then
  bd (f_X4_isFitting x4 a1 a2 h3) (fun x5 h6 =>
  if x5 = 0 then
  (rok (-1 : Int32) h6)
  else
  (rok a2 h6))
  else none)
  else
  (rok a1 h3))
  else none)))
noncomputable def f_X55_common_b51 (a0 : Nat) (a1 : Int32) (a2 : Int32) (h : HP) : Rs Int32 :=
  f_X55_common_b56  a0 a1 a2 (1 : Int32) h
noncomputable def f_X55_common_b55 (a0 : Nat) (a1 : Int32) (a2 : Int32) (h : HP) : Rs Int32 :=
  f_X55_common_b56  a0 a1 a2 (0 : Int32) h
noncomputable def f_X55_common_b39 (a0 : Nat) (a1 : Int32) (a2 : Int32) (h : HP) : Rs Int32 :=
  if a2 = (-2 : Int32) then
  (f_X55_common_b51  a0 a1 a2 h)
  else
  (if a2 < (8 : Int32) then
  (f_X55_common_b55  a0 a1 a2 h)
  else
  (f_X55_common_b51  a0 a1 a2 h))
noncomputable def f_X55_common_b27 (a0 : Nat) (a1 : Int32) (a2 : Int32) (h : HP) : Rs Int32 :=
  if a1 = (-2 : Int32) then
  (f_X55_common_b39  a0 a1 a2 h)
  else
  (if a1 < (8 : Int32) then
  (f_X55_common_b55  a0 a1 a2 h)
  else
  (f_X55_common_b39  a0 a1 a2 h))
noncomputable def f_X55_common (a0 : Nat) (a1 : Int32) (a2 : Int32) (h : HP) : Rs Int32 :=
  if a1 = a2 then
  (rok a1 h)
  else
  (bd (f_X55_isNumber a1 h) (fun x1 h2 =>
  if x1 = 0 then
  (f_X55_common_b27  a0 a1 a2 h2)
  else
  (bd (f_X55_isNumber a2 h2) (fun x3 h4 =>
  if x3 = 0 then
  (f_X55_common_b27  a0 a1 a2 h4)
  else
  (bd (f_X55_wider a1 a2 h4) (fun x5 h6 =>
  rok x5 h6))))))
noncomputable def f_X55_ended (a0 : Nat) (h : HP) : Rs Nat :=
  ldR 53 407 a0 h fun x1 =>
  ldR 53 407 a0 h fun x2 =>
  lsSize x2 h fun x3 =>
  lsRem x1 (x3 - (1 : Int32)) h fun x4 h5 =>
  castR [57] x4 h5 (
  rok x4 h5)
noncomputable def f_X55_choice_b54 (a0 : Nat) (a1 : Nat) (a2 : Int32) (a3 : Nat) (a5 : Int32) (s0 : Nat) (s1 : Int32) (h : HP) : Rs Unit :=
  ldI 51 396 a1 h fun x1 =>
  if kc h s0 = 5 then
  bd (f_X4_must s0 s1 x1 h) (fun _ h2 =>
  ldR 57 425 a3 h2 fun x3 =>
  ldI 57 428 a3 h2 fun x4 =>
  stI 56 419 x3 x4 h2 fun h5 =>
  ldR 57 425 a3 h5 fun x6 =>
  stI 56 421 x6 a5 h5 fun h7 =>
  if kc h7 a0 = 53 then
  bd (f_X55_widen a0 a2 a5 h7) (fun _ h8 =>
  ldR 57 427 a3 h8 fun x9 =>
  ldR 53 408 a0 h8 fun x10 =>
  ldR 54 410 x10 h8 fun x11 =>
  lsSize x11 h8 fun x12 =>
  stI 56 423 x9 x12 h8 fun h13 =>
  if kc h13 a0 = 53 then
  bd (f_X55_give a0 a5 h13) (fun _ h14 =>
  rok () h14)
  else none)
  else none)
  else none
noncomputable def f_X55_choice_b37 (a0 : Nat) (a1 : Nat) (a2 : Int32) (a3 : Nat) (s0 : Int32) (h : HP) : Rs Unit :=
  ldR 53 403 a0 h fun x1 =>
  if s0 = (-1 : Int32) then
  (f_X55_choice_b54  a0 a1 a2 a3 s0 x1 (0 : Int32) h)
  else
  (f_X55_choice_b54  a0 a1 a2 a3 s0 x1 (1 : Int32) h)
noncomputable def f_X55_choice (a0 : Nat) (a1 : Nat) (h : HP) : Rs Unit :=
  if kc h a0 = 53 then
  bd (f_X55_take a0 h) (fun x1 h2 =>
  if kc h2 a0 = 53 then
  bd (f_X55_ended a0 h2) (fun x3 h4 =>
  if kc h4 a0 = 53 then
  bd (f_X55_ended a0 h4) (fun x5 h6 =>
  ldI 57 428 x5 h6 fun x7 =>
  if x7 = 0 then
  (ldI 57 428 x3 h6 fun x8 =>
  if kc h6 a0 = 53 then
  bd (f_X55_common a0 x8 x1 h6) (fun x9 h10 =>
  f_X55_choice_b37  a0 a1 x1 x3 x9 h10)
  else none)
  else
  (f_X55_choice_b37  a0 a1 x1 x3 (-1 : Int32) h6))
  else none)
  else none)
  else none
noncomputable def f_X55_here (a0 : Nat) (h : HP) : Rs Int32 :=
  ldR 53 408 a0 h fun x1 =>
  ldR 54 410 x1 h fun x2 =>
  lsSize x2 h fun x3 =>
  rok (x3 - (1 : Int32)) h
noncomputable def f_X55_index_b51 (a0 : Nat) (a1 : Nat) (a2 : Int32) (a3 : Int32) (s0 : Nat) (s1 : Int32) (h : HP) : Rs Unit :=
  ldI 51 396 a1 h fun x1 =>
  if kc h s0 = 5 then
  bd (f_X4_must s0 s1 x1 h) (fun _ h2 =>
  if kc h2 a0 = 53 then
  bd (f_X55_widen a0 a2 (4 : Int32) h2) (fun _ h3 =>
  if kc h3 a0 = 53 then
  bd (f_X55_op a0 (11 : Int32) h3) (fun x4 h5 =>
  ldR 53 403 a0 h5 fun x6 =>
  if kc h5 x6 = 5 then
  bd (f_X4_kindAt x6 a3 h5) (fun x7 h8 =>
  ldI 47 367 x7 h8 fun x9 =>
  if kc h8 a0 = 53 then
  bd (f_X55_give a0 x9 h8) (fun _ h10 =>
  rok () h10)
  else none)
  else none)
  else none)
  else none)
  else none
noncomputable def f_X55_index_b50 (a0 : Nat) (a1 : Nat) (a2 : Int32) (a3 : Int32) (s0 : Nat) (h : HP) : Rs Unit :=
  f_X55_index_b51  a0 a1 a2 a3 s0 (0 : Int32) h
noncomputable def f_X55_index (a0 : Nat) (a1 : Nat) (h : HP) : Rs Unit :=
  if kc h a0 = 53 then
  bd (f_X55_take a0 h) (fun x1 h2 =>
  if kc h2 a0 = 53 then
  bd (f_X55_take a0 h2) (fun x3 h4 =>
  ldR 53 403 a0 h4 fun x5 =>
  if x3 < (8 : Int32) then
  (f_X55_index_b50  a0 a1 x1 x3 x5 h4)
  else
  (ldR 53 403 a0 h4 fun x6 =>
  if kc h4 x6 = 5 then
  bd (f_X4_kindAt x6 x3 h4) (fun x7 h8 =>
  if kc h8 x7 = 47 then
  bd (f_X49_array x7 h8) (fun x9 h10 =>
  if x9 = 0 then
  (f_X55_index_b50  a0 a1 x1 x3 x5 h10)
  else
  (ldR 53 403 a0 h10 fun x11 =>
  if kc h10 x11 = 5 then
  bd (f_X4_isFitting x11 x1 (4 : Int32) h10) (fun x12 h13 =>
  if x12 = 0 then
  (f_X55_index_b50  a0 a1 x1 x3 x5 h13)
  else
  (f_X55_index_b51  a0 a1 x1 x3 x5 (1 : Int32) h13))
  else none))
  else none)
  else none))
  else none)
  else none
noncomputable def f_X55_member_b157 (a0 : Nat) (a1 : Nat) (a3 : Nat) (a4 : Int32) (s0 : Nat) (s1 : Int32) (h : HP) : Rs Unit :=
  ldI 51 396 a1 h fun x1 =>
  if kc h s0 = 5 then
  bd (f_X4_must s0 s1 x1 h) (fun _ h2 =>
  if kc h2 a0 = 53 then
  bd (f_X55_op a0 (5 : Int32) h2) (fun x3 h4 =>
  stI 56 422 x3 a4 h4 fun h5 =>
  ldR 47 377 a3 h5 fun x6 =>
  lsGet x6 a4 h5 fun x7 =>
  castR [49] x7 h5 (
  ldR 49 384 x7 h5 fun x8 =>
  ldI 48 383 x8 h5 fun x9 =>
  if kc h5 a0 = 53 then
  bd (f_X55_give a0 x9 h5) (fun _ h10 =>
  rok () h10)
  else none))
  else none)
  else none
noncomputable def f_X55_member_b74 (a0 : Nat) (a1 : Nat) (a2 : Int32) (s0 : Nat) (s1 : Int32) (h : HP) : Rs Unit :=
  ldI 51 396 a1 h fun x1 =>
  if kc h s0 = 5 then
  bd (f_X4_must s0 s1 x1 h) (fun _ h2 =>
  ldR 53 403 a0 h2 fun x3 =>
  if kc h2 x3 = 5 then
  bd (f_X4_kindAt x3 a2 h2) (fun x4 h5 =>
  ldI 47 363 x4 h5 fun x6 =>
  if x6 = (3 : Int32) then
  (ldR 53 403 a0 h5 fun x11 =>
  ldR 51 397 a1 h5 fun x12 =>
  txEq x12 63 h5 fun x13 =>
  ldI 51 396 a1 h5 fun x14 =>
  if kc h5 x11 = 5 then
  bd (f_X4_must x11 x13 x14 h5) (fun _ h15 =>
  if kc h15 a0 = 53 then
  bd (f_X55_op a0 (7 : Int32) h15) (fun x16 h17 =>
  if kc h17 a0 = 53 then
  bd (f_X55_give a0 (4 : Int32) h17) (fun _ h18 =>
  rok () h18)
  else none)
  else none)
  else none)
  else
  (ldR 51 397 a1 h5 fun x7 =>
  bd (f_X55_fieldOf x4 x7 h5) (fun x8 h9 =>
  ldR 53 403 a0 h9 fun x10 =>
  if x8 < 0 then
  (f_X55_member_b157  a0 a1 x4 x8 x10 (0 : Int32) h9)
  else
  (f_X55_member_b157  a0 a1 x4 x8 x10 (1 : Int32) h9))))
  else none)
  else none
noncomputable def f_X55_member_b59 (a0 : Nat) (a1 : Nat) (a2 : Int32) (h : HP) : Rs Unit :=
  ldR 53 403 a0 h fun x1 =>
  if a2 < (10 : Int32) then
  (f_X55_member_b74  a0 a1 a2 x1 (0 : Int32) h)
  else
  (f_X55_member_b74  a0 a1 a2 x1 (1 : Int32) h)
noncomputable def f_X55_member (a0 : Nat) (a1 : Nat) (h : HP) : Rs Unit :=
  if kc h a0 = 53 then
  bd (f_X55_take a0 h) (fun x1 h2 =>
  if x1 < (8 : Int32) then
  (f_X55_member_b59  a0 a1 x1 h2)
  else
  (ldR 53 403 a0 h2 fun x3 =>
  if kc h2 x3 = 5 then
  bd (f_X4_kindAt x3 x1 h2) (fun x4 h5 =>
  if kc h5 x4 = 47 then
  bd (f_X49_array x4 h5) (fun x6 h7 =>
  if x6 = 0 then
  (f_X55_member_b59  a0 a1 x1 h7)
  else
  (ldR 53 403 a0 h7 fun x8 =>
  ldR 51 397 a1 h7 fun x9 =>
  txEq x9 60 h7 fun x10 =>
  ldI 51 396 a1 h7 fun x11 =>
  if kc h7 x8 = 5 then
  bd (f_X4_must x8 x10 x11 h7) (fun _ h12 =>
  if kc h12 a0 = 53 then
  bd (f_X55_op a0 (6 : Int32) h12) (fun x13 h14 =>
  if kc h14 a0 = 53 then
  bd (f_X55_give a0 (4 : Int32) h14) (fun _ h15 =>
  rok () h15)
  else none)
  else none)
  else none))
  else none)
  else none))
  else none
noncomputable def f_X59_init (a0 : Nat) (a1 : Nat) (a2 : Int32) (a3 : Int32) (h : HP) : Rs Unit :=
  if a0 = 0 then none else (
  stR 57 425 a0 a1 h fun h1 =>
  stI 57 426 a0 a2 h1 fun h2 =>
  stI 57 428 a0 a3 h2 fun h3 =>
  rok () h3)
noncomputable def f_X55_middle (a0 : Nat) (h : HP) : Rs Unit :=
  ldR 53 407 a0 h fun x1 =>
  ldR 53 407 a0 h fun x2 =>
  lsSize x2 h fun x3 =>
  lsGet x1 (x3 - (1 : Int32)) h fun x4 =>
  castR [57] x4 h (
  if kc h a0 = 53 then
  bd (f_X55_op a0 (15 : Int32) h) (fun x5 h6 =>
  nwO 57 4 h6 fun p7 h8 =>
  if kc h8 a0 = 53 then
  bd (f_X55_here a0 h8) (fun x9 h10 =>
  if kc h10 a0 = 53 then
  bd (f_X55_take a0 h10) (fun x11 h12 =>
  if kc h12 p7 = 57 then
  bd (f_X59_init p7 x5 x9 x11 h12) (fun _ h13 =>
  ldR 53 407 a0 h13 fun x14 =>
  lsAdd x14 p7 h13 fun h15 =>
  if kc h15 a0 = 53 then
  bd (f_X55_op a0 (25 : Int32) h15) (fun x16 h17 =>
  stR 57 427 p7 x16 h17 fun h18 =>
  ldR 57 425 x4 h18 fun x19 =>
  ldR 53 408 a0 h18 fun x20 =>
  ldR 54 410 x20 h18 fun x21 =>
  lsSize x21 h18 fun x22 =>
  stI 56 423 x19 x22 h18 fun h23 =>
  rok () h23)
  else none)
  else none)
  else none)
  else none)
  else none)
noncomputable def b_X55_slot_l10 (v0 : Nat) (v1 : Nat) (ih : Int32 → HP → Rs (Int32 ⊕ Unit)) (a2 : Int32) (h : HP) : Rs (Int32 ⊕ Unit) :=
  if a2 < 0 then
  (rok (Sum.inr ()) h)
  else
  (ldR 53 405 v0 h fun x1 =>
  lsGet x1 a2 h fun x2 =>
  castR [52] x2 h (
  ldR 52 401 x2 h fun x3 =>
  txEq x3 v1 h fun x4 =>
  if x4 = 0 then
  (lt3 (a2 + (-1)) fun x5 =>
  ih x5 h)
  else
  (rok (Sum.inl a2) h)))
noncomputable def f_X55_slot_l10 (v0 : Nat) (v1 : Nat) (n : Nat) : Int32 → HP → Rs (Int32 ⊕ Unit) := @Nat.rec (fun _ => Int32 → HP → Rs (Int32 ⊕ Unit)) (fun _ _ => none) (fun _ ih => b_X55_slot_l10 v0 v1 ih) n
noncomputable def f_X55_slot (a0 : Nat) (a1 : Nat) (h : HP) : Rs Int32 :=
  ldR 53 405 a0 h fun x1 =>
  lsSize x1 h fun x2 =>
  lt3 (x2 - (1 : Int32)) fun x3 =>
  bd (f_X55_slot_l10 a0 a1 NN x3 h) (Sum.elim (fun x4 => fun h5 => rok x4 h5) (fun x6 => fun h7 => rok (-1 : Int32) h7))
noncomputable def f_X55_name_b63 (a0 : Nat) (a1 : Nat) (a3 : Int32) (s0 : Nat) (s1 : Int32) (h : HP) : Rs Unit :=
  ldI 51 396 a1 h fun x1 =>
  if kc h s0 = 5 then
  bd (f_X4_must s0 s1 x1 h) (fun _ h2 =>
  if kc h2 a0 = 53 then
  bd (f_X55_op a0 (3 : Int32) h2) (fun x3 h4 =>
  if kc h4 a0 = 53 then
  bd (f_X55_op a0 (5 : Int32) h4) (fun x5 h6 =>
  stI 56 422 x5 a3 h6 fun h7 =>
  ldR 53 404 a0 h7 fun x8 =>
  ldR 47 377 x8 h7 fun x9 =>
  lsGet x9 a3 h7 fun x10 =>
  castR [49] x10 h7 (
  ldR 49 384 x10 h7 fun x11 =>
  ldI 48 383 x11 h7 fun x12 =>
  if kc h7 a0 = 53 then
  bd (f_X55_give a0 x12 h7) (fun _ h13 =>
  rok () h13)
  else none))
  else none)
  else none)
  else none
noncomputable def f_X55_name (a0 : Nat) (a1 : Nat) (h : HP) : Rs Unit :=
  ldR 51 397 a1 h fun x1 =>
  if kc h a0 = 53 then
  bd (f_X55_slot a0 x1 h) (fun x2 h3 =>
  if x2 < 0 then
  (ldR 51 397 a1 h3 fun x4 =>
  if kc h3 a0 = 53 then
  bd (f_X55_field a0 x4 h3) (fun x5 h6 =>
  ldR 53 403 a0 h6 fun x7 =>
  if x5 < 0 then
  (f_X55_name_b63  a0 a1 x5 x7 (0 : Int32) h6)
  else
  (f_X55_name_b63  a0 a1 x5 x7 (1 : Int32) h6))
  else none)
  else
  (if kc h3 a0 = 53 then
  bd (f_X55_op a0 (4 : Int32) h3) (fun x8 h9 =>
  stI 56 422 x8 x2 h9 fun h10 =>
  ldR 53 405 a0 h10 fun x11 =>
  lsGet x11 x2 h10 fun x12 =>
  castR [52] x12 h10 (
  ldI 52 402 x12 h10 fun x13 =>
  if kc h10 a0 = 53 then
  bd (f_X55_give a0 x13 h10) (fun _ h14 =>
  rok () h14)
  else none))
  else none))
  else none
noncomputable def f_X55_part_b92 (a0 : Nat) (a1 : Nat) (a2 : Int32) (s0 : Nat) (s1 : Int32) (h : HP) : Rs Unit :=
  ldI 51 396 a1 h fun x1 =>
  if kc h s0 = 5 then
  bd (f_X4_must s0 s1 x1 h) (fun _ h2 =>
  if kc h2 a0 = 53 then
  bd (f_X55_op a0 (28 : Int32) h2) (fun x3 h4 =>
  stI 56 422 x3 (2 : Int32) h4 fun h5 =>
  ldR 53 408 a0 h5 fun x6 =>
  stI 54 413 x6 a2 h5 fun h7 =>
  rok () h7)
  else none)
  else none
noncomputable def f_X55_part_b87 (a0 : Nat) (a1 : Nat) (a2 : Int32) (s0 : Nat) (h : HP) : Rs Unit :=
  f_X55_part_b92  a0 a1 a2 s0 (1 : Int32) h
noncomputable def f_X55_part_b81 (a0 : Nat) (a1 : Nat) (a2 : Int32) (s0 : Nat) (h : HP) : Rs Unit :=
  if a2 = (9 : Int32) then
  (f_X55_part_b87  a0 a1 a2 s0 h)
  else
  (f_X55_part_b92  a0 a1 a2 s0 (0 : Int32) h)
noncomputable def f_X55_part_b26 (a0 : Nat) (a1 : Nat) (s0 : Nat) (s1 : Int32) (h : HP) : Rs Unit :=
  ldI 51 396 a1 h fun x1 =>
  if kc h s0 = 5 then
  bd (f_X4_must s0 s1 x1 h) (fun _ h2 =>
  if kc h2 a0 = 53 then
  bd (f_X55_op a0 (28 : Int32) h2) (fun x3 h4 =>
  stR 53 409 a0 x3 h4 fun h5 =>
  ldR 53 409 a0 h5 fun x6 =>
  stI 56 422 x6 (1 : Int32) h5 fun h7 =>
  rok () h7)
  else none)
  else none
noncomputable def f_X55_part (a0 : Nat) (a1 : Nat) (a2 : Int32) (h : HP) : Rs Unit :=
  ldR 51 397 a1 h fun x1 =>
  txEq x1 71 h fun x2 =>
  if x2 = 0 then
  (ldR 51 397 a1 h fun x3 =>
  txEq x3 64 h fun x4 =>
  if x4 = 0 then
  (if kc h a0 = 53 then
  bd (f_X55_op a0 (28 : Int32) h) (fun x5 h6 =>
  stI 56 422 x5 (3 : Int32) h6 fun h7 =>
  ldR 53 408 a0 h7 fun x8 =>
  ldR 54 414 x8 h7 fun x9 =>
  ivOf a2 h7 fun x10 h11 =>
  lsAdd x9 x10 h11 fun h12 =>
  rok () h12)
  else none)
  else
  (ldR 53 403 a0 h fun x13 =>
  if a2 < 0 then
  (f_X55_part_b81  a0 a1 a2 x13 h)
  else
  (if a2 ≤ (7 : Int32) then
  (f_X55_part_b87  a0 a1 a2 x13 h)
  else
  (f_X55_part_b81  a0 a1 a2 x13 h))))
  else
  (ldR 53 403 a0 h fun x14 =>
  if a2 = 0 then
  (f_X55_part_b26  a0 a1 x14 (1 : Int32) h)
  else
  (f_X55_part_b26  a0 a1 x14 (0 : Int32) h))
noncomputable def f_X55_quantified_b121 (a0 : Nat) (a1 : Nat) (a3 : Int32) (h : HP) : Rs Unit :=
  if kc h a0 = 53 then
  bd (f_X55_ended a0 h) (fun x1 h2 =>
  if kc h2 a0 = 53 then
  bd (f_X55_op a0 (27 : Int32) h2) (fun x3 h4 =>
  ldI 51 399 a1 h4 fun x5 =>
  stI 56 422 x3 x5 h4 fun h6 =>
  stI 56 421 x3 a3 h6 fun h7 =>
  ldI 57 426 x1 h7 fun x8 =>
  stI 56 423 x3 (x8 + (1 : Int32)) h7 fun h9 =>
  ldR 57 425 x1 h9 fun x10 =>
  stI 56 421 x10 a3 h9 fun h11 =>
  ldR 57 425 x1 h11 fun x12 =>
  ldR 53 408 a0 h11 fun x13 =>
  ldR 54 410 x13 h11 fun x14 =>
  lsSize x14 h11 fun x15 =>
  stI 56 423 x12 x15 h11 fun h16 =>
  ldR 53 405 a0 h16 fun x17 =>
  ldR 53 405 a0 h16 fun x18 =>
  lsSize x18 h16 fun x19 =>
  lsRem x17 (x19 - (1 : Int32)) h16 fun x20 h21 =>
  if kc h21 a0 = 53 then
  bd (f_X55_give a0 a3 h21) (fun _ h22 =>
  rok () h22)
  else none)
  else none)
  else none
noncomputable def f_X55_quantified_b106 (a0 : Nat) (a1 : Nat) (a2 : Int32) (s0 : Int32) (h : HP) : Rs Unit :=
  ldI 51 399 a1 h fun x1 =>
  if x1 = (4 : Int32) then
  (if kc h a0 = 53 then
  bd (f_X55_widen a0 a2 s0 h) (fun _ h2 =>
  f_X55_quantified_b121  a0 a1 s0 h2)
  else none)
  else
  (f_X55_quantified_b121  a0 a1 s0 h)
noncomputable def f_X55_quantified_b75 (a0 : Nat) (a1 : Nat) (a2 : Int32) (h : HP) : Rs Unit :=
  f_X55_quantified_b106  a0 a1 a2 (7 : Int32) h
noncomputable def f_X55_quantified_b48 (a0 : Nat) (a1 : Nat) (a2 : Int32) (s0 : Nat) (s1 : Int32) (h : HP) : Rs Unit :=
  ldI 51 396 a1 h fun x1 =>
  if kc h s0 = 5 then
  bd (f_X4_must s0 s1 x1 h) (fun _ h2 =>
  ldI 51 399 a1 h2 fun x3 =>
  if x3 = (4 : Int32) then
  (if a2 = (6 : Int32) then
  (f_X55_quantified_b75  a0 a1 a2 h2)
  else
  (if a2 = (7 : Int32) then
  (f_X55_quantified_b75  a0 a1 a2 h2)
  else
  (if a2 = (5 : Int32) then
  (f_X55_quantified_b106  a0 a1 a2 (5 : Int32) h2)
  else
  (f_X55_quantified_b106  a0 a1 a2 (4 : Int32) h2))))
  else
  (ldI 51 399 a1 h2 fun x4 =>
  if x4 = (3 : Int32) then
  (f_X55_quantified_b106  a0 a1 a2 (4 : Int32) h2)
  else
  (f_X55_quantified_b106  a0 a1 a2 (0 : Int32) h2)))
  else none
noncomputable def f_X55_quantified (a0 : Nat) (a1 : Nat) (h : HP) : Rs Unit :=
  if kc h a0 = 53 then
  bd (f_X55_take a0 h) (fun x1 h2 =>
  ldI 51 399 a1 h2 fun x3 =>
  if x3 = (5 : Int32) then
  (if kc h2 a0 = 53 then
  bd (f_X55_part a0 a1 x1 h2) (fun _ h8 =>
  rok () h8)
  else none)
  else
  (ldR 53 403 a0 h2 fun x4 =>
  ldI 51 399 a1 h2 fun x5 =>
  if x5 = (4 : Int32) then
  (bd (f_X55_isNumber x1 h2) (fun x6 h7 =>
  f_X55_quantified_b48  a0 a1 x1 x4 x6 h7))
  else
  (if x1 = 0 then
  (f_X55_quantified_b48  a0 a1 x1 x4 (1 : Int32) h2)
  else
  (f_X55_quantified_b48  a0 a1 x1 x4 (0 : Int32) h2))))
  else none
noncomputable def b_X4_isClassName_l3 (v0 : Nat) (v1 : Nat) (ih : Int32 → HP → Rs (Unit ⊕ Unit)) (a2 : Int32) (h : HP) : Rs (Unit ⊕ Unit) :=
  ldI 5 54 v0 h fun x1 =>
  if ((10 : Int32) + x1) ≤ a2 then
  (rok (Sum.inr ()) h)
  else
  (ldR 5 53 v0 h fun x2 =>
  lsGet x2 a2 h fun x3 =>
  castR [47] x3 h (
  ldR 47 365 x3 h fun x4 =>
  txEq x4 v1 h fun x5 =>
  if x5 = 0 then
  (lt3 (a2 + 1) fun x6 =>
  ih x6 h)
  else
  (rok (Sum.inl ()) h)))
noncomputable def f_X4_isClassName_l3 (v0 : Nat) (v1 : Nat) (n : Nat) : Int32 → HP → Rs (Unit ⊕ Unit) := @Nat.rec (fun _ => Int32 → HP → Rs (Unit ⊕ Unit)) (fun _ _ => none) (fun _ ih => b_X4_isClassName_l3 v0 v1 ih) n
noncomputable def f_X4_isClassName (a0 : Nat) (a1 : Nat) (h : HP) : Rs Int32 :=
  bd (f_X4_isClassName_l3 a0 a1 NN (8 : Int32) h) (Sum.elim (fun x1 => fun h2 => rok (1 : Int32) h2) (fun x3 => fun h4 => rok (0 : Int32) h4))
noncomputable def f_X54_init (a0 : Nat) (a1 : Nat) (a2 : Int32) (h : HP) : Rs Unit :=
  if a0 = 0 then none else (
  stR 52 401 a0 a1 h fun h1 =>
  stI 52 402 a0 a2 h1 fun h2 =>
  rok () h2)
noncomputable def f_X55_source_l110b165 (v0 : Nat) (v1 : Nat) (v2 : Nat) (v3 : Int32) (ih : Int32 → Int32 → HP → Rs Int32) (a5 : Int32) (s0 : Int32) (h : HP) : Rs Int32 :=
  lt3 (a5 + 1) fun x1 =>
  ih s0 x1 h
noncomputable def f_X55_source_l110b164 (v0 : Nat) (v1 : Nat) (v2 : Nat) (v3 : Int32) (ih : Int32 → Int32 → HP → Rs Int32) (a5 : Int32) (h : HP) : Rs Int32 :=
  f_X55_source_l110b165 v0 v1 v2 v3 ih a5 (0 : Int32) h
noncomputable def b_X55_source_l110 (v0 : Nat) (v1 : Nat) (v2 : Nat) (v3 : Int32) (ih : Int32 → Int32 → HP → Rs Int32) (a4 : Int32) (a5 : Int32) (h : HP) : Rs Int32 :=
  ldR 53 405 v0 h fun x1 =>
  lsSize x1 h fun x2 =>
  if x2 ≤ a5 then
  (rok a4 h)
  else
  (ldI 51 399 v1 h fun x3 =>
  if x3 = (5 : Int32) then
  (if a4 = 0 then
  (f_X55_source_l110b164 v0 v1 v2 v3 ih a5 h)
  else
  (ldR 53 405 v0 h fun x4 =>
  lsGet x4 a5 h fun x5 =>
  castR [52] x5 h (
  ldR 52 401 x5 h fun x6 =>
  ldR 51 397 v1 h fun x7 =>
  txEq x6 x7 h fun x8 =>
  if x8 = 0 then
  (f_X55_source_l110b165 v0 v1 v2 v3 ih a5 (1 : Int32) h)
  else
  (f_X55_source_l110b164 v0 v1 v2 v3 ih a5 h))))
  else
  (rok a4 h))
noncomputable def f_X55_source_l110 (v0 : Nat) (v1 : Nat) (v2 : Nat) (v3 : Int32) (n : Nat) : Int32 → Int32 → HP → Rs Int32 := @Nat.rec (fun _ => Int32 → Int32 → HP → Rs Int32) (fun _ _ _ => none) (fun _ ih => b_X55_source_l110 v0 v1 v2 v3 ih) n
noncomputable def f_X55_source_b261 (a0 : Nat) (a5 : Nat) (s0 : Nat) (s1 : Nat) (s2 : Nat) (s3 : Nat) (s4 : Int32) (h : HP) : Rs Unit :=
  if kc h s2 = 52 then
  bd (f_X54_init s2 s3 s4 h) (fun _ h1 =>
  lsAdd s0 s1 h1 fun h2 =>
  ldR 53 408 a0 h2 fun x3 =>
  ldR 53 408 a0 h2 fun x4 =>
  ldI 54 412 x4 h2 fun x5 =>
  ldR 53 405 a0 h2 fun x6 =>
  lsSize x6 h2 fun x7 =>
  stI 54 412 x3 (mxI x5 x7) h2 fun h8 =>
  ldR 53 407 a0 h8 fun x9 =>
  nwO 57 4 h8 fun p10 h11 =>
  if kc h11 a0 = 53 then
  bd (f_X55_here a0 h11) (fun x12 h13 =>
  if kc h13 p10 = 57 then
  bd (f_X59_init p10 a5 x12 (0 : Int32) h13) (fun _ h14 =>
  lsAdd x9 p10 h14 fun h15 =>
  rok () h15)
  else none)
  else none)
  else none
noncomputable def f_X55_source_b173 (a0 : Nat) (a1 : Nat) (a2 : Nat) (a3 : Int32) (a4 : Int32) (h : HP) : Rs Unit :=
  ldR 53 403 a0 h fun x1 =>
  ldI 51 396 a1 h fun x2 =>
  if kc h x1 = 5 then
  bd (f_X4_must x1 a4 x2 h) (fun _ h3 =>
  if kc h3 a0 = 53 then
  bd (f_X55_op a0 (26 : Int32) h3) (fun x4 h5 =>
  ldR 53 405 a0 h5 fun x6 =>
  lsSize x6 h5 fun x7 =>
  stI 56 422 x4 x7 h5 fun h8 =>
  ldI 55 416 a2 h8 fun x9 =>
  stI 56 419 x4 x9 h8 fun h10 =>
  ldI 51 399 a1 h10 fun x11 =>
  stI 56 420 x4 x11 h10 fun h12 =>
  ldR 53 405 a0 h12 fun x13 =>
  nwO 52 2 h12 fun p14 h15 =>
  ldR 51 397 a1 h15 fun x16 =>
  if a3 = 0 then
  (ldI 55 416 a2 h15 fun x17 =>
  f_X55_source_b261  a0 x4 x13 p14 p14 x16 x17 h15)
  else
  (ldR 53 403 a0 h15 fun x18 =>
  ldI 55 415 a2 h15 fun x19 =>
  if kc h15 x18 = 5 then
  bd (f_X4_kindAt x18 x19 h15) (fun x20 h21 =>
  ldI 47 367 x20 h21 fun x22 =>
  f_X55_source_b261  a0 x4 x13 p14 p14 x16 x22 h21)
  else none))
  else none)
  else none
noncomputable def f_X55_source_b105 (a0 : Nat) (a1 : Nat) (a2 : Nat) (a3 : Int32) (s0 : Int32) (h : HP) : Rs Unit :=
  bd (f_X55_source_l110 a0 a1 a2 a3 NN s0 (0 : Int32) h) (fun x1 h2 => f_X55_source_b173  a0 a1 a2 a3 x1 h2)
noncomputable def f_X55_source_b79 (a0 : Nat) (a1 : Nat) (a2 : Nat) (a3 : Int32) (s0 : Nat) (s1 : Int32) (h : HP) : Rs Unit :=
  ldI 51 396 a1 h fun x1 =>
  if kc h s0 = 5 then
  bd (f_X4_must s0 s1 x1 h) (fun _ h2 =>
  ldR 53 403 a0 h2 fun x3 =>
  ldR 51 397 a1 h2 fun x4 =>
  if kc h2 x3 = 5 then
  bd (f_X4_isClassName x3 x4 h2) (fun x5 h6 =>
  if x5 = 0 then
  (f_X55_source_b105  a0 a1 a2 a3 (1 : Int32) h6)
  else
  (f_X55_source_b105  a0 a1 a2 a3 (0 : Int32) h6))
  else none)
  else none
noncomputable def f_X55_source_b74 (a0 : Nat) (a1 : Nat) (a2 : Nat) (a3 : Int32) (s0 : Nat) (h : HP) : Rs Unit :=
  f_X55_source_b79  a0 a1 a2 a3 s0 (1 : Int32) h
noncomputable def f_X55_source_b58 (a0 : Nat) (a1 : Nat) (a2 : Nat) (s0 : Int32) (h : HP) : Rs Unit :=
  ldR 53 403 a0 h fun x1 =>
  ldI 55 416 a2 h fun x2 =>
  if 0 ≤ x2 then
  (f_X55_source_b74  a0 a1 a2 s0 x1 h)
  else
  (if s0 = 0 then
  (f_X55_source_b79  a0 a1 a2 s0 x1 (0 : Int32) h)
  else
  (f_X55_source_b74  a0 a1 a2 s0 x1 h))
noncomputable def f_X55_source_b57 (a0 : Nat) (a1 : Nat) (a2 : Nat) (h : HP) : Rs Unit :=
  f_X55_source_b58  a0 a1 a2 (0 : Int32) h
noncomputable def f_X55_source (a0 : Nat) (a1 : Nat) (h : HP) : Rs Unit :=
  ldR 53 406 a0 h fun x1 =>
  ldR 53 406 a0 h fun x2 =>
  lsSize x2 h fun x3 =>
  lsRem x1 (x3 - (1 : Int32)) h fun x4 h5 =>
  castR [55] x4 h5 (
  ldI 55 416 x4 h5 fun x6 =>
  if 0 ≤ x6 then
  (f_X55_source_b57  a0 a1 x4 h5)
  else
  (ldI 55 415 x4 h5 fun x7 =>
  if x7 < (8 : Int32) then
  (f_X55_source_b57  a0 a1 x4 h5)
  else
  (ldR 53 403 a0 h5 fun x8 =>
  ldI 55 415 x4 h5 fun x9 =>
  if kc h5 x8 = 5 then
  bd (f_X4_kindAt x8 x9 h5) (fun x10 h11 =>
  if kc h11 x10 = 47 then
  bd (f_X49_array x10 h11) (fun x12 h13 =>
  if x12 = 0 then
  (f_X55_source_b57  a0 a1 x4 h13)
  else
  (f_X55_source_b58  a0 a1 x4 (1 : Int32) h13))
  else none)
  else none)))
noncomputable def f_X55_unary_b119 (a0 : Nat) (a3 : Int32) (s0 : Nat) (s1 : Int32) (h : HP) : Rs Unit :=
  if kc h s0 = 53 then
  bd (f_X55_op s0 s1 h) (fun x1 h2 =>
  stI 56 419 x1 a3 h2 fun h3 =>
  if kc h3 a0 = 53 then
  bd (f_X55_give a0 a3 h3) (fun _ h4 =>
  rok () h4)
  else none)
  else none
noncomputable def f_X55_unary_b79 (a0 : Nat) (a1 : Nat) (a2 : Int32) (s0 : Nat) (s1 : Int32) (h : HP) : Rs Unit :=
  ldI 51 396 a1 h fun x1 =>
  if kc h s0 = 5 then
  bd (f_X4_must s0 s1 x1 h) (fun _ h2 =>
  bd (f_X55_wider a2 a2 h2) (fun x3 h4 =>
  if kc h4 a0 = 53 then
  bd (f_X55_widen a0 a2 x3 h4) (fun _ h5 =>
  ldR 51 397 a1 h5 fun x6 =>
  txEq x6 14 h5 fun x7 =>
  if x7 = 0 then
  (f_X55_unary_b119  a0 x3 a0 (14 : Int32) h5)
  else
  (f_X55_unary_b119  a0 x3 a0 (12 : Int32) h5))
  else none))
  else none
noncomputable def f_X55_unary_b31 (a0 : Nat) (a1 : Nat) (s0 : Nat) (s1 : Int32) (h : HP) : Rs Unit :=
  ldI 51 396 a1 h fun x1 =>
  if kc h s0 = 5 then
  bd (f_X4_must s0 s1 x1 h) (fun _ h2 =>
  if kc h2 a0 = 53 then
  bd (f_X55_op a0 (13 : Int32) h2) (fun x3 h4 =>
  if kc h4 a0 = 53 then
  bd (f_X55_give a0 (0 : Int32) h4) (fun _ h5 =>
  rok () h5)
  else none)
  else none)
  else none
noncomputable def f_X55_unary (a0 : Nat) (a1 : Nat) (h : HP) : Rs Unit :=
  if kc h a0 = 53 then
  bd (f_X55_take a0 h) (fun x1 h2 =>
  ldR 51 397 a1 h2 fun x3 =>
  txEq x3 4 h2 fun x4 =>
  if x4 = 0 then
  (ldR 53 403 a0 h2 fun x5 =>
  ldR 51 397 a1 h2 fun x6 =>
  txEq x6 14 h2 fun x7 =>
  if x7 = 0 then
  (bd (f_X55_isWhole x1 h2) (fun x8 h9 =>
  f_X55_unary_b79  a0 a1 x1 x5 x8 h9))
  else
  (bd (f_X55_isNumber x1 h2) (fun x10 h11 =>
  f_X55_unary_b79  a0 a1 x1 x5 x10 h11)))
  else
  (ldR 53 403 a0 h2 fun x12 =>
  if x1 = 0 then
  (f_X55_unary_b31  a0 a1 x12 (1 : Int32) h2)
  else
  (f_X55_unary_b31  a0 a1 x12 (0 : Int32) h2)))
  else none
noncomputable def f_X55_one_b168 (a0 : Nat) (a1 : Nat) (s0 : Nat) (s1 : Int32) (h : HP) : Rs Unit :=
  ldI 51 396 a1 h fun x1 =>
  if kc h s0 = 5 then
  bd (f_X4_must s0 s1 x1 h) (fun _ h2 =>
  if kc h2 a0 = 53 then
  bd (f_X55_op a0 (3 : Int32) h2) (fun x3 h4 =>
  ldR 53 404 a0 h4 fun x5 =>
  ldI 47 362 x5 h4 fun x6 =>
  if kc h4 a0 = 53 then
  bd (f_X55_give a0 x6 h4) (fun _ h7 =>
  rok () h7)
  else none)
  else none)
  else none
noncomputable def f_X55_one_b322 (a0 : Nat) (a1 : Nat) (a4 : Int32) (s0 : Nat) (s1 : Int32) (h : HP) : Rs Unit :=
  ldI 51 396 a1 h fun x1 =>
  if kc h s0 = 5 then
  bd (f_X4_must s0 s1 x1 h) (fun _ h2 =>
  if kc h2 a0 = 53 then
  bd (f_X55_op a0 (18 : Int32) h2) (fun x3 h4 =>
  stI 56 421 x3 a4 h4 fun h5 =>
  if kc h5 a0 = 53 then
  bd (f_X55_give a0 (0 : Int32) h5) (fun _ h6 =>
  rok () h6)
  else none)
  else none)
  else none
noncomputable def f_X55_one_b321 (a0 : Nat) (a1 : Nat) (a4 : Int32) (s0 : Nat) (h : HP) : Rs Unit :=
  f_X55_one_b322  a0 a1 a4 s0 (0 : Int32) h
noncomputable def f_X55_one_b297 (a0 : Nat) (a1 : Nat) (a3 : Int32) (a4 : Int32) (s0 : Nat) (h : HP) : Rs Unit :=
  if a4 < (8 : Int32) then
  (f_X55_one_b321  a0 a1 a4 s0 h)
  else
  (ldR 53 403 a0 h fun x1 =>
  if kc h x1 = 5 then
  bd (f_X4_isCastable x1 a3 a4 h) (fun x2 h3 =>
  if x2 = 0 then
  (f_X55_one_b321  a0 a1 a4 s0 h3)
  else
  (f_X55_one_b322  a0 a1 a4 s0 (1 : Int32) h3))
  else none)
noncomputable def f_X55_one_b271 (a0 : Nat) (a1 : Nat) (a3 : Int32) (a4 : Int32) (s0 : Nat) (s1 : Int32) (h : HP) : Rs Unit :=
  ldR 51 400 a1 h fun x1 =>
  ldI 48 381 x1 h fun x2 =>
  if kc h s0 = 5 then
  bd (f_X4_must s0 s1 x2 h) (fun _ h3 =>
  ldR 53 403 a0 h3 fun x4 =>
  if a3 = (-2 : Int32) then
  (f_X55_one_b297  a0 a1 a3 a4 x4 h3)
  else
  (if a3 < (8 : Int32) then
  (f_X55_one_b321  a0 a1 a4 x4 h3)
  else
  (f_X55_one_b297  a0 a1 a3 a4 x4 h3)))
  else none
noncomputable def f_X55_one_b373 (a0 : Nat) (a5 : Nat) (s0 : Nat) (s1 : Int32) (h : HP) : Rs Unit :=
  stI 56 422 s0 s1 h fun h1 =>
  ldR 53 407 a0 h1 fun x2 =>
  nwO 57 4 h1 fun p3 h4 =>
  if kc h4 a0 = 53 then
  bd (f_X55_here a0 h4) (fun x5 h6 =>
  if kc h6 a0 = 53 then
  bd (f_X55_take a0 h6) (fun x7 h8 =>
  if kc h8 p3 = 57 then
  bd (f_X59_init p3 a5 x5 x7 h8) (fun _ h9 =>
  lsAdd x2 p3 h9 fun h10 =>
  rok () h10)
  else none)
  else none)
  else none
noncomputable def f_X55_one_b432 (a0 : Nat) (a1 : Nat) (a6 : Nat) (s0 : Nat) (s1 : Int32) (h : HP) : Rs Unit :=
  ldI 51 396 a1 h fun x1 =>
  if kc h s0 = 5 then
  bd (f_X4_must s0 s1 x1 h) (fun _ h2 =>
  ldR 57 425 a6 h2 fun x3 =>
  ldR 53 408 a0 h2 fun x4 =>
  ldR 54 410 x4 h2 fun x5 =>
  lsSize x5 h2 fun x6 =>
  stI 56 423 x3 x6 h2 fun h7 =>
  if kc h7 a0 = 53 then
  bd (f_X55_give a0 (0 : Int32) h7) (fun _ h8 =>
  rok () h8)
  else none)
  else none
noncomputable def f_X55_one_b431 (a0 : Nat) (a1 : Nat) (a6 : Nat) (s0 : Nat) (h : HP) : Rs Unit :=
  f_X55_one_b432  a0 a1 a6 s0 (0 : Int32) h
noncomputable def f_X55_one (a0 : Nat) (a1 : Nat) (h : HP) : Rs Unit :=
  ldI 51 395 a1 h fun x1 =>
  if x1 = 1 then
  (if kc h a0 = 53 then
  bd (f_X55_op a0 (1 : Int32) h) (fun x2 h3 =>
  ldJ 51 398 a1 h3 fun x4 =>
  stJ 56 424 x2 x4 h3 fun h5 =>
  ldI 51 399 a1 h5 fun x6 =>
  if kc h5 a0 = 53 then
  bd (f_X55_give a0 x6 h5) (fun _ h7 =>
  rok () h7)
  else none)
  else none)
  else
  if x1 = 2 then
  (if kc h a0 = 53 then
  bd (f_X55_op a0 (2 : Int32) h) (fun x8 h9 =>
  ldR 51 397 a1 h9 fun x10 =>
  stR 56 418 x8 x10 h9 fun h11 =>
  if kc h11 a0 = 53 then
  bd (f_X55_give a0 (9 : Int32) h11) (fun _ h12 =>
  rok () h12)
  else none)
  else none)
  else
  if x1 = 3 then
  (if kc h a0 = 53 then
  bd (f_X55_op a0 (1 : Int32) h) (fun x13 h14 =>
  stJ 56 424 x13 (0 : Int64) h14 fun h15 =>
  if kc h15 a0 = 53 then
  bd (f_X55_give a0 (-2 : Int32) h15) (fun _ h16 =>
  rok () h16)
  else none)
  else none)
  else
  if x1 = 4 then
  (ldR 53 403 a0 h fun x17 =>
  ldR 53 404 a0 h fun x18 =>
  if x18 = 0 then
  (f_X55_one_b168  a0 a1 x17 (0 : Int32) h)
  else
  (f_X55_one_b168  a0 a1 x17 (1 : Int32) h))
  else
  if x1 = 5 then
  (if kc h a0 = 53 then
  bd (f_X55_name a0 a1 h) (fun _ h19 =>
  rok () h19)
  else none)
  else
  if x1 = 6 then
  (if kc h a0 = 53 then
  bd (f_X55_member a0 a1 h) (fun _ h20 =>
  rok () h20)
  else none)
  else
  if x1 = 7 then
  (if kc h a0 = 53 then
  bd (f_X55_call a0 a1 h) (fun _ h21 =>
  rok () h21)
  else none)
  else
  if x1 = 8 then
  (if kc h a0 = 53 then
  bd (f_X55_index a0 a1 h) (fun _ h22 =>
  rok () h22)
  else none)
  else
  if x1 = 9 then
  (if kc h a0 = 53 then
  bd (f_X55_unary a0 a1 h) (fun _ h23 =>
  rok () h23)
  else none)
  else
  if x1 = 10 then
  (if kc h a0 = 53 then
  bd (f_X55_cast a0 a1 h) (fun _ h24 =>
  rok () h24)
  else none)
  else
  if x1 = 11 then
  (if kc h a0 = 53 then
  bd (f_X55_binary a0 a1 h) (fun _ h25 =>
  rok () h25)
  else none)
  else
  if x1 = 12 then
  (if kc h a0 = 53 then
  bd (f_X55_take a0 h) (fun x26 h27 =>
  ldR 53 403 a0 h27 fun x28 =>
  ldR 5 53 x28 h27 fun x29 =>
  ldR 51 400 a1 h27 fun x30 =>
  bd (f_X4_kindOfType x29 x30 (0 : Int32) h27) (fun x31 h32 =>
  ldR 53 403 a0 h32 fun x33 =>
  if x31 < 0 then
  (f_X55_one_b271  a0 a1 x26 x31 x33 (0 : Int32) h32)
  else
  (f_X55_one_b271  a0 a1 x26 x31 x33 (1 : Int32) h32)))
  else none)
  else
  if x1 = 13 then
  (if kc h a0 = 53 then
  bd (f_X55_op a0 (23 : Int32) h) (fun x34 h35 =>
  ldR 51 397 a1 h35 fun x36 =>
  txEq x36 8 h35 fun x37 =>
  if x37 = 0 then
  (f_X55_one_b373  a0 x34 x34 (1 : Int32) h35)
  else
  (f_X55_one_b373  a0 x34 x34 (0 : Int32) h35))
  else none)
  else
  if x1 = 14 then
  (if kc h a0 = 53 then
  bd (f_X55_ended a0 h) (fun x38 h39 =>
  ldR 53 403 a0 h39 fun x40 =>
  if kc h39 a0 = 53 then
  bd (f_X55_take a0 h39) (fun x41 h42 =>
  if x41 = 0 then
  (ldI 57 428 x38 h42 fun x43 =>
  if x43 = 0 then
  (f_X55_one_b432  a0 a1 x38 x40 (1 : Int32) h42)
  else
  (f_X55_one_b431  a0 a1 x38 x40 h42))
  else
  (f_X55_one_b431  a0 a1 x38 x40 h42))
  else none)
  else none)
  else
  if x1 = 15 then
  (if kc h a0 = 53 then
  bd (f_X55_op a0 (24 : Int32) h) (fun x44 h45 =>
  ldR 53 407 a0 h45 fun x46 =>
  nwO 57 4 h45 fun p47 h48 =>
  if kc h48 a0 = 53 then
  bd (f_X55_here a0 h48) (fun x49 h50 =>
  if kc h50 a0 = 53 then
  bd (f_X55_take a0 h50) (fun x51 h52 =>
  if kc h52 p47 = 57 then
  bd (f_X59_init p47 x44 x49 x51 h52) (fun _ h53 =>
  lsAdd x46 p47 h53 fun h54 =>
  rok () h54)
  else none)
  else none)
  else none)
  else none)
  else
  if x1 = 16 then
  (if kc h a0 = 53 then
  bd (f_X55_middle a0 h) (fun _ h55 =>
  rok () h55)
  else none)
  else
  if x1 = 17 then
  (if kc h a0 = 53 then
  bd (f_X55_choice a0 a1 h) (fun _ h56 =>
  rok () h56)
  else none)
  else
  if x1 = 18 then
  (if kc h a0 = 53 then
  bd (f_X55_source a0 a1 h) (fun _ h57 =>
  rok () h57)
  else none)
  else
  if x1 = 19 then
  (if kc h a0 = 53 then
  bd (f_X55_quantified a0 a1 h) (fun _ h58 =>
  rok () h58)
  else none)
  else
  (rok () h)
noncomputable def f_X55_all_l2b204 (v0 : Nat) (v1 : Nat) (ih : Int32 → HP → Rs Unit) (a2 : Int32) (h : HP) : Rs Unit :=
  lt3 (a2 + 1) fun x1 =>
  ih x1 h
noncomputable def f_X55_all_l2b199 (v0 : Nat) (v1 : Nat) (ih : Int32 → HP → Rs Unit) (a2 : Int32) (a3 : Nat) (h : HP) : Rs Unit :=
  if kc h v0 = 53 then
  bd (f_X55_one v0 a3 h) (fun _ h1 =>
  f_X55_all_l2b204 v0 v1 ih a2 h1)
  else none
noncomputable def f_X55_all_l2b155 (v0 : Nat) (v1 : Nat) (ih : Int32 → HP → Rs Unit) (a2 : Int32) (a3 : Nat) (a4 : Nat) (a5 : Int32) (h : HP) : Rs Unit :=
  if a5 < (10 : Int32) then
  (f_X55_all_l2b199 v0 v1 ih a2 a3 h)
  else
  (ldR 53 403 v0 h fun x1 =>
  if kc h x1 = 5 then
  bd (f_X4_kindAt x1 a5 h) (fun x2 h3 =>
  ldI 47 363 x2 h3 fun x4 =>
  if x4 = (3 : Int32) then
  (ldR 53 403 v0 h3 fun x5 =>
  if kc h3 x5 = 5 then
  bd (f_X4_kindAt x5 a5 h3) (fun x6 h7 =>
  if kc h7 v0 = 53 then
  bd (f_X55_constant v0 x6 a4 h7) (fun _ h8 =>
  lt3 (a2 + 1) fun x9 =>
  f_X55_all_l2b204 v0 v1 ih x9 h8)
  else none)
  else none)
  else
  (f_X55_all_l2b199 v0 v1 ih a2 a3 h3))
  else none)
noncomputable def f_X55_all_l2b100 (v0 : Nat) (v1 : Nat) (ih : Int32 → HP → Rs Unit) (a2 : Int32) (a3 : Nat) (a4 : Nat) (h : HP) : Rs Unit :=
  ldR 53 403 v0 h fun x1 =>
  ldR 5 53 x1 h fun x2 =>
  ldR 51 397 a3 h fun x3 =>
  bd (f_X4_kindNamed x2 x3 h) (fun x4 h5 =>
  if x4 < (10 : Int32) then
  (f_X55_all_l2b155 v0 v1 ih a2 a3 a4 x4 h5)
  else
  (ldI 51 395 a4 h5 fun x6 =>
  if x6 = (18 : Int32) then
  (ldR 53 406 v0 h5 fun x7 =>
  nwO 55 2 h5 fun p8 h9 =>
  if kc h9 p8 = 55 then
  bd (f_X57_init p8 x4 x4 h9) (fun _ h10 =>
  lsAdd x7 p8 h10 fun h11 =>
  f_X55_all_l2b204 v0 v1 ih a2 h11)
  else none)
  else
  (f_X55_all_l2b155 v0 v1 ih a2 a3 a4 x4 h5)))
noncomputable def f_X55_all_l2b43 (v0 : Nat) (v1 : Nat) (ih : Int32 → HP → Rs Unit) (a2 : Int32) (a3 : Nat) (s0 : Nat) (h : HP) : Rs Unit :=
  ldI 51 395 a3 h fun x1 =>
  if x1 = (5 : Int32) then
  (ldR 51 397 a3 h fun x2 =>
  if kc h v0 = 53 then
  bd (f_X55_slot v0 x2 h) (fun x3 h4 =>
  if 0 ≤ x3 then
  (f_X55_all_l2b199 v0 v1 ih a2 a3 h4)
  else
  (ldR 51 397 a3 h4 fun x5 =>
  if kc h4 v0 = 53 then
  bd (f_X55_field v0 x5 h4) (fun x6 h7 =>
  if 0 ≤ x6 then
  (f_X55_all_l2b199 v0 v1 ih a2 a3 h7)
  else
  (if s0 = 0 then
  (f_X55_all_l2b199 v0 v1 ih a2 a3 h7)
  else
  (ldI 51 395 s0 h7 fun x8 =>
  if x8 = (6 : Int32) then
  (f_X55_all_l2b100 v0 v1 ih a2 a3 s0 h7)
  else
  (ldI 51 395 s0 h7 fun x9 =>
  if x9 = (18 : Int32) then
  (f_X55_all_l2b100 v0 v1 ih a2 a3 s0 h7)
  else
  (f_X55_all_l2b199 v0 v1 ih a2 a3 h7)))))
  else none))
  else none)
  else
  (f_X55_all_l2b199 v0 v1 ih a2 a3 h)
noncomputable def b_X55_all_l2 (v0 : Nat) (v1 : Nat) (ih : Int32 → HP → Rs Unit) (a2 : Int32) (h : HP) : Rs Unit :=
  lsSize v1 h fun x1 =>
  if x1 ≤ a2 then
  (rok () h)
  else
  (lsGet v1 a2 h fun x2 =>
  castR [51] x2 h (
  lsSize v1 h fun x3 =>
  if x3 ≤ (a2 + (1 : Int32)) then
  (f_X55_all_l2b43 v0 v1 ih a2 x2 0 h)
  else
  (lsGet v1 (a2 + (1 : Int32)) h fun x4 =>
  castR [51] x4 h (
  f_X55_all_l2b43 v0 v1 ih a2 x2 x4 h))))
noncomputable def f_X55_all_l2 (v0 : Nat) (v1 : Nat) (n : Nat) : Int32 → HP → Rs Unit := @Nat.rec (fun _ => Int32 → HP → Rs Unit) (fun _ _ => none) (fun _ ih => b_X55_all_l2 v0 v1 ih) n
noncomputable def f_X55_all (a0 : Nat) (a1 : Nat) (h : HP) : Rs Unit :=
  bd (f_X55_all_l2 a0 a1 NN (0 : Int32) h) (fun x1 h2 => rok () h2)
noncomputable def f_X56_init (a0 : Nat) (h : HP) : Rs Unit :=
  if a0 = 0 then none else (
  nwC 150 3 h fun p1 h2 =>
  lsInit p1 h2 fun h3 =>
  stR 54 410 a0 p1 h3 fun h4 =>
  stI 54 413 a0 (-2 : Int32) h4 fun h5 =>
  nwC 149 3 h5 fun p6 h7 =>
  lsInit p6 h7 fun h8 =>
  stR 54 414 a0 p6 h8 fun h9 =>
  rok () h9)
noncomputable def f_X55_init (a0 : Nat) (a1 : Nat) (a2 : Nat) (a3 : Nat) (h : HP) : Rs Unit :=
  if a0 = 0 then none else (
  nwC 152 3 h fun p1 h2 =>
  lsInit p1 h2 fun h3 =>
  stR 53 406 a0 p1 h3 fun h4 =>
  nwC 151 3 h4 fun p5 h6 =>
  lsInit p5 h6 fun h7 =>
  stR 53 407 a0 p5 h7 fun h8 =>
  nwO 54 5 h8 fun p9 h10 =>
  if kc h10 p9 = 54 then
  bd (f_X56_init p9 h10) (fun _ h11 =>
  stR 53 408 a0 p9 h11 fun h12 =>
  stR 53 403 a0 a1 h12 fun h13 =>
  stR 53 404 a0 a2 h13 fun h14 =>
  stR 53 405 a0 a3 h14 fun h15 =>
  ldR 53 408 a0 h15 fun x16 =>
  lsSize a3 h15 fun x17 =>
  stI 54 412 x16 x17 h15 fun h18 =>
  rok () h18)
  else none)
noncomputable def b_X55_rows_l36 (v0 : Nat) (ih : HP → Rs Unit) (h : HP) : Rs Unit :=
  ldR 53 407 v0 h fun x1 =>
  lsSize x1 h fun x2 =>
  if x2 ≤ 0 then
  (rok () h)
  else
  (if kc h v0 = 53 then
  bd (f_X55_ended v0 h) (fun x3 h4 =>
  if kc h4 v0 = 53 then
  bd (f_X55_op v0 (27 : Int32) h4) (fun x5 h6 =>
  stI 56 422 x5 (5 : Int32) h6 fun h7 =>
  ldI 57 426 x3 h7 fun x8 =>
  stI 56 423 x5 (x8 + (1 : Int32)) h7 fun h9 =>
  ldR 57 425 x3 h9 fun x10 =>
  ldR 53 408 v0 h9 fun x11 =>
  ldR 54 410 x11 h9 fun x12 =>
  lsSize x12 h9 fun x13 =>
  stI 56 423 x10 x13 h9 fun h14 =>
  ih  h14)
  else none)
  else none)
noncomputable def f_X55_rows_l36 (v0 : Nat) (n : Nat) : HP → Rs Unit := @Nat.rec (fun _ => HP → Rs Unit) (fun _ => none) (fun _ ih => b_X55_rows_l36 v0 ih) n
noncomputable def f_X55_rows (a0 : Nat) (h : HP) : Rs Unit :=
  if kc h a0 = 53 then
  bd (f_X55_op a0 (28 : Int32) h) (fun x1 h2 =>
  stI 56 422 x1 (4 : Int32) h2 fun h3 =>
  ldR 53 409 a0 h3 fun x4 =>
  if x4 = 0 then
  (bd (f_X55_rows_l36 a0 NN h3) (fun x5 h6 => rok () h6))
  else
  (ldR 53 409 a0 h3 fun x7 =>
  ldR 53 408 a0 h3 fun x8 =>
  ldR 54 410 x8 h3 fun x9 =>
  lsSize x9 h3 fun x10 =>
  stI 56 423 x7 x10 h3 fun h11 =>
  bd (f_X55_rows_l36 a0 NN h11) (fun x12 h13 => rok () h13)))
  else none
noncomputable def b_X4_meant_l134 (v0 : Nat) (v1 : Nat) (v2 : Nat) (v4 : Int32) (v7 : Nat) (ih : Int32 → HP → Rs Unit) (a8 : Int32) (h : HP) : Rs Unit :=
  if v4 < a8 then
  (rok () h)
  else
  (ldR 65 461 v1 h fun x1 =>
  lsGet x1 a8 h fun x2 =>
  castR [51] x2 h (
  lsAdd v7 x2 h fun h3 =>
  lt3 (a8 + 1) fun x4 =>
  ih x4 h3))
noncomputable def f_X4_meant_l134 (v0 : Nat) (v1 : Nat) (v2 : Nat) (v4 : Int32) (v7 : Nat) (n : Nat) : Int32 → HP → Rs Unit := @Nat.rec (fun _ => Int32 → HP → Rs Unit) (fun _ _ => none) (fun _ ih => b_X4_meant_l134 v0 v1 v2 v4 v7 ih) n
noncomputable def f_X4_meant_l22b176 (v0 : Nat) (v1 : Nat) (v2 : Nat) (ih : Int32 → Int32 → HP → Rs Unit) (a3 : Int32) (a4 : Int32) (h : HP) : Rs Unit :=
  lt3 (a4 + 1) fun x1 =>
  ih a3 x1 h
noncomputable def f_X4_meant_l22b113 (v0 : Nat) (v1 : Nat) (v2 : Nat) (ih : Int32 → Int32 → HP → Rs Unit) (a3 : Int32) (a4 : Int32) (a5 : Nat) (s0 : Nat) (s1 : Int32) (h : HP) : Rs Unit :=
  ldJ 51 398 a5 h fun x1 =>
  if kc h s0 = 5 then
  bd (f_X4_must s0 s1 (Int64.toInt32 x1) h) (fun _ h2 =>
  nwC 153 3 h2 fun p3 h4 =>
  lsInit p3 h4 fun h5 =>
  bd (f_X4_meant_l134 v0 v1 v2 a4 p3 NN a3 h5) (fun x6 h7 => if kc h7 v2 = 53 then
  bd (f_X55_all v2 p3 h7) (fun _ h8 =>
  lt3 (a4 + (1 : Int32)) fun x9 =>
  f_X4_meant_l22b176 v0 v1 v2 ih x9 a4 h8)
  else none))
  else none
noncomputable def f_X4_meant_l22b82 (v0 : Nat) (v1 : Nat) (v2 : Nat) (ih : Int32 → Int32 → HP → Rs Unit) (a3 : Int32) (a4 : Int32) (a5 : Nat) (s0 : Int32) (h : HP) : Rs Unit :=
  if s0 = 0 then
  (f_X4_meant_l22b176 v0 v1 v2 ih a3 a4 h)
  else
  (ldR 65 461 v1 h fun x1 =>
  bd (f_X4_heightOf x1 a3 a4 h) (fun x2 h3 =>
  if (30 : Int32) < x2 then
  (f_X4_meant_l22b113 v0 v1 v2 ih a3 a4 a5 v0 (0 : Int32) h3)
  else
  (f_X4_meant_l22b113 v0 v1 v2 ih a3 a4 a5 v0 (1 : Int32) h3)))
noncomputable def f_X4_meant_l22b81 (v0 : Nat) (v1 : Nat) (v2 : Nat) (ih : Int32 → Int32 → HP → Rs Unit) (a3 : Int32) (a4 : Int32) (a5 : Nat) (h : HP) : Rs Unit :=
  f_X4_meant_l22b82 v0 v1 v2 ih a3 a4 a5 (0 : Int32) h
noncomputable def f_X4_meant_l22b68 (v0 : Nat) (v1 : Nat) (v2 : Nat) (ih : Int32 → Int32 → HP → Rs Unit) (a3 : Int32) (a4 : Int32) (a5 : Nat) (h : HP) : Rs Unit :=
  ldI 51 399 a5 h fun x1 =>
  if x1 = (5 : Int32) then
  (f_X4_meant_l22b82 v0 v1 v2 ih a3 a4 a5 (1 : Int32) h)
  else
  (f_X4_meant_l22b81 v0 v1 v2 ih a3 a4 a5 h)
noncomputable def b_X4_meant_l22 (v0 : Nat) (v1 : Nat) (v2 : Nat) (ih : Int32 → Int32 → HP → Rs Unit) (a3 : Int32) (a4 : Int32) (h : HP) : Rs Unit :=
  ldR 65 461 v1 h fun x1 =>
  lsSize x1 h fun x2 =>
  if x2 ≤ a4 then
  (rok () h)
  else
  (ldR 65 461 v1 h fun x3 =>
  lsGet x3 a4 h fun x4 =>
  castR [51] x4 h (
  ldI 51 395 x4 h fun x5 =>
  if x5 = (18 : Int32) then
  (f_X4_meant_l22b68 v0 v1 v2 ih a3 a4 x4 h)
  else
  (ldI 51 395 x4 h fun x6 =>
  if x6 = (19 : Int32) then
  (f_X4_meant_l22b68 v0 v1 v2 ih a3 a4 x4 h)
  else
  (f_X4_meant_l22b81 v0 v1 v2 ih a3 a4 x4 h))))
noncomputable def f_X4_meant_l22 (v0 : Nat) (v1 : Nat) (v2 : Nat) (n : Nat) : Int32 → Int32 → HP → Rs Unit := @Nat.rec (fun _ => Int32 → Int32 → HP → Rs Unit) (fun _ _ _ => none) (fun _ ih => b_X4_meant_l22 v0 v1 v2 ih) n
noncomputable def f_X4_meant (a0 : Nat) (a1 : Nat) (h : HP) : Rs Nat :=
  nwO 53 7 h fun p1 h2 =>
  nwC 154 3 h2 fun p3 h4 =>
  lsInit p3 h4 fun h5 =>
  if kc h5 p1 = 53 then
  bd (f_X55_init p1 a0 0 p3 h5) (fun _ h6 =>
  bd (f_X4_meant_l22 a0 a1 p1 NN (0 : Int32) (0 : Int32) h6) (fun x7 h8 => if kc h8 p1 = 53 then
  bd (f_X55_rows p1 h8) (fun _ h9 =>
  ldR 53 408 p1 h9 fun x10 =>
  rok x10 h9)
  else none))
  else none
noncomputable def f_X4_compareOrders_b215 (a8 : Int64) (s0 : Int64) (h : HP) : Rs Int32 :=
  if 0 ≤ (lg_cmp a8 (0 : Int64)) then
  (rok (lg_cmp s0 a8) h)
  else
  (lt3 (a8 ^^^ (9223372036854775807 : Int64)) fun x1 =>
  rok (lg_cmp s0 x1) h)
noncomputable def f_X4_compareOrders_b197 (a6 : Int64) (a8 : Int64) (h : HP) : Rs Int32 :=
  if 0 ≤ (lg_cmp a6 (0 : Int64)) then
  (f_X4_compareOrders_b215  a8 a6 h)
  else
  (f_X4_compareOrders_b215  a8 (a6 ^^^ (9223372036854775807 : Int64)) h)
noncomputable def f_X4_compareOrders_b183 (a5 : Int32) (a6 : Int64) (a8 : Int64) (h : HP) : Rs Int32 :=
  if a5 = (6 : Int32) then
  (f_X4_compareOrders_b197  a6 a8 h)
  else
  (if a5 = (7 : Int32) then
  (f_X4_compareOrders_b197  a6 a8 h)
  else
  (rok (lg_cmp a6 a8) h))
noncomputable def f_X4_compareOrders_b36 (a1 : Int64) (h : HP) : Rs Int32 :=
  if (lg_cmp a1 (0 : Int64)) = 0 then
  (rok (-1 : Int32) h)
  else
  (rok (1 : Int32) h)
noncomputable def b_X4_compareOrders_l71 (v6 : Nat) (v7 : Nat) (ih : Int32 → HP → Rs (Int32 ⊕ Unit)) (a8 : Int32) (h : HP) : Rs (Int32 ⊕ Unit) :=
  txLen v6 h fun x1 =>
  if x1 ≤ a8 then
  (rok (Sum.inr ()) h)
  else
  (txLen v7 h fun x2 =>
  if x2 ≤ a8 then
  (rok (Sum.inr ()) h)
  else
  (txAt v6 a8 h fun x3 =>
  txAt v7 a8 h fun x4 =>
  if x3 = x4 then
  (lt3 (a8 + 1) fun x5 =>
  ih x5 h)
  else
  (rok (Sum.inl a8) h)))
noncomputable def f_X4_compareOrders_l71 (v6 : Nat) (v7 : Nat) (n : Nat) : Int32 → HP → Rs (Int32 ⊕ Unit) := @Nat.rec (fun _ => Int32 → HP → Rs (Int32 ⊕ Unit)) (fun _ _ => none) (fun _ ih => b_X4_compareOrders_l71 v6 v7 ih) n
noncomputable def f_X4_compareOrders_b137 (a6 : Nat) (a7 : Nat) (h : HP) : Rs Int32 :=
  txLen a6 h fun x1 =>
  txLen a7 h fun x2 =>
  if x2 ≤ x1 then
  (rok (1 : Int32) h)
  else
  (rok (-1 : Int32) h)
noncomputable def f_X4_compareOrders (a0 : Nat) (a1 : Int64) (a3 : Int64) (h : HP) : Rs Int32 :=
  ldR 5 91 a0 h fun x1 =>
  ldI 54 413 x1 h fun x2 =>
  if x2 = (9 : Int32) then
  (if (lg_cmp a1 a3) = 0 then
  (rok (0 : Int32) h)
  else
  (if (lg_cmp a1 (0 : Int64)) = 0 then
  (f_X4_compareOrders_b36  a1 h)
  else
  (if (lg_cmp a3 (0 : Int64)) = 0 then
  (f_X4_compareOrders_b36  a1 h)
  else
  (if kc h a0 = 5 then
  bd (f_X4_thingAt a0 a1 h) (fun x7 h8 =>
  ldR 58 431 x7 h8 fun x9 =>
  if kc h8 a0 = 5 then
  bd (f_X4_thingAt a0 a3 h8) (fun x10 h11 =>
  ldR 58 431 x10 h11 fun x12 =>
  bd (f_X4_compareOrders_l71 x9 x12 NN (0 : Int32) h11) (Sum.elim (fun x13 => fun h14 => txAt x9 x13 h14 fun x15 =>
  txAt x12 x13 h14 fun x16 =>
  if x16 ≤ x15 then
  (rok (1 : Int32) h14)
  else
  (rok (-1 : Int32) h14)) (fun x17 => fun h18 => f_X4_compareOrders_b137  x9 x12 h18)))
  else none)
  else none))))
  else
  (if x2 = (6 : Int32) then
  (bd (f_X46_wide (Int64.toInt32 a1) h) (fun x3 h4 =>
  bd (f_X46_wide (Int64.toInt32 a3) h4) (fun x5 h6 =>
  f_X4_compareOrders_b183  x2 x3 x5 h6)))
  else
  (f_X4_compareOrders_b183  x2 a1 a3 h))
noncomputable def f_X4_order_l12b74 (v0 : Nat) (v1 : Int32) (ih : Int32 → HP → Rs (Int32 ⊕ Int32 ⊕ Int32)) (a2 : Int32) (h : HP) : Rs (Int32 ⊕ Int32 ⊕ Int32) :=
  ldR 5 96 v0 h fun x1 =>
  ldR 5 96 v0 h fun x2 =>
  aldI 0 x2 (a2 - (1 : Int32)) h fun x3 =>
  astI 0 x1 a2 x3 h fun h4 =>
  lt3 (a2 + (-1)) fun x5 =>
  ih x5 h4
noncomputable def b_X4_order_l12 (v0 : Nat) (v1 : Int32) (ih : Int32 → HP → Rs (Int32 ⊕ Int32 ⊕ Int32)) (a2 : Int32) (h : HP) : Rs (Int32 ⊕ Int32 ⊕ Int32) :=
  ldR 5 90 v0 h fun x1 =>
  ldI 65 464 x1 h fun x2 =>
  if x2 = 0 then
  (rok (Sum.inr (Sum.inr a2)) h)
  else
  (if a2 ≤ 0 then
  (rok (Sum.inr (Sum.inr a2)) h)
  else
  (ldR 5 93 v0 h fun x3 =>
  aldJ 3 x3 v1 h fun x4 =>
  ldR 5 93 v0 h fun x5 =>
  ldR 5 96 v0 h fun x6 =>
  aldI 0 x6 (a2 - (1 : Int32)) h fun x7 =>
  aldJ 3 x5 x7 h fun x8 =>
  if kc h v0 = 5 then
  bd (f_X4_compareOrders v0 x4 x8 h) (fun x9 h10 =>
  ldR 5 90 v0 h10 fun x11 =>
  ldI 65 465 x11 h10 fun x12 =>
  if x12 = 0 then
  (if x9 < 0 then
  (f_X4_order_l12b74 v0 v1 ih a2 h10)
  else
  (rok (Sum.inr (Sum.inl a2)) h10))
  else
  (if 0 < x9 then
  (f_X4_order_l12b74 v0 v1 ih a2 h10)
  else
  (rok (Sum.inl a2) h10)))
  else none))
noncomputable def f_X4_order_l12 (v0 : Nat) (v1 : Int32) (n : Nat) : Int32 → HP → Rs (Int32 ⊕ Int32 ⊕ Int32) := @Nat.rec (fun _ => Int32 → HP → Rs (Int32 ⊕ Int32 ⊕ Int32)) (fun _ _ => none) (fun _ ih => b_X4_order_l12 v0 v1 ih) n
noncomputable def f_X4_order_l2b94 (v0 : Nat) (ih : Int32 → HP → Rs Unit) (a1 : Int32) (a2 : Int32) (h : HP) : Rs Unit :=
  ldR 5 96 v0 h fun x1 =>
  astI 0 x1 a2 a1 h fun h2 =>
  lt3 (a1 + 1) fun x3 =>
  ih x3 h2
noncomputable def b_X4_order_l2 (v0 : Nat) (ih : Int32 → HP → Rs Unit) (a1 : Int32) (h : HP) : Rs Unit :=
  ldI 5 97 v0 h fun x1 =>
  if x1 ≤ a1 then
  (rok () h)
  else
  (bd (f_X4_order_l12 v0 a1 NN a1 h) (Sum.elim (fun x2 => fun h3 => f_X4_order_l2b94 v0 ih a1 x2 h3) (Sum.elim (fun x4 => fun h5 => f_X4_order_l2b94 v0 ih a1 x4 h5) (fun x6 => fun h7 => f_X4_order_l2b94 v0 ih a1 x6 h7))))
noncomputable def f_X4_order_l2 (v0 : Nat) (n : Nat) : Int32 → HP → Rs Unit := @Nat.rec (fun _ => Int32 → HP → Rs Unit) (fun _ _ => none) (fun _ ih => b_X4_order_l2 v0 ih) n
noncomputable def f_X4_order (a0 : Nat) (h : HP) : Rs Unit :=
  bd (f_X4_order_l2 a0 NN (0 : Int32) h) (fun x1 h2 => rok () h2)
noncomputable def f_X4_wanted (a0 : Nat) (a1 : Int64) (h : HP) : Rs Nat :=
  if (lg_cmp a1 (0 : Int64)) = 0 then
  (if kc h a0 = 5 then
  bd (f_X4_fails a0 (3 : Int32) h) (fun x3 h4 =>
  if kc h4 x3 = 69 then rex h4 else none)
  else none)
  else
  (if kc h a0 = 5 then
  bd (f_X4_thingAt a0 a1 h) (fun x1 h2 =>
  rok x1 h2)
  else none)
noncomputable def f_X66_init (a0 : Nat) (h : HP) : Rs Unit :=
  if a0 = 0 then none else (
  rok () h)
noncomputable def f_X4_begins_b125 (a0 : Nat) (a1 : Nat) (a2 : Nat) (a4 : Nat) (s0 : Nat) (s1 : Int32) (h : HP) : Rs Unit :=
  stI 64 459 s0 s1 h fun h1 =>
  stJ 64 460 a4 (0 : Int64) h1 fun h2 =>
  ldI 56 420 a2 h2 fun x3 =>
  if x3 = (2 : Int32) then
  (stJ 64 460 a4 (1 : Int64) h2 fun h5 =>
  if kc h5 a0 = 5 then
  bd (f_X4_advance a0 a1 a4 h5) (fun _ h6 =>
  rok () h6)
  else none)
  else
  (if kc h2 a0 = 5 then
  bd (f_X4_advance a0 a1 a4 h2) (fun _ h4 =>
  rok () h4)
  else none)
noncomputable def f_X4_begins_b81 (a0 : Nat) (a1 : Nat) (a2 : Nat) (a3 : Nat) (h : HP) : Rs Unit :=
  ldR 5 80 a0 h fun x1 =>
  ldI 5 83 a0 h fun x2 =>
  aldR 12 x1 x2 h fun x3 =>
  ldI 5 83 a0 h fun x4 =>
  stI 5 83 a0 (x4 + (1 : Int32)) h fun h5 =>
  stR 64 457 x3 a2 h5 fun h6 =>
  stR 64 458 x3 a3 h6 fun h7 =>
  if a3 = 0 then
  (f_X4_begins_b125  a0 a1 a2 x3 x3 (0 : Int32) h7)
  else
  (f_X4_begins_b125  a0 a1 a2 x3 x3 (-1 : Int32) h7)
noncomputable def f_X4_begins_b53 (a0 : Nat) (a1 : Nat) (a2 : Nat) (a3 : Nat) (h : HP) : Rs Unit :=
  ldR 5 80 a0 h fun x1 =>
  ldI 5 83 a0 h fun x2 =>
  aldR 12 x1 x2 h fun x3 =>
  if x3 = 0 then
  (ldR 5 80 a0 h fun x4 =>
  ldI 5 83 a0 h fun x5 =>
  nwO 64 4 h fun p6 h7 =>
  if kc h7 p6 = 64 then
  bd (f_X66_init p6 h7) (fun _ h8 =>
  astO 12 64 x4 x5 p6 h8 fun h9 =>
  f_X4_begins_b81  a0 a1 a2 a3 h9)
  else none)
  else
  (f_X4_begins_b81  a0 a1 a2 a3 h)
noncomputable def f_X4_begins_b12 (a0 : Nat) (a1 : Nat) (a2 : Nat) (h : HP) : Rs Unit :=
  ldI 56 419 a2 h fun x1 =>
  if 0 ≤ x1 then
  (ldR 5 68 a0 h fun x2 =>
  if x2 = 0 then
  (f_X4_begins_b53  a0 a1 a2 0 h)
  else
  (ldR 5 68 a0 h fun x3 =>
  ldR 9 144 x3 h fun x4 =>
  ldI 56 419 a2 h fun x5 =>
  astI 2 x4 x5 (vp_nar .boolean (1 : Int32)) h fun h6 =>
  f_X4_begins_b53  a0 a1 a2 0 h6))
  else
  (if kc h a0 = 5 then
  bd (f_X4_pop a0 h) (fun x7 h8 =>
  if kc h8 a0 = 5 then
  bd (f_X4_wanted a0 x7 h8) (fun x9 h10 =>
  f_X4_begins_b53  a0 a1 a2 x9 h10)
  else none)
  else none)
noncomputable def f_X4_begins (a0 : Nat) (a1 : Nat) (a2 : Nat) (h : HP) : Rs Unit :=
  ldI 56 420 a2 h fun x1 =>
  if x1 = (5 : Int32) then
  (f_X4_begins_b12  a0 a1 a2 h)
  else
  (if kc h a0 = 5 then
  bd (f_X4_step a0 h) (fun _ h2 =>
  f_X4_begins_b12  a0 a1 a2 h2)
  else none)
noncomputable def b_X4_bodied_l2 (v0 : Nat) (v1 : Nat) (v2 : Nat) (ih : Nat → HP → Rs (Nat ⊕ Unit)) (a3 : Nat) (h : HP) : Rs (Nat ⊕ Unit) :=
  if a3 = 0 then
  (rok (Sum.inr ()) h)
  else
  (bd (f_X4_own a3 v2 h) (fun x1 h2 =>
  if x1 = 0 then
  (ldR 47 375 a3 h2 fun x3 =>
  ih x3 h2)
  else
  (rok (Sum.inl x1) h2)))
noncomputable def f_X4_bodied_l2 (v0 : Nat) (v1 : Nat) (v2 : Nat) (n : Nat) : Nat → HP → Rs (Nat ⊕ Unit) := @Nat.rec (fun _ => Nat → HP → Rs (Nat ⊕ Unit)) (fun _ _ => none) (fun _ ih => b_X4_bodied_l2 v0 v1 v2 ih) n
noncomputable def f_X4_bodied_l107b186 (v0 : Nat) (v2 : Nat) (v3 : Nat) (v4 : Nat) (v5 : Int32) (v6 : Nat) (ih : Int32 → Int32 → HP → Rs Int32) (a8 : Int32) (s0 : Int32) (h : HP) : Rs Int32 :=
  lt3 (a8 + 1) fun x1 =>
  ih s0 x1 h
noncomputable def f_X4_bodied_l107b185 (v0 : Nat) (v2 : Nat) (v3 : Nat) (v4 : Nat) (v5 : Int32) (v6 : Nat) (ih : Int32 → Int32 → HP → Rs Int32) (a8 : Int32) (h : HP) : Rs Int32 :=
  f_X4_bodied_l107b186 v0 v2 v3 v4 v5 v6 ih a8 (0 : Int32) h
noncomputable def b_X4_bodied_l107 (v0 : Nat) (v2 : Nat) (v3 : Nat) (v4 : Nat) (v5 : Int32) (v6 : Nat) (ih : Int32 → Int32 → HP → Rs Int32) (a7 : Int32) (a8 : Int32) (h : HP) : Rs Int32 :=
  lsSize v3 h fun x1 =>
  if x1 ≤ a8 then
  (rok a7 h)
  else
  (if a7 = 0 then
  (lsGet v3 a8 h fun x2 =>
  castR [47] x2 h (
  bd (f_X4_own x2 v2 h) (fun x3 h4 =>
  if a8 = v5 then
  (f_X4_bodied_l107b185 v0 v2 v3 v4 v5 v6 ih a8 h4)
  else
  (if x3 = 0 then
  (f_X4_bodied_l107b185 v0 v2 v3 v4 v5 v6 ih a8 h4)
  else
  (ldR 50 392 x3 h4 fun x5 =>
  if x5 = 0 then
  (f_X4_bodied_l107b185 v0 v2 v3 v4 v5 v6 ih a8 h4)
  else
  (lsGet v3 a8 h4 fun x6 =>
  castR [47] x6 h4 (
  lsGet v3 v5 h4 fun x7 =>
  castR [47] x7 h4 (
  if kc h4 v0 = 5 then
  bd (f_X4_lies v0 x6 x7 h4) (fun x8 h9 =>
  if x8 = 0 then
  (f_X4_bodied_l107b185 v0 v2 v3 v4 v5 v6 ih a8 h9)
  else
  (f_X4_bodied_l107b186 v0 v2 v3 v4 v5 v6 ih a8 (1 : Int32) h9))
  else none))))))))
  else
  (rok a7 h))
noncomputable def f_X4_bodied_l107 (v0 : Nat) (v2 : Nat) (v3 : Nat) (v4 : Nat) (v5 : Int32) (v6 : Nat) (n : Nat) : Int32 → Int32 → HP → Rs Int32 := @Nat.rec (fun _ => Int32 → Int32 → HP → Rs Int32) (fun _ _ _ => none) (fun _ ih => b_X4_bodied_l107 v0 v2 v3 v4 v5 v6 ih) n
noncomputable def f_X4_bodied_l60b210 (v0 : Nat) (v2 : Nat) (v3 : Nat) (ih : Nat → Int32 → HP → Rs (Unit ⊕ Nat)) (a4 : Nat) (a5 : Int32) (h : HP) : Rs (Unit ⊕ Nat) :=
  lt3 (a5 + 1) fun x1 =>
  ih a4 x1 h
noncomputable def f_X4_bodied_l60b194 (v0 : Nat) (v2 : Nat) (v3 : Nat) (ih : Nat → Int32 → HP → Rs (Unit ⊕ Nat)) (a4 : Nat) (a5 : Int32) (a6 : Nat) (a7 : Int32) (h : HP) : Rs (Unit ⊕ Nat) :=
  if a7 = 0 then
  (if a4 = 0 then
  (f_X4_bodied_l60b210 v0 v2 v3 ih a6 a5 h)
  else
  (rok (Sum.inl ()) h))
  else
  (f_X4_bodied_l60b210 v0 v2 v3 ih a4 a5 h)
noncomputable def f_X4_bodied_l60b102 (v0 : Nat) (v2 : Nat) (v3 : Nat) (ih : Nat → Int32 → HP → Rs (Unit ⊕ Nat)) (a4 : Nat) (a5 : Int32) (a6 : Nat) (s0 : Int32) (h : HP) : Rs (Unit ⊕ Nat) :=
  bd (f_X4_bodied_l107 v0 v2 v3 a4 a5 a6 NN s0 (0 : Int32) h) (fun x1 h2 => f_X4_bodied_l60b194 v0 v2 v3 ih a4 a5 a6 x1 h2)
noncomputable def f_X4_bodied_l60b97 (v0 : Nat) (v2 : Nat) (v3 : Nat) (ih : Nat → Int32 → HP → Rs (Unit ⊕ Nat)) (a4 : Nat) (a5 : Int32) (a6 : Nat) (h : HP) : Rs (Unit ⊕ Nat) :=
  f_X4_bodied_l60b102 v0 v2 v3 ih a4 a5 a6 (1 : Int32) h
noncomputable def b_X4_bodied_l60 (v0 : Nat) (v2 : Nat) (v3 : Nat) (ih : Nat → Int32 → HP → Rs (Unit ⊕ Nat)) (a4 : Nat) (a5 : Int32) (h : HP) : Rs (Unit ⊕ Nat) :=
  lsSize v3 h fun x1 =>
  if x1 ≤ a5 then
  (rok (Sum.inr a4) h)
  else
  (lsGet v3 a5 h fun x2 =>
  castR [47] x2 h (
  bd (f_X4_own x2 v2 h) (fun x3 h4 =>
  if x3 = 0 then
  (f_X4_bodied_l60b97 v0 v2 v3 ih a4 a5 x3 h4)
  else
  (ldR 50 392 x3 h4 fun x5 =>
  if x5 = 0 then
  (f_X4_bodied_l60b97 v0 v2 v3 ih a4 a5 x3 h4)
  else
  (f_X4_bodied_l60b102 v0 v2 v3 ih a4 a5 x3 (0 : Int32) h4)))))
noncomputable def f_X4_bodied_l60 (v0 : Nat) (v2 : Nat) (v3 : Nat) (n : Nat) : Nat → Int32 → HP → Rs (Unit ⊕ Nat) := @Nat.rec (fun _ => Nat → Int32 → HP → Rs (Unit ⊕ Nat)) (fun _ _ _ => none) (fun _ ih => b_X4_bodied_l60 v0 v2 v3 ih) n
noncomputable def f_X4_bodied (a0 : Nat) (a1 : Nat) (a2 : Nat) (h : HP) : Rs Nat :=
  bd (f_X4_bodied_l2 a0 a1 a2 NN a1 h) (Sum.elim (fun x1 => fun h2 => ldR 50 392 x1 h2 fun x3 =>
  if x3 = 0 then
  (rok 0 h2)
  else
  (rok x1 h2)) (fun x4 => fun h5 => nwC 155 3 h5 fun p6 h7 =>
  lsInit p6 h7 fun h8 =>
  bd (f_X4_allFaces 100 a1 p6 h8) (fun _ h9 =>
  bd (f_X4_bodied_l60 a0 a2 p6 NN 0 (0 : Int32) h9) (Sum.elim (fun x10 => fun h11 => rok 0 h11) (fun x12 => fun h13 => rok x12 h13)))))
noncomputable def f_X64_init (a0 : Nat) (a1 : Int32) (a2 : Nat) (a3 : Nat) (h : HP) : Rs Unit :=
  if a0 = 0 then none else (
  stI 62 449 a0 a1 h fun h1 =>
  stR 62 450 a0 a2 h1 fun h2 =>
  stR 62 451 a0 a3 h2 fun h3 =>
  rok () h3)
noncomputable def f_X4_resolved_l2b53 (v0 : Nat) (v1 : Int32) (v2 : Nat) (ih : Int32 → HP → Rs (Nat ⊕ Unit)) (a3 : Int32) (h : HP) : Rs (Nat ⊕ Unit) :=
  lt3 (a3 + 1) fun x1 =>
  ih x1 h
noncomputable def b_X4_resolved_l2 (v0 : Nat) (v1 : Int32) (v2 : Nat) (ih : Int32 → HP → Rs (Nat ⊕ Unit)) (a3 : Int32) (h : HP) : Rs (Nat ⊕ Unit) :=
  ldR 5 89 v0 h fun x1 =>
  lsSize x1 h fun x2 =>
  if x2 ≤ a3 then
  (rok (Sum.inr ()) h)
  else
  (ldR 5 89 v0 h fun x3 =>
  lsGet x3 a3 h fun x4 =>
  castR [62] x4 h (
  ldI 62 449 x4 h fun x5 =>
  if x5 = v1 then
  (ldR 62 450 x4 h fun x6 =>
  txEq x6 v2 h fun x7 =>
  if x7 = 0 then
  (f_X4_resolved_l2b53 v0 v1 v2 ih a3 h)
  else
  (rok (Sum.inl x4) h))
  else
  (f_X4_resolved_l2b53 v0 v1 v2 ih a3 h)))
noncomputable def f_X4_resolved_l2 (v0 : Nat) (v1 : Int32) (v2 : Nat) (n : Nat) : Int32 → HP → Rs (Nat ⊕ Unit) := @Nat.rec (fun _ => Int32 → HP → Rs (Nat ⊕ Unit)) (fun _ _ => none) (fun _ ih => b_X4_resolved_l2 v0 v1 v2 ih) n
noncomputable def f_X4_resolved (a0 : Nat) (a1 : Int32) (a2 : Nat) (h : HP) : Rs Nat :=
  bd (f_X4_resolved_l2 a0 a1 a2 NN (0 : Int32) h) (Sum.elim (fun x1 => fun h2 => ldR 62 451 x1 h2 fun x3 =>
  rok x3 h2) (fun x4 => fun h5 => if kc h5 a0 = 5 then
  bd (f_X4_kindAt a0 a1 h5) (fun x6 h7 =>
  if kc h7 a0 = 5 then
  bd (f_X4_bodied a0 x6 a2 h7) (fun x8 h9 =>
  ldR 5 89 a0 h9 fun x10 =>
  nwO 62 3 h9 fun p11 h12 =>
  if kc h12 p11 = 62 then
  bd (f_X64_init p11 a1 a2 x8 h12) (fun _ h13 =>
  lsAdd x10 p11 h13 fun h14 =>
  rok x8 h14)
  else none)
  else none)
  else none))
noncomputable def f_X4_widened (a0 : Int64) (a2 : Int32) (a3 : Int32) (h : HP) : Rs Int64 :=
  if a2 = a3 then
  (rok a0 h)
  else
  (if a2 < (1 : Int32) then
  (rok a0 h)
  else
  (if (8 : Int32) ≤ a2 then
  (rok a0 h)
  else
  (if a3 < (8 : Int32) then
  (if a3 = (7 : Int32) then
  (if a2 = (6 : Int32) then
  (bd (f_X46_wide (Int64.toInt32 a0) h) (fun x7 h8 =>
  rok x7 h8))
  else
  (bd (f_X46_of a0 (0 : Int32) h) (fun x5 h6 =>
  rok x5 h6)))
  else
  (if a3 = (6 : Int32) then
  (bd (f_X46_floatOf a0 (0 : Int32) h) (fun x1 h2 =>
  bd (f_X46_narrow x1 h2) (fun x3 h4 =>
  rok ((Int32.toInt64 x3) &&& (4294967295 : Int64)) h4)))
  else
  (rok a0 h)))
  else
  (rok a0 h))))
noncomputable def b_X4_called_l75 (v0 : Nat) (v1 : Nat) (v2 : Nat) (v3 : Int32) (v4 : Int64) (v6 : Nat) (ih : Int32 → HP → Rs Unit) (a7 : Int32) (h : HP) : Rs Unit :=
  ldI 56 422 v2 h fun x1 =>
  if x1 ≤ a7 then
  (rok () h)
  else
  (ldR 63 452 v1 h fun x2 =>
  ldR 54 410 x2 h fun x3 =>
  ldI 63 453 v1 h fun x4 =>
  lsGet x3 (x4 + a7) h fun x5 =>
  castR [56] x5 h (
  ldR 5 81 v0 h fun x6 =>
  ldR 5 81 v0 h fun x7 =>
  aldJ 3 x7 (v3 + a7) h fun x8 =>
  ldI 56 419 x5 h fun x9 =>
  ldI 56 421 x5 h fun x10 =>
  bd (f_X4_widened x8 x9 x10 h) (fun x11 h12 =>
  astJ 3 x6 (v3 + a7) x11 h12 fun h13 =>
  lt3 (a7 + 1) fun x14 =>
  ih x14 h13)))
noncomputable def f_X4_called_l75 (v0 : Nat) (v1 : Nat) (v2 : Nat) (v3 : Int32) (v4 : Int64) (v6 : Nat) (n : Nat) : Int32 → HP → Rs Unit := @Nat.rec (fun _ => Int32 → HP → Rs Unit) (fun _ _ => none) (fun _ ih => b_X4_called_l75 v0 v1 v2 v3 v4 v6 ih) n
noncomputable def f_X4_called_b53 (a0 : Nat) (a1 : Nat) (a2 : Nat) (a3 : Int32) (a4 : Int64) (h : HP) : Rs Unit :=
  if kc h a0 = 5 then
  bd (f_X4_thingAt a0 a4 h) (fun x1 h2 =>
  ldI 58 430 x1 h2 fun x3 =>
  ldR 56 418 a2 h2 fun x4 =>
  if kc h2 a0 = 5 then
  bd (f_X4_resolved a0 x3 x4 h2) (fun x5 h6 =>
  bd (f_X4_called_l75 a0 a1 a2 a3 a4 x5 NN (0 : Int32) h6) (fun x7 h8 => ldI 63 453 a1 h8 fun x9 =>
  ldI 56 422 a2 h8 fun x10 =>
  stI 63 453 a1 (x9 + x10) h8 fun h11 =>
  ldR 50 394 x5 h11 fun x12 =>
  ldI 56 422 a2 h11 fun x13 =>
  if kc h11 a0 = 5 then
  bd (f_X4_enter a0 x12 (Int64.toInt32 a4) x13 h11) (fun _ h14 =>
  ldJ 56 424 a2 h14 fun x15 =>
  if (lg_cmp x15 (1 : Int64)) = 0 then
  (if kc h14 a0 = 5 then
  bd (f_X4_pop a0 h14) (fun x16 h17 =>
  rok () h17)
  else none)
  else
  (rok () h14))
  else none))
  else none)
  else none
noncomputable def f_X4_called (a0 : Nat) (a1 : Nat) (a2 : Nat) (h : HP) : Rs Unit :=
  if kc h a0 = 5 then
  bd (f_X4_step a0 h) (fun _ h1 =>
  ldI 5 84 a0 h1 fun x2 =>
  ldI 56 422 a2 h1 fun x3 =>
  lt3 (x2 - x3) fun x4 =>
  ldI 63 454 a1 h1 fun x5 =>
  lt3 (Int32.toInt64 x5) fun x6 =>
  ldJ 56 424 a2 h1 fun x7 =>
  if (lg_cmp x7 (1 : Int64)) = 0 then
  (ldR 5 81 a0 h1 fun x8 =>
  aldJ 3 x8 (x4 - (1 : Int32)) h1 fun x9 =>
  if (lg_cmp x9 (0 : Int64)) = 0 then
  (if kc h1 a0 = 5 then
  bd (f_X4_fails a0 (3 : Int32) h1) (fun x10 h11 =>
  if kc h11 x10 = 69 then rex h11 else none)
  else none)
  else
  (f_X4_called_b53  a0 a1 a2 x4 x9 h1))
  else
  (f_X4_called_b53  a0 a1 a2 x4 x6 h1))
  else none
noncomputable def f_X4_cut_b72 (a3 : Int64) (a5 : Int32) (a7 : Int64) (s0 : Int32) (h : HP) : Rs Int64 :=
  if s0 = 0 then
  (if a5 = 0 then
  (rok a7 h)
  else
  (rok (-a7) h))
  else
  (if a5 = 0 then
  (rok a3 h)
  else
  (rok ((-a3) - (1 : Int64)) h))
noncomputable def f_X4_cut_b67 (a3 : Int64) (a5 : Int32) (a7 : Int64) (h : HP) : Rs Int64 :=
  f_X4_cut_b72  a3 a5 a7 (1 : Int32) h
noncomputable def f_X4_cut_b46 (a3 : Int64) (a5 : Int32) (a6 : Int32) (s0 : Int64) (h : HP) : Rs Int64 :=
  if a6 = 0 then
  (if (lg_cmp s0 (0 : Int64)) < 0 then
  (f_X4_cut_b67  a3 a5 s0 h)
  else
  (if (lg_cmp s0 a3) ≤ 0 then
  (f_X4_cut_b72  a3 a5 s0 (0 : Int32) h)
  else
  (f_X4_cut_b67  a3 a5 s0 h)))
  else
  (f_X4_cut_b67  a3 a5 s0 h)
noncomputable def f_X4_cut_b25 (a0 : Int64) (a3 : Int64) (s0 : Int32) (h : HP) : Rs Int64 :=
  bd (f_X46_isGreat a0 h) (fun x1 h2 =>
  if x1 = 0 then
  (bd (f_X46_cut a0 h2) (fun x3 h4 =>
  f_X4_cut_b46  a3 s0 x1 x3 h4))
  else
  (f_X4_cut_b46  a3 s0 x1 (0 : Int64) h2))
noncomputable def f_X4_cut_b13 (a0 : Int64) (s0 : Int64) (h : HP) : Rs Int64 :=
  if 0 ≤ (lg_cmp a0 (0 : Int64)) then
  (f_X4_cut_b25  a0 s0 (0 : Int32) h)
  else
  (f_X4_cut_b25  a0 s0 (1 : Int32) h)
noncomputable def f_X4_cut (a0 : Int64) (a2 : Int32) (h : HP) : Rs Int64 :=
  if a2 = 0 then
  (f_X4_cut_b13  a0 (2147483647 : Int64) h)
  else
  (f_X4_cut_b13  a0 (9223372036854775807 : Int64) h)
noncomputable def f_X4_cast_b93 (a3 : Int32) (a4 : Int64) (h : HP) : Rs Int64 :=
  if a3 = 1 then
  (rok (Int32.toInt64 (Int8.toInt32 (Int32.toInt8 (Int64.toInt32 a4)))) h)
  else
  if a3 = 2 then
  (rok (Int32.toInt64 (Int16.toInt32 (Int32.toInt16 (Int64.toInt32 a4)))) h)
  else
  if a3 = 3 then
  (rok (Int32.toInt64 (UInt32.toInt32 (Int32.toUInt32 (Int64.toInt32 a4) % 65536))) h)
  else
  if a3 = 4 then
  (rok (Int32.toInt64 (Int64.toInt32 a4)) h)
  else
  (rok a4 h)
noncomputable def f_X4_cast_b88 (a3 : Int32) (s0 : Int64) (s1 : Int32) (h : HP) : Rs Int64 :=
  bd (f_X4_cut s0 s1 h) (fun x1 h2 =>
  f_X4_cast_b93  a3 x1 h2)
noncomputable def f_X4_cast_b78 (a3 : Int32) (s0 : Int64) (h : HP) : Rs Int64 :=
  if a3 = (5 : Int32) then
  (f_X4_cast_b88  a3 s0 (1 : Int32) h)
  else
  (f_X4_cast_b88  a3 s0 (0 : Int32) h)
noncomputable def f_X4_cast_b63 (a0 : Int64) (a2 : Int32) (a3 : Int32) (h : HP) : Rs Int64 :=
  if a2 = (6 : Int32) then
  (bd (f_X46_wide (Int64.toInt32 a0) h) (fun x1 h2 =>
  f_X4_cast_b78  a3 x1 h2))
  else
  (f_X4_cast_b78  a3 a0 h)
noncomputable def f_X4_cast_b32 (a0 : Int64) (a2 : Int32) (a3 : Int32) (h : HP) : Rs Int64 :=
  if a3 = (6 : Int32) then
  (bd (f_X46_narrow a0 h) (fun x1 h2 =>
  rok ((Int32.toInt64 x1) &&& (4294967295 : Int64)) h2))
  else
  (if a2 = (6 : Int32) then
  (f_X4_cast_b63  a0 a2 a3 h)
  else
  (if a2 = (7 : Int32) then
  (f_X4_cast_b63  a0 a2 a3 h)
  else
  (f_X4_cast_b93  a3 a0 h)))
noncomputable def f_X4_cast (a0 : Int64) (a2 : Int32) (a3 : Int32) (h : HP) : Rs Int64 :=
  if a2 = a3 then
  (rok a0 h)
  else
  (if a3 = (7 : Int32) then
  (bd (f_X4_widened a0 a2 a3 h) (fun x1 h2 =>
  rok x1 h2))
  else
  (if a3 = (6 : Int32) then
  (if (6 : Int32) ≤ a2 then
  (f_X4_cast_b32  a0 a2 a3 h)
  else
  (bd (f_X4_widened a0 a2 a3 h) (fun x3 h4 =>
  rok x3 h4)))
  else
  (f_X4_cast_b32  a0 a2 a3 h)))
noncomputable def f_X4_compared_b194 (a6 : Int32) (a8 : Int32) (h : HP) : Rs Int32 :=
  if a8 = 0 then
  (if a6 = 0 then
  (rok (1 : Int32) h)
  else
  (rok (0 : Int32) h))
  else
  if a8 = 1 then
  (if a6 = 0 then
  (rok (0 : Int32) h)
  else
  (rok (1 : Int32) h))
  else
  if a8 = 2 then
  (if 0 ≤ a6 then
  (rok (0 : Int32) h)
  else
  (rok (1 : Int32) h))
  else
  if a8 = 3 then
  (if a6 ≤ 0 then
  (rok (0 : Int32) h)
  else
  (rok (1 : Int32) h))
  else
  if a8 = 4 then
  (if 0 < a6 then
  (rok (0 : Int32) h)
  else
  (rok (1 : Int32) h))
  else
  (if a6 < 0 then
  (rok (0 : Int32) h)
  else
  (rok (1 : Int32) h))
noncomputable def f_X4_compared_b50 (a0 : Nat) (a6 : Int32) (h : HP) : Rs Int32 :=
  txHash a0 h fun x1 =>
  if x1 = (60) then
  (txEq a0 19 h fun x2 =>
  if x2 = 0 then
  (f_X4_compared_b194  a6 (-1 : Int32) h)
  else
  (f_X4_compared_b194  a6 (2 : Int32) h))
  else
  if x1 = (62) then
  (txEq a0 24 h fun x3 =>
  if x3 = 0 then
  (f_X4_compared_b194  a6 (-1 : Int32) h)
  else
  (f_X4_compared_b194  a6 (3 : Int32) h))
  else
  if x1 = (1084) then
  (txEq a0 5 h fun x4 =>
  if x4 = 0 then
  (f_X4_compared_b194  a6 (-1 : Int32) h)
  else
  (f_X4_compared_b194  a6 (1 : Int32) h))
  else
  if x1 = (1921) then
  (txEq a0 21 h fun x5 =>
  if x5 = 0 then
  (f_X4_compared_b194  a6 (-1 : Int32) h)
  else
  (f_X4_compared_b194  a6 (4 : Int32) h))
  else
  if x1 = (1952) then
  (txEq a0 23 h fun x6 =>
  if x6 = 0 then
  (f_X4_compared_b194  a6 (-1 : Int32) h)
  else
  (f_X4_compared_b194  a6 (0 : Int32) h))
  else
  (f_X4_compared_b194  a6 (-1 : Int32) h)
noncomputable def f_X4_compared (a0 : Nat) (a1 : Int32) (a2 : Int64) (a4 : Int64) (h : HP) : Rs Int32 :=
  if a1 = (6 : Int32) then
  (bd (f_X46_wide (Int64.toInt32 a2) h) (fun x4 h5 =>
  bd (f_X46_wide (Int64.toInt32 a4) h5) (fun x6 h7 =>
  bd (f_X46_compare x4 x6 h7) (fun x8 h9 =>
  f_X4_compared_b50  a0 x8 h9))))
  else
  (if a1 = (7 : Int32) then
  (bd (f_X46_compare a2 a4 h) (fun x2 h3 =>
  f_X4_compared_b50  a0 x2 h3))
  else
  (lt3 (lg_cmp a2 a4) fun x1 =>
  f_X4_compared_b50  a0 x1 h))
noncomputable def f_X4_goesOn_b157 (a0 : Nat) (a1 : Nat) (a2 : Nat) (a3 : Nat) (h : HP) : Rs Unit :=
  ldI 56 423 a2 h fun x1 =>
  stI 63 453 a1 x1 h fun h2 =>
  if kc h2 a0 = 5 then
  bd (f_X4_advance a0 a1 a3 h2) (fun _ h3 =>
  rok () h3)
  else none
noncomputable def f_X4_goesOn_b133 (a0 : Nat) (a1 : Nat) (a2 : Nat) (a3 : Nat) (a6 : Int32) (h : HP) : Rs Unit :=
  if a6 = 0 then
  (f_X4_goesOn_b157  a0 a1 a2 a3 h)
  else
  (ldI 5 83 a0 h fun x1 =>
  stI 5 83 a0 (x1 - (1 : Int32)) h fun h2 =>
  ldJ 64 460 a3 h2 fun x3 =>
  if kc h2 a0 = 5 then
  bd (f_X4_push a0 x3 h2) (fun _ h4 =>
  rok () h4)
  else none)
noncomputable def f_X4_goesOn_b79 (a0 : Nat) (a1 : Nat) (a2 : Nat) (a3 : Nat) (a4 : Int64) (a6 : Int32) (h : HP) : Rs Unit :=
  stJ 64 460 a3 a4 h fun h1 =>
  f_X4_goesOn_b133  a0 a1 a2 a3 a6 h1
noncomputable def f_X4_goesOn_b61 (a0 : Nat) (a1 : Nat) (a2 : Nat) (a3 : Nat) (a4 : Int64) (s0 : Int32) (h : HP) : Rs Unit :=
  ldI 56 422 a2 h fun x1 =>
  if x1 = (1 : Int32) then
  (f_X4_goesOn_b79  a0 a1 a2 a3 a4 s0 h)
  else
  (ldI 56 422 a2 h fun x2 =>
  if x2 = (2 : Int32) then
  (f_X4_goesOn_b79  a0 a1 a2 a3 a4 s0 h)
  else
  (ldI 56 422 a2 h fun x3 =>
  if x3 = (3 : Int32) then
  (ldJ 64 460 a3 h fun x9 =>
  stJ 64 460 a3 (Int32.toInt64 (Int64.toInt32 (x9 + a4))) h fun h10 =>
  f_X4_goesOn_b133  a0 a1 a2 a3 s0 h10)
  else
  (ldI 56 421 a2 h fun x4 =>
  ldJ 64 460 a3 h fun x5 =>
  if kc h a0 = 5 then
  bd (f_X4_arithmetic a0 12 x4 x5 a4 h) (fun x6 h7 =>
  stJ 64 460 a3 x6 h7 fun h8 =>
  f_X4_goesOn_b133  a0 a1 a2 a3 s0 h8)
  else none)))
noncomputable def f_X4_goesOn_b60 (a0 : Nat) (a1 : Nat) (a2 : Nat) (a3 : Nat) (a4 : Int64) (h : HP) : Rs Unit :=
  f_X4_goesOn_b61  a0 a1 a2 a3 a4 (0 : Int32) h
noncomputable def f_X4_goesOn_b56 (a0 : Nat) (a1 : Nat) (a2 : Nat) (a3 : Nat) (a4 : Int64) (h : HP) : Rs Unit :=
  f_X4_goesOn_b61  a0 a1 a2 a3 a4 (1 : Int32) h
noncomputable def f_X4_goesOn_b41 (a0 : Nat) (a1 : Nat) (a2 : Nat) (a3 : Nat) (a4 : Int64) (h : HP) : Rs Unit :=
  ldI 56 422 a2 h fun x1 =>
  if x1 = (2 : Int32) then
  (if (lg_cmp a4 (0 : Int64)) = 0 then
  (f_X4_goesOn_b56  a0 a1 a2 a3 a4 h)
  else
  (f_X4_goesOn_b60  a0 a1 a2 a3 a4 h))
  else
  (f_X4_goesOn_b60  a0 a1 a2 a3 a4 h)
noncomputable def f_X4_goesOn (a0 : Nat) (a1 : Nat) (a2 : Nat) (h : HP) : Rs Unit :=
  ldR 5 80 a0 h fun x1 =>
  ldI 5 83 a0 h fun x2 =>
  aldR 12 x1 (x2 - (1 : Int32)) h fun x3 =>
  ldI 56 422 a2 h fun x4 =>
  if x4 = (5 : Int32) then
  (f_X4_goesOn_b157  a0 a1 a2 x3 h)
  else
  (if kc h a0 = 5 then
  bd (f_X4_pop a0 h) (fun x5 h6 =>
  ldI 56 422 a2 h6 fun x7 =>
  if x7 = (1 : Int32) then
  (if (lg_cmp x5 (1 : Int64)) = 0 then
  (f_X4_goesOn_b56  a0 a1 a2 x3 x5 h6)
  else
  (f_X4_goesOn_b41  a0 a1 a2 x3 x5 h6))
  else
  (f_X4_goesOn_b41  a0 a1 a2 x3 x5 h6))
  else none)
noncomputable def f_X4_part (a0 : Nat) (a1 : Nat) (a2 : Nat) (h : HP) : Rs Unit :=
  ldI 56 422 a2 h fun x1 =>
  if x1 = (1 : Int32) then
  (if kc h a0 = 5 then
  bd (f_X4_pop a0 h) (fun x23 h24 =>
  if (lg_cmp x23 (0 : Int64)) = 0 then
  (ldI 56 423 a2 h24 fun x25 =>
  stI 63 453 a1 x25 h24 fun h26 =>
  rok () h26)
  else
  (rok () h24))
  else none)
  else
  (ldI 56 422 a2 h fun x2 =>
  if x2 = (2 : Int32) then
  (ldR 5 93 a0 h fun x18 =>
  ldI 5 97 a0 h fun x19 =>
  if kc h a0 = 5 then
  bd (f_X4_pop a0 h) (fun x20 h21 =>
  astJ 3 x18 x19 x20 h21 fun h22 =>
  rok () h22)
  else none)
  else
  (ldI 56 422 a2 h fun x3 =>
  if x3 = (3 : Int32) then
  (ldR 5 94 a0 h fun x10 =>
  ldI 5 97 a0 h fun x11 =>
  ldI 5 101 a0 h fun x12 =>
  if kc h a0 = 5 then
  bd (f_X4_pop a0 h) (fun x13 h14 =>
  astJ 3 x10 (((4 : Int32) * x11) + x12) x13 h14 fun h15 =>
  ldI 5 101 a0 h15 fun x16 =>
  stI 5 101 a0 (x16 + (1 : Int32)) h15 fun h17 =>
  rok () h17)
  else none)
  else
  (ldI 5 97 a0 h fun x4 =>
  if x4 = (1000 : Int32) then
  (if kc h a0 = 5 then
  bd (f_X4_fails a0 (12 : Int32) h) (fun x8 h9 =>
  if kc h9 x8 = 69 then rex h9 else none)
  else none)
  else
  (stI 5 101 a0 (0 : Int32) h fun h5 =>
  ldI 5 97 a0 h5 fun x6 =>
  stI 5 97 a0 (x6 + (1 : Int32)) h5 fun h7 =>
  rok () h7))))
noncomputable def f_X4_shifted (a0 : Nat) (a1 : Int32) (a2 : Int64) (a4 : Int64) (h : HP) : Rs Int64 :=
  lt3 (Int64.toInt32 a4) fun x1 =>
  if a1 = (5 : Int32) then
  (txEq a0 20 h fun x5 =>
  if x5 = 0 then
  (txEq a0 26 h fun x6 =>
  if x6 = 0 then
  (rok (UInt64.toInt64 (Int64.toUInt64 a2 >>> (Int64.toUInt64 (Int32.toInt64 x1) &&& Int64.toUInt64 63))) h)
  else
  (rok (a2 >>> (Int32.toInt64 x1 &&& 63)) h))
  else
  (rok (a2 <<< (Int32.toInt64 x1 &&& 63)) h))
  else
  (lt3 (Int64.toInt32 a2) fun x2 =>
  txEq a0 20 h fun x3 =>
  if x3 = 0 then
  (txEq a0 26 h fun x4 =>
  if x4 = 0 then
  (rok (Int32.toInt64 (UInt32.toInt32 (Int32.toUInt32 x2 >>> (Int32.toUInt32 x1 &&& Int32.toUInt32 31)))) h)
  else
  (rok (Int32.toInt64 (x2 >>> (x1 &&& 31))) h))
  else
  (rok (Int32.toInt64 (x2 <<< (x1 &&& 31))) h))
noncomputable def f_X4_done_b822 (a2 : Nat) (s0 : Nat) (s1 : Int32) (h : HP) : Rs Unit :=
  ldR 56 418 a2 h fun x1 =>
  txEq x1 23 h fun x2 =>
  if s1 = x2 then
  (if kc h s0 = 5 then
  bd (f_X4_push s0 (1 : Int64) h) (fun _ h4 =>
  rok () h4)
  else none)
  else
  (if kc h s0 = 5 then
  bd (f_X4_push s0 (0 : Int64) h) (fun _ h3 =>
  rok () h3)
  else none)
noncomputable def f_X4_done_b809 (a0 : Nat) (a2 : Nat) (a3 : Int64) (a5 : Int64) (h : HP) : Rs Unit :=
  if (lg_cmp a3 a5) = 0 then
  (f_X4_done_b822  a2 a0 (1 : Int32) h)
  else
  (f_X4_done_b822  a2 a0 (0 : Int32) h)
noncomputable def f_X4_done (a0 : Nat) (a1 : Nat) (a2 : Nat) (h : HP) : Rs Unit :=
  ldI 56 417 a2 h fun x1 =>
  if x1 = 1 then
  (ldJ 56 424 a2 h fun x3 =>
  if kc h a0 = 5 then
  bd (f_X4_push a0 x3 h) (fun _ h4 =>
  rok () h4)
  else none)
  else
  if x1 = 2 then
  (ldR 56 418 a2 h fun x5 =>
  if kc h a0 = 5 then
  bd (f_X4_textThere a0 x5 h) (fun x6 h7 =>
  ldI 58 429 x6 h7 fun x8 =>
  if kc h7 a0 = 5 then
  bd (f_X4_push a0 (Int32.toInt64 x8) h7) (fun _ h9 =>
  rok () h9)
  else none)
  else none)
  else
  if x1 = 3 then
  (ldI 63 454 a1 h fun x10 =>
  if kc h a0 = 5 then
  bd (f_X4_push a0 (Int32.toInt64 x10) h) (fun _ h11 =>
  rok () h11)
  else none)
  else
  if x1 = 4 then
  (ldR 5 85 a0 h fun x12 =>
  ldI 63 455 a1 h fun x13 =>
  ldI 56 422 a2 h fun x14 =>
  aldJ 3 x12 (x13 + x14) h fun x15 =>
  if kc h a0 = 5 then
  bd (f_X4_push a0 x15 h) (fun _ h16 =>
  rok () h16)
  else none)
  else
  if x1 = 5 then
  (if kc h a0 = 5 then
  bd (f_X4_step a0 h) (fun _ h17 =>
  if kc h17 a0 = 5 then
  bd (f_X4_pop a0 h17) (fun x18 h19 =>
  if kc h19 a0 = 5 then
  bd (f_X4_wanted a0 x18 h19) (fun x20 h21 =>
  if kc h21 a0 = 5 then
  bd (f_X4_values a0 x20 h21) (fun x22 h23 =>
  ldI 56 422 a2 h23 fun x24 =>
  aldJ 3 x22 x24 h23 fun x25 =>
  if kc h23 a0 = 5 then
  bd (f_X4_push a0 x25 h23) (fun _ h26 =>
  rok () h26)
  else none)
  else none)
  else none)
  else none)
  else none)
  else
  if x1 = 6 then
  (if kc h a0 = 5 then
  bd (f_X4_step a0 h) (fun _ h27 =>
  if kc h27 a0 = 5 then
  bd (f_X4_pop a0 h27) (fun x28 h29 =>
  if kc h29 a0 = 5 then
  bd (f_X4_wanted a0 x28 h29) (fun x30 h31 =>
  if kc h31 a0 = 5 then
  bd (f_X4_seen a0 x30 h31) (fun x32 h33 =>
  alen x32 h33 fun x34 =>
  if kc h33 a0 = 5 then
  bd (f_X4_push a0 (Int32.toInt64 x34) h33) (fun _ h35 =>
  rok () h35)
  else none)
  else none)
  else none)
  else none)
  else none)
  else
  if x1 = 7 then
  (if kc h a0 = 5 then
  bd (f_X4_step a0 h) (fun _ h36 =>
  if kc h36 a0 = 5 then
  bd (f_X4_pop a0 h36) (fun x37 h38 =>
  if kc h38 a0 = 5 then
  bd (f_X4_wanted a0 x37 h38) (fun x39 h40 =>
  ldI 58 432 x39 h40 fun x41 =>
  if kc h40 a0 = 5 then
  bd (f_X4_push a0 (Int32.toInt64 x41) h40) (fun _ h42 =>
  rok () h42)
  else none)
  else none)
  else none)
  else none)
  else
  if x1 = 8 then
  (if kc h a0 = 5 then
  bd (f_X4_called a0 a1 a2 h) (fun _ h43 =>
  rok () h43)
  else none)
  else
  if x1 = 9 then
  (if kc h a0 = 5 then
  bd (f_X4_step a0 h) (fun _ h44 =>
  if kc h44 a0 = 5 then
  bd (f_X4_pop a0 h44) (fun x45 h46 =>
  if kc h46 a0 = 5 then
  bd (f_X4_wanted a0 x45 h46) (fun x47 h48 =>
  ldR 58 431 x47 h48 fun x49 =>
  txLen x49 h48 fun x50 =>
  if kc h48 a0 = 5 then
  bd (f_X4_push a0 (Int32.toInt64 x50) h48) (fun _ h51 =>
  rok () h51)
  else none)
  else none)
  else none)
  else none)
  else
  if x1 = 10 then
  (if kc h a0 = 5 then
  bd (f_X4_step a0 h) (fun _ h52 =>
  if kc h52 a0 = 5 then
  bd (f_X4_pop a0 h52) (fun x53 h54 =>
  if kc h54 a0 = 5 then
  bd (f_X4_pop a0 h54) (fun x55 h56 =>
  if kc h56 a0 = 5 then
  bd (f_X4_wanted a0 x55 h56) (fun x57 h58 =>
  if (lg_cmp x53 (0 : Int64)) < 0 then
  (if kc h58 a0 = 5 then
  bd (f_X4_fails a0 (2 : Int32) h58) (fun x59 h60 =>
  if kc h60 x59 = 69 then rex h60 else none)
  else none)
  else
  (ldR 58 431 x57 h58 fun x61 =>
  txLen x61 h58 fun x62 =>
  if (lg_cmp x53 (Int32.toInt64 x62)) < 0 then
  (ldR 58 431 x57 h58 fun x63 =>
  txAt x63 (Int64.toInt32 x53) h58 fun x64 =>
  if kc h58 a0 = 5 then
  bd (f_X4_push a0 (Int32.toInt64 x64) h58) (fun _ h65 =>
  rok () h65)
  else none)
  else
  (if kc h58 a0 = 5 then
  bd (f_X4_fails a0 (2 : Int32) h58) (fun x66 h67 =>
  if kc h67 x66 = 69 then rex h67 else none)
  else none)))
  else none)
  else none)
  else none)
  else none)
  else
  if x1 = 11 then
  (if kc h a0 = 5 then
  bd (f_X4_step a0 h) (fun _ h68 =>
  if kc h68 a0 = 5 then
  bd (f_X4_pop a0 h68) (fun x69 h70 =>
  if kc h70 a0 = 5 then
  bd (f_X4_pop a0 h70) (fun x71 h72 =>
  if kc h72 a0 = 5 then
  bd (f_X4_wanted a0 x71 h72) (fun x73 h74 =>
  if (lg_cmp x69 (0 : Int64)) < 0 then
  (if kc h74 a0 = 5 then
  bd (f_X4_fails a0 (2 : Int32) h74) (fun x75 h76 =>
  if kc h76 x75 = 69 then rex h76 else none)
  else none)
  else
  (if kc h74 a0 = 5 then
  bd (f_X4_seen a0 x73 h74) (fun x77 h78 =>
  alen x77 h78 fun x79 =>
  if (lg_cmp x69 (Int32.toInt64 x79)) < 0 then
  (if kc h78 a0 = 5 then
  bd (f_X4_values a0 x73 h78) (fun x80 h81 =>
  aldJ 3 x80 (Int64.toInt32 x69) h81 fun x82 =>
  if kc h81 a0 = 5 then
  bd (f_X4_push a0 x82 h81) (fun _ h83 =>
  rok () h83)
  else none)
  else none)
  else
  (if kc h78 a0 = 5 then
  bd (f_X4_fails a0 (2 : Int32) h78) (fun x84 h85 =>
  if kc h85 x84 = 69 then rex h85 else none)
  else none))
  else none))
  else none)
  else none)
  else none)
  else none)
  else
  if x1 = 12 then
  (if kc h a0 = 5 then
  bd (f_X4_step a0 h) (fun _ h86 =>
  if kc h86 a0 = 5 then
  bd (f_X4_pop a0 h86) (fun x87 h88 =>
  ldI 56 419 a2 h88 fun x89 =>
  if x89 = (4 : Int32) then
  (if kc h88 a0 = 5 then
  bd (f_X4_push a0 (Int32.toInt64 (Int64.toInt32 (-x87))) h88) (fun _ h97 =>
  rok () h97)
  else none)
  else
  (ldI 56 419 a2 h88 fun x90 =>
  if x90 = (5 : Int32) then
  (if kc h88 a0 = 5 then
  bd (f_X4_push a0 (-x87) h88) (fun _ h96 =>
  rok () h96)
  else none)
  else
  (ldI 56 419 a2 h88 fun x91 =>
  if x91 = (6 : Int32) then
  (if kc h88 a0 = 5 then
  bd (f_X4_push a0 (x87 ^^^ (2147483648 : Int64)) h88) (fun _ h95 =>
  rok () h95)
  else none)
  else
  (bd (f_X46_negative x87 h88) (fun x92 h93 =>
  if kc h93 a0 = 5 then
  bd (f_X4_push a0 x92 h93) (fun _ h94 =>
  rok () h94)
  else none)))))
  else none)
  else none)
  else
  if x1 = 13 then
  (if kc h a0 = 5 then
  bd (f_X4_step a0 h) (fun _ h98 =>
  if kc h98 a0 = 5 then
  bd (f_X4_pop a0 h98) (fun x99 h100 =>
  if kc h100 a0 = 5 then
  bd (f_X4_push a0 ((1 : Int64) - x99) h100) (fun _ h101 =>
  rok () h101)
  else none)
  else none)
  else none)
  else
  if x1 = 14 then
  (if kc h a0 = 5 then
  bd (f_X4_step a0 h) (fun _ h102 =>
  if kc h102 a0 = 5 then
  bd (f_X4_pop a0 h102) (fun x103 h104 =>
  if kc h104 a0 = 5 then
  bd (f_X4_push a0 (x103 ^^^ (-1 : Int64)) h104) (fun _ h105 =>
  rok () h105)
  else none)
  else none)
  else none)
  else
  if x1 = 15 then
  (if kc h a0 = 5 then
  bd (f_X4_pop a0 h) (fun x106 h107 =>
  ldI 56 419 a2 h107 fun x108 =>
  ldI 56 421 a2 h107 fun x109 =>
  bd (f_X4_widened x106 x108 x109 h107) (fun x110 h111 =>
  if kc h111 a0 = 5 then
  bd (f_X4_push a0 x110 h111) (fun _ h112 =>
  rok () h112)
  else none))
  else none)
  else
  if x1 = 16 then
  (if kc h a0 = 5 then
  bd (f_X4_step a0 h) (fun _ h113 =>
  if kc h113 a0 = 5 then
  bd (f_X4_pop a0 h113) (fun x114 h115 =>
  ldI 56 419 a2 h115 fun x116 =>
  ldI 56 421 a2 h115 fun x117 =>
  bd (f_X4_cast x114 x116 x117 h115) (fun x118 h119 =>
  if kc h119 a0 = 5 then
  bd (f_X4_push a0 x118 h119) (fun _ h120 =>
  rok () h120)
  else none))
  else none)
  else none)
  else
  if x1 = 17 then
  (if kc h a0 = 5 then
  bd (f_X4_step a0 h) (fun _ h121 =>
  if kc h121 a0 = 5 then
  bd (f_X4_pop a0 h121) (fun x122 h123 =>
  if (lg_cmp x122 (0 : Int64)) = 0 then
  (if kc h123 a0 = 5 then
  bd (f_X4_push a0 x122 h123) (fun _ h124 =>
  rok () h124)
  else none)
  else
  (if kc h123 a0 = 5 then
  bd (f_X4_thingAt a0 x122 h123) (fun x125 h126 =>
  ldI 58 430 x125 h126 fun x127 =>
  ldI 56 421 a2 h126 fun x128 =>
  if kc h126 a0 = 5 then
  bd (f_X4_isBelow 100 a0 x127 x128 h126) (fun x129 h130 =>
  if x129 = 0 then
  (if kc h130 a0 = 5 then
  bd (f_X4_fails a0 (7 : Int32) h130) (fun x132 h133 =>
  if kc h133 x132 = 69 then rex h133 else none)
  else none)
  else
  (if kc h130 a0 = 5 then
  bd (f_X4_push a0 x122 h130) (fun _ h131 =>
  rok () h131)
  else none))
  else none)
  else none))
  else none)
  else none)
  else
  if x1 = 18 then
  (if kc h a0 = 5 then
  bd (f_X4_step a0 h) (fun _ h134 =>
  if kc h134 a0 = 5 then
  bd (f_X4_pop a0 h134) (fun x135 h136 =>
  if (lg_cmp x135 (0 : Int64)) = 0 then
  (if kc h136 a0 = 5 then
  bd (f_X4_push a0 (0 : Int64) h136) (fun _ h137 =>
  rok () h137)
  else none)
  else
  (if kc h136 a0 = 5 then
  bd (f_X4_thingAt a0 x135 h136) (fun x138 h139 =>
  ldI 58 430 x138 h139 fun x140 =>
  ldI 56 421 a2 h139 fun x141 =>
  if kc h139 a0 = 5 then
  bd (f_X4_isBelow 100 a0 x140 x141 h139) (fun x142 h143 =>
  if x142 = 0 then
  (if kc h143 a0 = 5 then
  bd (f_X4_push a0 (0 : Int64) h143) (fun _ h144 =>
  rok () h144)
  else none)
  else
  (if kc h143 a0 = 5 then
  bd (f_X4_push a0 (1 : Int64) h143) (fun _ h145 =>
  rok () h145)
  else none))
  else none)
  else none))
  else none)
  else none)
  else
  if x1 = 19 then
  (if kc h a0 = 5 then
  bd (f_X4_step a0 h) (fun _ h146 =>
  if kc h146 a0 = 5 then
  bd (f_X4_pop a0 h146) (fun x147 h148 =>
  ldI 56 420 a2 h148 fun x149 =>
  ldI 56 421 a2 h148 fun x150 =>
  bd (f_X4_widened x147 x149 x150 h148) (fun x151 h152 =>
  if kc h152 a0 = 5 then
  bd (f_X4_pop a0 h152) (fun x153 h154 =>
  ldI 56 419 a2 h154 fun x155 =>
  ldI 56 421 a2 h154 fun x156 =>
  bd (f_X4_widened x153 x155 x156 h154) (fun x157 h158 =>
  ldR 56 418 a2 h158 fun x159 =>
  ldI 56 421 a2 h158 fun x160 =>
  if kc h158 a0 = 5 then
  bd (f_X4_arithmetic a0 x159 x160 x157 x151 h158) (fun x161 h162 =>
  if kc h162 a0 = 5 then
  bd (f_X4_push a0 x161 h162) (fun _ h163 =>
  rok () h163)
  else none)
  else none))
  else none))
  else none)
  else none)
  else
  if x1 = 20 then
  (if kc h a0 = 5 then
  bd (f_X4_step a0 h) (fun _ h164 =>
  if kc h164 a0 = 5 then
  bd (f_X4_pop a0 h164) (fun x165 h166 =>
  ldR 56 418 a2 h166 fun x167 =>
  ldI 56 421 a2 h166 fun x168 =>
  if kc h166 a0 = 5 then
  bd (f_X4_pop a0 h166) (fun x169 h170 =>
  bd (f_X4_shifted x167 x168 x169 x165 h170) (fun x171 h172 =>
  if kc h172 a0 = 5 then
  bd (f_X4_push a0 x171 h172) (fun _ h173 =>
  rok () h173)
  else none))
  else none)
  else none)
  else none)
  else
  if x1 = 21 then
  (if kc h a0 = 5 then
  bd (f_X4_step a0 h) (fun _ h174 =>
  if kc h174 a0 = 5 then
  bd (f_X4_pop a0 h174) (fun x175 h176 =>
  if kc h176 a0 = 5 then
  bd (f_X4_pop a0 h176) (fun x177 h178 =>
  ldI 56 421 a2 h178 fun x179 =>
  if x179 < (4 : Int32) then
  (f_X4_done_b809  a0 a2 x177 x175 h178)
  else
  (ldI 56 421 a2 h178 fun x180 =>
  if (7 : Int32) < x180 then
  (f_X4_done_b809  a0 a2 x177 x175 h178)
  else
  (ldR 56 418 a2 h178 fun x181 =>
  ldI 56 421 a2 h178 fun x182 =>
  ldI 56 419 a2 h178 fun x183 =>
  ldI 56 421 a2 h178 fun x184 =>
  bd (f_X4_widened x177 x183 x184 h178) (fun x185 h186 =>
  ldI 56 420 a2 h186 fun x187 =>
  ldI 56 421 a2 h186 fun x188 =>
  bd (f_X4_widened x175 x187 x188 h186) (fun x189 h190 =>
  bd (f_X4_compared x181 x182 x185 x189 h190) (fun x191 h192 =>
  if x191 = 0 then
  (if kc h192 a0 = 5 then
  bd (f_X4_push a0 (0 : Int64) h192) (fun _ h193 =>
  rok () h193)
  else none)
  else
  (if kc h192 a0 = 5 then
  bd (f_X4_push a0 (1 : Int64) h192) (fun _ h194 =>
  rok () h194)
  else none)))))))
  else none)
  else none)
  else none)
  else
  if x1 = 22 then
  (if kc h a0 = 5 then
  bd (f_X4_step a0 h) (fun _ h195 =>
  if kc h195 a0 = 5 then
  bd (f_X4_pop a0 h195) (fun x196 h197 =>
  if kc h197 a0 = 5 then
  bd (f_X4_pop a0 h197) (fun x198 h199 =>
  ldR 56 418 a2 h199 fun x200 =>
  txEq x200 7 h199 fun x201 =>
  if x201 = 0 then
  (ldR 56 418 a2 h199 fun x202 =>
  txEq x202 35 h199 fun x203 =>
  if x203 = 0 then
  (if kc h199 a0 = 5 then
  bd (f_X4_push a0 (x198 ||| x196) h199) (fun _ h204 =>
  rok () h204)
  else none)
  else
  (if kc h199 a0 = 5 then
  bd (f_X4_push a0 (x198 ^^^ x196) h199) (fun _ h205 =>
  rok () h205)
  else none))
  else
  (if kc h199 a0 = 5 then
  bd (f_X4_push a0 (x198 &&& x196) h199) (fun _ h206 =>
  rok () h206)
  else none))
  else none)
  else none)
  else none)
  else
  if x1 = 23 then
  (if kc h a0 = 5 then
  bd (f_X4_step a0 h) (fun _ h207 =>
  ldR 5 81 a0 h207 fun x208 =>
  ldI 5 84 a0 h207 fun x209 =>
  aldJ 3 x208 (x209 - (1 : Int32)) h207 fun x210 =>
  ldI 56 422 a2 h207 fun x211 =>
  if (lg_cmp x210 (Int32.toInt64 x211)) = 0 then
  (ldI 56 423 a2 h207 fun x214 =>
  stI 63 453 a1 x214 h207 fun h215 =>
  rok () h215)
  else
  (if kc h207 a0 = 5 then
  bd (f_X4_pop a0 h207) (fun x212 h213 =>
  rok () h213)
  else none))
  else none)
  else
  if x1 = 24 then
  (if kc h a0 = 5 then
  bd (f_X4_step a0 h) (fun _ h216 =>
  if kc h216 a0 = 5 then
  bd (f_X4_pop a0 h216) (fun x217 h218 =>
  if (lg_cmp x217 (0 : Int64)) = 0 then
  (ldI 56 423 a2 h218 fun x219 =>
  stI 63 453 a1 x219 h218 fun h220 =>
  rok () h220)
  else
  (rok () h218))
  else none)
  else none)
  else
  if x1 = 25 then
  (ldI 56 423 a2 h fun x221 =>
  stI 63 453 a1 x221 h fun h222 =>
  rok () h222)
  else
  if x1 = 26 then
  (if kc h a0 = 5 then
  bd (f_X4_begins a0 a1 a2 h) (fun _ h223 =>
  rok () h223)
  else none)
  else
  if x1 = 27 then
  (if kc h a0 = 5 then
  bd (f_X4_goesOn a0 a1 a2 h) (fun _ h224 =>
  rok () h224)
  else none)
  else
  (if kc h a0 = 5 then
  bd (f_X4_part a0 a1 a2 h) (fun _ h2 =>
  rok () h2)
  else none)
noncomputable def f_X4_run_l0b91 (v0 : Nat) (ih : HP → Rs Unit) (h : HP) : Rs Unit :=
  ih  h
noncomputable def b_X4_run_l0 (v0 : Nat) (ih : HP → Rs Unit) (h : HP) : Rs Unit :=
  ldI 5 82 v0 h fun x1 =>
  if x1 ≤ 0 then
  (rok () h)
  else
  (ldR 5 78 v0 h fun x2 =>
  ldI 5 82 v0 h fun x3 =>
  aldR 11 x2 (x3 - (1 : Int32)) h fun x4 =>
  ldI 63 453 x4 h fun x5 =>
  ldR 63 452 x4 h fun x6 =>
  ldR 54 410 x6 h fun x7 =>
  lsSize x7 h fun x8 =>
  if x5 = x8 then
  (ldI 5 82 v0 h fun x16 =>
  stI 5 82 v0 (x16 - (1 : Int32)) h fun h17 =>
  ldI 63 455 x4 h17 fun x18 =>
  stI 5 86 v0 x18 h17 fun h19 =>
  f_X4_run_l0b91 v0 ih h19)
  else
  (ldR 63 452 x4 h fun x9 =>
  ldR 54 410 x9 h fun x10 =>
  ldI 63 453 x4 h fun x11 =>
  lsGet x10 x11 h fun x12 =>
  castR [56] x12 h (
  ldI 63 453 x4 h fun x13 =>
  stI 63 453 x4 (x13 + (1 : Int32)) h fun h14 =>
  if kc h14 v0 = 5 then
  bd (f_X4_done v0 x4 x12 h14) (fun _ h15 =>
  f_X4_run_l0b91 v0 ih h15)
  else none)))
noncomputable def f_X4_run_l0 (v0 : Nat) (n : Nat) : HP → Rs Unit := @Nat.rec (fun _ => HP → Rs Unit) (fun _ => none) (fun _ ih => b_X4_run_l0 v0 ih) n
noncomputable def f_X4_run_b91 (a0 : Nat) (h : HP) : Rs Unit :=
  bd (f_X4_run_l0 a0 NN h) (fun x1 h2 => rok () h2)
noncomputable def f_X4_run (a0 : Nat) (h : HP) : Rs Unit :=
  ldI 5 82 a0 h fun x1 =>
  if x1 ≤ 0 then
  (rok () h)
  else
  (ldR 5 78 a0 h fun x2 =>
  ldI 5 82 a0 h fun x3 =>
  aldR 11 x2 (x3 - (1 : Int32)) h fun x4 =>
  ldI 63 453 x4 h fun x5 =>
  ldR 63 452 x4 h fun x6 =>
  ldR 54 410 x6 h fun x7 =>
  lsSize x7 h fun x8 =>
  if x5 = x8 then
  (ldI 5 82 a0 h fun x16 =>
  stI 5 82 a0 (x16 - (1 : Int32)) h fun h17 =>
  ldI 63 455 x4 h17 fun x18 =>
  stI 5 86 a0 x18 h17 fun h19 =>
  f_X4_run_b91  a0 h19)
  else
  (ldR 63 452 x4 h fun x9 =>
  ldR 54 410 x9 h fun x10 =>
  ldI 63 453 x4 h fun x11 =>
  lsGet x10 x11 h fun x12 =>
  castR [56] x12 h (
  ldI 63 453 x4 h fun x13 =>
  stI 63 453 x4 (x13 + (1 : Int32)) h fun h14 =>
  if kc h14 a0 = 5 then
  bd (f_X4_done a0 x4 x12 h14) (fun _ h15 =>
  f_X4_run_b91  a0 h15)
  else none)))
noncomputable def b_X4_used_l9 (v0 : Nat) (v1 : Nat) (ih : Int32 → HP → Rs Unit) (a2 : Int32) (h : HP) : Rs Unit :=
  ldI 5 50 v0 h fun x1 =>
  if x1 ≤ a2 then
  (rok () h)
  else
  (ldR 5 49 v0 h fun x2 =>
  aldI 1 x2 a2 h fun x3 =>
  astI 1 v1 a2 (vp_nar .byte x3) h fun h4 =>
  lt3 (a2 + 1) fun x5 =>
  ih x5 h4)
noncomputable def f_X4_used_l9 (v0 : Nat) (v1 : Nat) (n : Nat) : Int32 → HP → Rs Unit := @Nat.rec (fun _ => Int32 → HP → Rs Unit) (fun _ _ => none) (fun _ ih => b_X4_used_l9 v0 v1 ih) n
noncomputable def f_X4_used (a0 : Nat) (h : HP) : Rs Nat :=
  ldI 5 50 a0 h fun x1 =>
  nwA 1281 x1 h fun p2 h3 =>
  bd (f_X4_used_l9 a0 p2 NN (0 : Int32) h3) (fun x4 h5 => stI 5 50 a0 (0 : Int32) h5 fun h6 =>
  rok p2 h6)
noncomputable def b_X4_ask_l194 (v0 : Nat) (v3 : Nat) (v4 : Nat) (v5 : Int32) (ih : Int32 → HP → Rs Unit) (a6 : Int32) (h : HP) : Rs Unit :=
  if (4 : Int32) ≤ a6 then
  (rok () h)
  else
  (ldR 5 95 v0 h fun x1 =>
  ldR 5 94 v0 h fun x2 =>
  ldR 5 96 v0 h fun x3 =>
  aldI 0 x3 v5 h fun x4 =>
  aldJ 3 x2 (((4 : Int32) * x4) + a6) h fun x5 =>
  astJ 3 x1 (((4 : Int32) * v5) + a6) x5 h fun h6 =>
  lt3 (a6 + 1) fun x7 =>
  ih x7 h6)
noncomputable def f_X4_ask_l194 (v0 : Nat) (v3 : Nat) (v4 : Nat) (v5 : Int32) (n : Nat) : Int32 → HP → Rs Unit := @Nat.rec (fun _ => Int32 → HP → Rs Unit) (fun _ _ => none) (fun _ ih => b_X4_ask_l194 v0 v3 v4 v5 ih) n
noncomputable def b_X4_ask_l182 (v0 : Nat) (v3 : Nat) (v4 : Nat) (ih : Int32 → HP → Rs Unit) (a5 : Int32) (h : HP) : Rs Unit :=
  ldI 5 97 v0 h fun x1 =>
  if x1 ≤ a5 then
  (rok () h)
  else
  (bd (f_X4_ask_l194 v0 v3 v4 a5 NN (0 : Int32) h) (fun x2 h3 => lt3 (a5 + 1) fun x4 =>
  ih x4 h3))
noncomputable def f_X4_ask_l182 (v0 : Nat) (v3 : Nat) (v4 : Nat) (n : Nat) : Int32 → HP → Rs Unit := @Nat.rec (fun _ => Int32 → HP → Rs Unit) (fun _ _ => none) (fun _ ih => b_X4_ask_l182 v0 v3 v4 ih) n
noncomputable def f_X4_ask_l260b317 (v0 : Nat) (v3 : Nat) (v4 : Nat) (ih : Int32 → HP → Rs Unit) (a5 : Int32) (s0 : Nat) (s1 : Int32) (s2 : Int32) (h : HP) : Rs Unit :=
  astI 0 s0 s1 s2 h fun h1 =>
  lt3 (a5 + 1) fun x2 =>
  ih x2 h1
noncomputable def b_X4_ask_l260 (v0 : Nat) (v3 : Nat) (v4 : Nat) (ih : Int32 → HP → Rs Unit) (a5 : Int32) (h : HP) : Rs Unit :=
  ldI 65 463 v3 h fun x1 =>
  if x1 ≤ a5 then
  (rok () h)
  else
  (ldR 5 99 v0 h fun x2 =>
  ldR 54 414 v4 h fun x3 =>
  lsGet x3 a5 h fun x4 =>
  castR [73] x4 h (
  ivGet x4 h fun x5 =>
  if x5 = (-2 : Int32) then
  (f_X4_ask_l260b317 v0 v3 v4 ih a5 x2 a5 (8 : Int32) h)
  else
  (ldR 54 414 v4 h fun x6 =>
  lsGet x6 a5 h fun x7 =>
  castR [73] x7 h (
  ivGet x7 h fun x8 =>
  f_X4_ask_l260b317 v0 v3 v4 ih a5 x2 a5 x8 h))))
noncomputable def f_X4_ask_l260 (v0 : Nat) (v3 : Nat) (v4 : Nat) (n : Nat) : Int32 → HP → Rs Unit := @Nat.rec (fun _ => Int32 → HP → Rs Unit) (fun _ _ => none) (fun _ ih => b_X4_ask_l260 v0 v3 v4 ih) n
noncomputable def f_X4_ask (a0 : Nat) (a1 : Int32) (h : HP) : Rs Int32 :=
  stI 5 51 a0 (-1 : Int32) h fun h1 =>
  stI 5 88 a0 (0 : Int32) h1 fun h2 =>
  if kc h2 a0 = 5 then
  bd (f_X4_hasView a0 h2) (fun x3 h4 =>
  if x3 = 0 then
  (rok (-13 : Int32) h4)
  else
  (if kc h4 a0 = 5 then
  bd (f_X4_used a0 h4) (fun x5 h6 =>
  if a1 < 0 then
  (rok (-1 : Int32) h6)
  else
  (if a1 ≤ (100000 : Int32) then
  (nwO 46 7 h6 fun p7 h8 =>
  ldR 5 52 a0 h8 fun x9 =>
  nwO 43 3 h8 fun p10 h11 =>
  if kc h11 p10 = 43 then
  bdc (f_X44_init p10 x5 h11) (fun _ h12 =>
  ldR 43 347 p10 h12 fun x19 =>
  ldR 5 57 a0 h12 fun x20 =>
  if kc h12 p7 = 46 then
  bdc (f_X48_init p7 x9 x19 x20 h12) (fun _ h21 =>
  if kc h21 p7 = 46 then
  bdc (f_X48_question p7 h21) (fun x28 h29 =>
  if kc h29 a0 = 5 then
  bdc (f_X4_meant a0 x28 h29) (fun x36 h37 =>
  ldR 46 361 p7 h37 fun x44 =>
  if kc h37 a0 = 5 then
  bdc (f_X4_areMade a0 x44 h37) (fun x45 h46 =>
  if x45 = 0 then
  (rok (-12 : Int32) h46)
  else
  (if kc h46 a0 = 5 then
  bd (f_X4_clearMachine a0 a1 (31 : Int32) h46) (fun _ h53 =>
  stR 5 90 a0 x28 h53 fun h54 =>
  stR 5 91 a0 x36 h54 fun h55 =>
  stI 5 97 a0 (0 : Int32) h55 fun h56 =>
  stI 5 101 a0 (0 : Int32) h56 fun h57 =>
  if kc h57 a0 = 5 then
  bdc (f_X4_enter a0 x36 (0 : Int32) (0 : Int32) h57) (fun _ h58 =>
  if kc h58 a0 = 5 then
  bdc (f_X4_run a0 h58) (fun _ h62 =>
  if kc h62 a0 = 5 then
  bd (f_X4_order a0 h62) (fun _ h66 =>
  bd (f_X4_ask_l182 a0 x28 x36 NN (0 : Int32) h66) (fun x67 h68 => ldI 5 97 a0 h68 fun x69 =>
  stI 5 98 a0 x69 h68 fun h70 =>
  ldI 65 463 x28 h70 fun x71 =>
  stI 5 100 a0 x71 h70 fun h72 =>
  bd (f_X4_ask_l260 a0 x28 x36 NN (0 : Int32) h72) (fun x73 h74 => ldI 5 98 a0 h74 fun x75 =>
  rok x75 h74)))
  else none) (fun h63 =>
  ldR 5 52 a0 h63 fun x64 =>
  ldI 6 131 x64 h63 fun x65 =>
  rok (-x65) h63)
  else none) (fun h59 =>
  ldR 5 52 a0 h59 fun x60 =>
  ldI 6 131 x60 h59 fun x61 =>
  rok (-x61) h59)
  else none)
  else none)) (fun h47 =>
  ldR 5 52 a0 h47 fun x48 =>
  ldI 6 132 x48 h47 fun x49 =>
  stI 5 51 a0 x49 h47 fun h50 =>
  ldR 5 52 a0 h50 fun x51 =>
  ldI 6 131 x51 h50 fun x52 =>
  rok ((-20 : Int32) - x52) h50)
  else none) (fun h38 =>
  ldR 5 52 a0 h38 fun x39 =>
  ldI 6 132 x39 h38 fun x40 =>
  stI 5 51 a0 x40 h38 fun h41 =>
  ldR 5 52 a0 h41 fun x42 =>
  ldI 6 131 x42 h41 fun x43 =>
  rok ((-20 : Int32) - x43) h41)
  else none) (fun h30 =>
  ldR 5 52 a0 h30 fun x31 =>
  ldI 6 132 x31 h30 fun x32 =>
  stI 5 51 a0 x32 h30 fun h33 =>
  ldR 5 52 a0 h33 fun x34 =>
  ldI 6 131 x34 h33 fun x35 =>
  rok ((-20 : Int32) - x35) h33)
  else none) (fun h22 =>
  ldR 5 52 a0 h22 fun x23 =>
  ldI 6 132 x23 h22 fun x24 =>
  stI 5 51 a0 x24 h22 fun h25 =>
  ldR 5 52 a0 h25 fun x26 =>
  ldI 6 131 x26 h25 fun x27 =>
  rok ((-20 : Int32) - x27) h25)
  else none) (fun h13 =>
  ldR 5 52 a0 h13 fun x14 =>
  ldI 6 132 x14 h13 fun x15 =>
  stI 5 51 a0 x15 h13 fun h16 =>
  ldR 5 52 a0 h16 fun x17 =>
  ldI 6 131 x17 h16 fun x18 =>
  rok ((-20 : Int32) - x18) h16)
  else none)
  else
  (rok (-1 : Int32) h6)))
  else none))
  else none
noncomputable def f_X4_at (a0 : Nat) (a1 : Int32) (h : HP) : Rs Int32 :=
  if a1 < 0 then
  (rok (-1 : Int32) h)
  else
  (ldR 5 106 a0 h fun x1 =>
  ldI 7 134 x1 h fun x2 =>
  if x2 ≤ a1 then
  (rok (-1 : Int32) h)
  else
  (ldR 5 106 a0 h fun x3 =>
  ldR 7 133 x3 h fun x4 =>
  aldI 1 x4 a1 h fun x5 =>
  rok (x5 &&& (255 : Int32)) h))
noncomputable def f_X4_bad (a0 : Nat) (a1 : Int32) (h : HP) : Rs Nat :=
  ldR 5 52 a0 h fun x1 =>
  if kc h x1 = 6 then
  bd (f_X5_at x1 (20 : Int32) a1 h) (fun x2 h3 =>
  rok x2 h3)
  else none
noncomputable def f_X4_basic (a0 : Int32) (a1 : Nat) (h : HP) : Rs Nat :=
  nwO 47 18 h fun p1 h2 =>
  if kc h2 p1 = 47 then
  bd (f_X49_init p1 a0 h2) (fun _ h3 =>
  stR 47 365 p1 a1 h3 fun h4 =>
  rok p1 h4)
  else none
noncomputable def f_X4_basics (h : HP) : Rs Nat :=
  nwC 156 3 h fun p1 h2 =>
  lsInit p1 h2 fun h3 =>
  bd (f_X4_basic (0 : Int32) 39 h3) (fun x4 h5 =>
  lsAdd p1 x4 h5 fun h6 =>
  bd (f_X4_basic (1 : Int32) 41 h6) (fun x7 h8 =>
  lsAdd p1 x7 h8 fun h9 =>
  bd (f_X4_basic (2 : Int32) 67 h9) (fun x10 h11 =>
  lsAdd p1 x10 h11 fun h12 =>
  bd (f_X4_basic (3 : Int32) 42 h12) (fun x13 h14 =>
  lsAdd p1 x13 h14 fun h15 =>
  bd (f_X4_basic (4 : Int32) 58 h15) (fun x16 h17 =>
  lsAdd p1 x16 h17 fun h18 =>
  bd (f_X4_basic (5 : Int32) 61 h18) (fun x19 h20 =>
  lsAdd p1 x19 h20 fun h21 =>
  bd (f_X4_basic (6 : Int32) 52 h21) (fun x22 h23 =>
  lsAdd p1 x22 h23 fun h24 =>
  bd (f_X4_basic (7 : Int32) 46 h24) (fun x25 h26 =>
  lsAdd p1 x25 h26 fun h27 =>
  bd (f_X4_basic (8 : Int32) 30 h27) (fun x28 h29 =>
  lsAdd p1 x28 h29 fun h30 =>
  bd (f_X4_basic (9 : Int32) 31 h30) (fun x31 h32 =>
  lsAdd p1 x31 h32 fun h33 =>
  rok p1 h33))))))))))
noncomputable def f_X4_begin_l15b38 (v0 : Nat) (ih : Nat → Int32 → HP → Rs Nat) (a1 : Nat) (a2 : Int32) (h : HP) : Rs Nat :=
  lt3 (a2 + (-1)) fun x1 =>
  ih a1 x1 h
noncomputable def b_X4_begin_l15 (v0 : Nat) (ih : Nat → Int32 → HP → Rs Nat) (a1 : Nat) (a2 : Int32) (h : HP) : Rs Nat :=
  if a2 < 0 then
  (rok a1 h)
  else
  (ldR 5 66 v0 h fun x1 =>
  aldR 10 x1 a2 h fun x2 =>
  ldI 9 137 x2 h fun x3 =>
  if x3 = 0 then
  (ldR 5 66 v0 h fun x4 =>
  aldR 10 x4 a2 h fun x5 =>
  f_X4_begin_l15b38 v0 ih x5 a2 h)
  else
  (f_X4_begin_l15b38 v0 ih a1 a2 h))
noncomputable def f_X4_begin_l15 (v0 : Nat) (n : Nat) : Nat → Int32 → HP → Rs Nat := @Nat.rec (fun _ => Nat → Int32 → HP → Rs Nat) (fun _ _ _ => none) (fun _ ih => b_X4_begin_l15 v0 ih) n
noncomputable def b_X4_begin_l98 (v0 : Nat) (v1 : Nat) (ih : Int32 → HP → Rs Unit) (a2 : Int32) (h : HP) : Rs Unit :=
  if (4000 : Int32) < a2 then
  (rok () h)
  else
  (ldR 9 140 v1 h fun x1 =>
  astA x1 a2 0 h fun h2 =>
  ldR 9 143 v1 h2 fun x3 =>
  astI 2 x3 a2 (vp_nar .boolean (0 : Int32)) h2 fun h4 =>
  lt3 (a2 + 1) fun x5 =>
  ih x5 h4)
noncomputable def f_X4_begin_l98 (v0 : Nat) (v1 : Nat) (n : Nat) : Int32 → HP → Rs Unit := @Nat.rec (fun _ => Int32 → HP → Rs Unit) (fun _ _ => none) (fun _ ih => b_X4_begin_l98 v0 v1 ih) n
noncomputable def b_X4_begin_l127 (v0 : Nat) (v1 : Nat) (ih : Int32 → HP → Rs Unit) (a2 : Int32) (h : HP) : Rs Unit :=
  if (400 : Int32) ≤ a2 then
  (rok () h)
  else
  (ldR 9 144 v1 h fun x1 =>
  astI 2 x1 a2 (vp_nar .boolean (0 : Int32)) h fun h2 =>
  lt3 (a2 + 1) fun x3 =>
  ih x3 h2)
noncomputable def f_X4_begin_l127 (v0 : Nat) (v1 : Nat) (n : Nat) : Int32 → HP → Rs Unit := @Nat.rec (fun _ => Int32 → HP → Rs Unit) (fun _ _ => none) (fun _ ih => b_X4_begin_l127 v0 v1 ih) n
noncomputable def b_X4_begin_l149 (v0 : Nat) (v1 : Nat) (ih : Int32 → HP → Rs Unit) (a2 : Int32) (h : HP) : Rs Unit :=
  if (16 : Int32) ≤ a2 then
  (rok () h)
  else
  (ldR 9 145 v1 h fun x1 =>
  ldR 5 63 v0 h fun x2 =>
  ldI 5 64 v0 h fun x3 =>
  aldR 14 x2 x3 h fun x4 =>
  ldR 59 439 x4 h fun x5 =>
  aldI 0 x5 a2 h fun x6 =>
  astI 0 x1 a2 x6 h fun h7 =>
  ldR 9 146 v1 h7 fun x8 =>
  astI 2 x8 a2 (vp_nar .boolean (0 : Int32)) h7 fun h9 =>
  ldR 9 147 v1 h9 fun x10 =>
  astI 2 x10 a2 (vp_nar .boolean (0 : Int32)) h9 fun h11 =>
  lt3 (a2 + 1) fun x12 =>
  ih x12 h11)
noncomputable def f_X4_begin_l149 (v0 : Nat) (v1 : Nat) (n : Nat) : Int32 → HP → Rs Unit := @Nat.rec (fun _ => Int32 → HP → Rs Unit) (fun _ _ => none) (fun _ ih => b_X4_begin_l149 v0 v1 ih) n
noncomputable def f_X4_begin (a0 : Nat) (h : HP) : Rs Int32 :=
  if kc h a0 = 5 then
  bd (f_X4_isOpen a0 h) (fun x1 h2 =>
  if x1 = 0 then
  (rok (-13 : Int32) h2)
  else
  (bd (f_X4_begin_l15 a0 NN 0 (7 : Int32) h2) (fun x3 h4 => if x3 = 0 then
  (rok (-12 : Int32) h4)
  else
  (ldI 5 67 a0 h4 fun x5 =>
  stI 5 67 a0 (x5 + (1 : Int32)) h4 fun h6 =>
  stI 9 137 x3 (1 : Int32) h6 fun h7 =>
  ldI 5 67 a0 h7 fun x8 =>
  stI 9 138 x3 x8 h7 fun h9 =>
  ldI 5 64 a0 h9 fun x10 =>
  stI 9 139 x3 x10 h9 fun h11 =>
  ldR 9 141 x3 h11 fun x12 =>
  lsClr x12 h11 fun h13 =>
  ldR 9 142 x3 h13 fun x14 =>
  lsClr x14 h13 fun h15 =>
  bd (f_X4_begin_l98 a0 x3 NN (0 : Int32) h15) (fun x16 h17 => bd (f_X4_begin_l127 a0 x3 NN (0 : Int32) h17) (fun x18 h19 => bd (f_X4_begin_l149 a0 x3 NN (0 : Int32) h19) (fun x20 h21 => stR 5 68 a0 x3 h21 fun h22 =>
  stI 5 69 a0 (-1 : Int32) h22 fun h23 =>
  ldI 9 138 x3 h23 fun x24 =>
  rok x24 h23)))))))
  else none
noncomputable def f_X4_bytesOf (a0 : Int32) (h : HP) : Rs Int32 :=
  if (1 : Int32) < a0 then
  (if (3 : Int32) < a0 then
  (if a0 = (4 : Int32) then
  (rok (4 : Int32) h)
  else
  (if a0 = (6 : Int32) then
  (rok (4 : Int32) h)
  else
  (rok (8 : Int32) h)))
  else
  (rok (2 : Int32) h))
  else
  (rok (1 : Int32) h)
noncomputable def b_X4_bits_l33 (v0 : Nat) (v1 : Nat) (v2 : Int32) (v3 : Int32) (ih : Int64 → Int32 → HP → Rs Int64) (a4 : Int64) (a6 : Int32) (h : HP) : Rs Int64 :=
  if v3 ≤ a6 then
  (rok a4 h)
  else
  (ldR 66 466 v1 h fun x1 =>
  ldI 66 468 v1 h fun x2 =>
  aldI 1 x1 (x2 + a6) h fun x3 =>
  lt3 ((a4 <<< (Int32.toInt64 (8 : Int32) &&& 63)) ||| (Int32.toInt64 (x3 &&& (255 : Int32)))) fun x4 =>
  lt3 (a6 + 1) fun x5 =>
  ih x4 x5 h)
noncomputable def f_X4_bits_l33 (v0 : Nat) (v1 : Nat) (v2 : Int32) (v3 : Int32) (n : Nat) : Int64 → Int32 → HP → Rs Int64 := @Nat.rec (fun _ => Int64 → Int32 → HP → Rs Int64) (fun _ _ _ => none) (fun _ ih => b_X4_bits_l33 v0 v1 v2 v3 ih) n
noncomputable def f_X4_bits_b105 (a0 : Nat) (a1 : Nat) (a2 : Int32) (a3 : Int32) (a4 : Int64) (h : HP) : Rs Int64 :=
  bd (f_X4_hasBits a2 a4 h) (fun x1 h2 =>
  if x1 = 0 then
  (ldI 66 468 a1 h2 fun x5 =>
  if kc h2 a0 = 5 then
  bd (f_X4_bad a0 x5 h2) (fun x6 h7 =>
  if kc h7 x6 = 69 then rex h7 else none)
  else none)
  else
  (ldI 66 468 a1 h2 fun x3 =>
  stI 66 468 a1 (x3 + a3) h2 fun h4 =>
  rok a4 h4))
noncomputable def f_X4_bits_b94 (a0 : Nat) (a1 : Nat) (a2 : Int32) (a3 : Int32) (a4 : Int64) (h : HP) : Rs Int64 :=
  if a2 = (4 : Int32) then
  (lt3 (Int32.toInt64 (Int64.toInt32 a4)) fun x1 =>
  f_X4_bits_b105  a0 a1 a2 a3 x1 h)
  else
  (f_X4_bits_b105  a0 a1 a2 a3 a4 h)
noncomputable def f_X4_bits_b82 (a0 : Nat) (a1 : Nat) (a2 : Int32) (a3 : Int32) (a4 : Int64) (h : HP) : Rs Int64 :=
  if a2 = (2 : Int32) then
  (lt3 (Int32.toInt64 (Int16.toInt32 (Int32.toInt16 (Int64.toInt32 a4)))) fun x1 =>
  f_X4_bits_b94  a0 a1 a2 a3 x1 h)
  else
  (f_X4_bits_b94  a0 a1 a2 a3 a4 h)
noncomputable def f_X4_bits (a0 : Nat) (a1 : Nat) (a2 : Int32) (h : HP) : Rs Int64 :=
  bd (f_X4_bytesOf a2 h) (fun x1 h2 =>
  ldI 66 467 a1 h2 fun x3 =>
  ldI 66 468 a1 h2 fun x4 =>
  if x1 ≤ (x3 - x4) then
  (bd (f_X4_bits_l33 a0 a1 a2 x1 NN (0 : Int64) (0 : Int32) h2) (fun x5 h6 => if a2 = (1 : Int32) then
  (lt3 (Int32.toInt64 (Int8.toInt32 (Int32.toInt8 (Int64.toInt32 x5)))) fun x7 =>
  f_X4_bits_b82  a0 a1 a2 x1 x7 h6)
  else
  (f_X4_bits_b82  a0 a1 a2 x1 x5 h6)))
  else
  (ldI 66 468 a1 h2 fun x8 =>
  if kc h2 a0 = 5 then
  bd (f_X4_bad a0 x8 h2) (fun x9 h10 =>
  if kc h10 x9 = 69 then rex h10 else none)
  else none))
noncomputable def b_X4_body_l52 (v0 : Nat) (v1 : Nat) (v2 : Nat) (v3 : Nat) (ih : Int32 → HP → Rs Unit) (a4 : Int32) (h : HP) : Rs Unit :=
  ldR 50 391 v2 h fun x1 =>
  lsSize x1 h fun x2 =>
  if x2 ≤ a4 then
  (rok () h)
  else
  (nwO 52 2 h fun p3 h4 =>
  ldR 50 391 v2 h4 fun x5 =>
  lsGet x5 a4 h4 fun x6 =>
  castR [49] x6 h4 (
  ldR 49 385 x6 h4 fun x7 =>
  ldR 45 353 x7 h4 fun x8 =>
  ldR 50 391 v2 h4 fun x9 =>
  lsGet x9 a4 h4 fun x10 =>
  castR [49] x10 h4 (
  ldR 49 384 x10 h4 fun x11 =>
  ldI 48 383 x11 h4 fun x12 =>
  if kc h4 p3 = 52 then
  bd (f_X54_init p3 x8 x12 h4) (fun _ h13 =>
  lsAdd v3 p3 h13 fun h14 =>
  lt3 (a4 + 1) fun x15 =>
  ih x15 h14)
  else none)))
noncomputable def f_X4_body_l52 (v0 : Nat) (v1 : Nat) (v2 : Nat) (v3 : Nat) (n : Nat) : Int32 → HP → Rs Unit := @Nat.rec (fun _ => Int32 → HP → Rs Unit) (fun _ _ => none) (fun _ ih => b_X4_body_l52 v0 v1 v2 v3 ih) n
noncomputable def f_X4_body_b34 (a0 : Nat) (a1 : Nat) (a2 : Nat) (s0 : Nat) (s1 : Int32) (h : HP) : Rs Unit :=
  ldI 50 393 a2 h fun x1 =>
  if kc h s0 = 5 then
  bd (f_X4_must s0 s1 x1 h) (fun _ h2 =>
  nwC 157 3 h2 fun p3 h4 =>
  lsInit p3 h4 fun h5 =>
  bd (f_X4_body_l52 a0 a1 a2 p3 NN (0 : Int32) h5) (fun x6 h7 => nwO 53 7 h7 fun p8 h9 =>
  if kc h9 p8 = 53 then
  bd (f_X55_init p8 a0 a1 p3 h9) (fun _ h10 =>
  ldR 50 392 a2 h10 fun x11 =>
  if kc h10 p8 = 53 then
  bd (f_X55_all p8 x11 h10) (fun _ h12 =>
  if kc h12 p8 = 53 then
  bd (f_X55_take p8 h12) (fun x13 h14 =>
  ldR 50 389 a2 h14 fun x15 =>
  ldI 48 383 x15 h14 fun x16 =>
  if kc h14 a0 = 5 then
  bd (f_X4_isFitting a0 x13 x16 h14) (fun x17 h18 =>
  ldI 50 393 a2 h18 fun x19 =>
  if kc h18 a0 = 5 then
  bd (f_X4_must a0 x17 x19 h18) (fun _ h20 =>
  ldR 50 389 a2 h20 fun x21 =>
  ldI 48 383 x21 h20 fun x22 =>
  if kc h20 p8 = 53 then
  bd (f_X55_widen p8 x13 x22 h20) (fun _ h23 =>
  ldR 53 408 p8 h23 fun x24 =>
  stR 50 394 a2 x24 h23 fun h25 =>
  ldR 50 394 a2 h25 fun x26 =>
  ldR 50 389 a2 h25 fun x27 =>
  ldI 48 383 x27 h25 fun x28 =>
  stI 54 411 x26 x28 h25 fun h29 =>
  rok () h29)
  else none)
  else none)
  else none)
  else none)
  else none)
  else none))
  else none
noncomputable def f_X4_body (a0 : Nat) (a1 : Nat) (a2 : Nat) (h : HP) : Rs Unit :=
  ldR 50 392 a2 h fun x1 =>
  if x1 = 0 then
  (rok () h)
  else
  (ldR 50 392 a2 h fun x2 =>
  ldR 50 392 a2 h fun x3 =>
  lsSize x3 h fun x4 =>
  bd (f_X4_heightOf x2 (0 : Int32) x4 h) (fun x5 h6 =>
  if (30 : Int32) < x5 then
  (f_X4_body_b34  a0 a1 a2 a0 (0 : Int32) h6)
  else
  (f_X4_body_b34  a0 a1 a2 a0 (1 : Int32) h6)))
noncomputable def f_X4_kindGiven (a0 : Nat) (a1 : Int32) (a2 : Int64) (h : HP) : Rs Int32 :=
  if a1 = (8 : Int32) then
  (if (lg_cmp a2 (0 : Int64)) = 0 then
  (rok (-2 : Int32) h)
  else
  (if kc h a0 = 5 then
  bd (f_X4_thingAt a0 a2 h) (fun x1 h2 =>
  ldI 58 430 x1 h2 fun x3 =>
  rok x3 h2)
  else none))
  else
  (rok a1 h)
noncomputable def f_X4_isFittingGiven (a0 : Nat) (a1 : Int32) (a2 : Int64) (a4 : Int32) (h : HP) : Rs Int32 :=
  if kc h a0 = 5 then
  bd (f_X4_kindGiven a0 a1 a2 h) (fun x1 h2 =>
  if kc h2 a0 = 5 then
  bd (f_X4_isFitting a0 x1 a4 h2) (fun x3 h4 =>
  rokZ x3 h4)
  else none)
  else none
noncomputable def b_X4_usedWord_l10 (v0 : Nat) (v1 : Nat) (ih : Int32 → HP → Rs Unit) (a2 : Int32) (h : HP) : Rs Unit :=
  ldI 5 50 v0 h fun x1 =>
  if x1 ≤ a2 then
  (rok () h)
  else
  (ldR 5 49 v0 h fun x2 =>
  aldI 1 x2 a2 h fun x3 =>
  sbApC v1 (UInt32.toInt32 (Int32.toUInt32 (x3 &&& (255 : Int32)) % 65536)) h fun h4 =>
  lt3 (a2 + 1) fun x5 =>
  ih x5 h4)
noncomputable def f_X4_usedWord_l10 (v0 : Nat) (v1 : Nat) (n : Nat) : Int32 → HP → Rs Unit := @Nat.rec (fun _ => Int32 → HP → Rs Unit) (fun _ _ => none) (fun _ ih => b_X4_usedWord_l10 v0 v1 ih) n
noncomputable def f_X4_usedWord (a0 : Nat) (h : HP) : Rs Nat :=
  nwC 72 4 h fun p1 h2 =>
  sbInit p1 h2 fun h3 =>
  bd (f_X4_usedWord_l10 a0 p1 NN (0 : Int32) h3) (fun x4 h5 => stI 5 50 a0 (0 : Int32) h5 fun h6 =>
  sbStr p1 h6 fun x7 h8 =>
  rok x7 h8)
noncomputable def b_X4_call_l157 (v0 : Nat) (v1 : Int32) (v2 : Int32) (v4 : Int32) (v8 : Nat) (ih : Int32 → HP → Rs (Unit ⊕ Unit)) (a9 : Int32) (h : HP) : Rs (Unit ⊕ Unit) :=
  if v4 ≤ a9 then
  (rok (Sum.inr ()) h)
  else
  (ldR 5 73 v0 h fun x1 =>
  aldI 0 x1 a9 h fun x2 =>
  ldR 5 74 v0 h fun x3 =>
  aldJ 3 x3 a9 h fun x4 =>
  ldR 50 391 v8 h fun x5 =>
  lsGet x5 a9 h fun x6 =>
  castR [49] x6 h (
  ldR 49 384 x6 h fun x7 =>
  ldI 48 383 x7 h fun x8 =>
  if kc h v0 = 5 then
  bd (f_X4_isFittingGiven v0 x2 x4 x8 h) (fun x9 h10 =>
  if x9 = 0 then
  (rok (Sum.inl ()) h10)
  else
  (lt3 (a9 + 1) fun x11 =>
  ih x11 h10))
  else none))
noncomputable def f_X4_call_l157 (v0 : Nat) (v1 : Int32) (v2 : Int32) (v4 : Int32) (v8 : Nat) (n : Nat) : Int32 → HP → Rs (Unit ⊕ Unit) := @Nat.rec (fun _ => Int32 → HP → Rs (Unit ⊕ Unit)) (fun _ _ => none) (fun _ ih => b_X4_call_l157 v0 v1 v2 v4 v8 ih) n
noncomputable def b_X4_call_l222 (v0 : Nat) (v1 : Int32) (v4 : Int32) (v8 : Nat) (ih : Int32 → HP → Rs (Unit ⊕ Unit)) (a9 : Int32) (h : HP) : Rs (Unit ⊕ Unit) :=
  if v4 ≤ a9 then
  (rok (Sum.inl ()) h)
  else
  (ldR 5 74 v0 h fun x1 =>
  aldJ 3 x1 a9 h fun x2 =>
  ldR 5 73 v0 h fun x3 =>
  aldI 0 x3 a9 h fun x4 =>
  ldR 50 391 v8 h fun x5 =>
  lsGet x5 a9 h fun x6 =>
  castR [49] x6 h (
  ldR 49 384 x6 h fun x7 =>
  ldI 48 383 x7 h fun x8 =>
  bdc (f_X4_widened x2 x4 x8 h) (fun x9 h10 =>
  if kc h10 v0 = 5 then
  bdc (f_X4_push v0 x9 h10) (fun _ h12 =>
  lt3 (a9 + 1) fun x14 =>
  ih x14 h12) (fun h13 =>
  rok (Sum.inr ()) h13)
  else none) (fun h11 =>
  rok (Sum.inr ()) h11)))
noncomputable def f_X4_call_l222 (v0 : Nat) (v1 : Int32) (v4 : Int32) (v8 : Nat) (n : Nat) : Int32 → HP → Rs (Unit ⊕ Unit) := @Nat.rec (fun _ => Int32 → HP → Rs (Unit ⊕ Unit)) (fun _ _ => none) (fun _ ih => b_X4_call_l222 v0 v1 v4 v8 ih) n
noncomputable def f_X4_call_b121 (a0 : Nat) (a1 : Int32) (a2 : Int32) (a4 : Int32) (s0 : Nat) (h : HP) : Rs Int32 :=
  if s0 = 0 then
  (rok (-1 : Int32) h)
  else
  (ldR 50 391 s0 h fun x1 =>
  lsSize x1 h fun x2 =>
  if x2 = a4 then
  (if a2 < 0 then
  (rok (-1 : Int32) h)
  else
  (if a2 ≤ (100000 : Int32) then
  (bd (f_X4_call_l157 a0 a1 a2 a4 s0 NN (0 : Int32) h) (Sum.elim (fun x3 => fun h4 => rok (-1 : Int32) h4) (fun x5 => fun h6 => if kc h6 a0 = 5 then
  bd (f_X4_clearMachine a0 a2 (30 : Int32) h6) (fun _ h7 =>
  bd (f_X4_call_l222 a0 a1 a4 s0 NN (0 : Int32) h7) (Sum.elim (fun x8 => fun h9 => ldR 50 394 s0 h9 fun x10 =>
  if kc h9 a0 = 5 then
  bdc (f_X4_enter a0 x10 a1 a4 h9) (fun _ h11 =>
  if kc h11 a0 = 5 then
  bdc (f_X4_run a0 h11) (fun _ h15 =>
  if kc h15 a0 = 5 then
  bdc (f_X4_pop a0 h15) (fun x19 h20 =>
  stJ 5 92 a0 x19 h20 fun h24 =>
  rok (0 : Int32) h24) (fun h21 =>
  ldR 5 52 a0 h21 fun x22 =>
  ldI 6 131 x22 h21 fun x23 =>
  rok (-x23) h21)
  else none) (fun h16 =>
  ldR 5 52 a0 h16 fun x17 =>
  ldI 6 131 x17 h16 fun x18 =>
  rok (-x18) h16)
  else none) (fun h12 =>
  ldR 5 52 a0 h12 fun x13 =>
  ldI 6 131 x13 h12 fun x14 =>
  rok (-x14) h12)
  else none) (fun x25 => fun h26 => ldR 5 52 a0 h26 fun x27 =>
  ldI 6 131 x27 h26 fun x28 =>
  rok (-x28) h26)))
  else none)))
  else
  (rok (-1 : Int32) h)))
  else
  (rok (-1 : Int32) h))
noncomputable def f_X4_call_b107 (a0 : Nat) (a1 : Int32) (a2 : Int32) (a3 : Nat) (a4 : Int32) (a6 : Nat) (h : HP) : Rs Int32 :=
  ldI 58 430 a6 h fun x1 =>
  if kc h a0 = 5 then
  bd (f_X4_resolved a0 x1 a3 h) (fun x2 h3 =>
  f_X4_call_b121  a0 a1 a2 a4 x2 h3)
  else none
noncomputable def f_X4_call_b55 (a0 : Nat) (a1 : Int32) (a2 : Int32) (a3 : Nat) (a4 : Int32) (a5 : Int32) (h : HP) : Rs Int32 :=
  if a5 = 0 then
  (rok (-14 : Int32) h)
  else
  (if a1 = 0 then
  (rok (-3 : Int32) h)
  else
  (if kc h a0 = 5 then
  bd (f_X4_thingAt a0 (Int32.toInt64 a1) h) (fun x1 h2 =>
  ldI 58 430 x1 h2 fun x3 =>
  if kc h2 a0 = 5 then
  bd (f_X4_kindAt a0 x3 h2) (fun x4 h5 =>
  ldI 47 363 x4 h5 fun x6 =>
  if x6 = (1 : Int32) then
  (f_X4_call_b107  a0 a1 a2 a3 a4 x1 h5)
  else
  (ldI 47 363 x4 h5 fun x7 =>
  if x7 = (4 : Int32) then
  (f_X4_call_b107  a0 a1 a2 a3 a4 x1 h5)
  else
  (f_X4_call_b121  a0 a1 a2 a4 0 h5)))
  else none)
  else none))
noncomputable def f_X4_call (a0 : Nat) (a1 : Int32) (a2 : Int32) (h : HP) : Rs Int32 :=
  stJ 5 92 a0 (0 : Int64) h fun h1 =>
  stI 5 88 a0 (0 : Int32) h1 fun h2 =>
  if kc h2 a0 = 5 then
  bd (f_X4_hasView a0 h2) (fun x3 h4 =>
  if x3 = 0 then
  (rok (-13 : Int32) h4)
  else
  (if kc h4 a0 = 5 then
  bd (f_X4_usedWord a0 h4) (fun x5 h6 =>
  ldI 5 75 a0 h6 fun x7 =>
  if kc h6 a0 = 5 then
  bd (f_X4_areAlive a0 h6) (fun x8 h9 =>
  stI 5 75 a0 (0 : Int32) h9 fun h10 =>
  if a1 = 0 then
  (f_X4_call_b55  a0 a1 a2 x5 x7 x8 h10)
  else
  (if kc h10 a0 = 5 then
  bd (f_X4_isAlive a0 (Int32.toInt64 a1) h10) (fun x11 h12 =>
  if x11 = 0 then
  (rok (-14 : Int32) h12)
  else
  (f_X4_call_b55  a0 a1 a2 x5 x7 x8 h12))
  else none))
  else none)
  else none))
  else none
noncomputable def f_X4_clash (a0 : Nat) (h : HP) : Rs Int32 :=
  ldI 5 72 a0 h fun x1 =>
  rok x1 h
noncomputable def b_X4_isChanged_l2 (v1 : Nat) (v2 : Nat) (ih : Int32 → HP → Rs (Unit ⊕ Unit)) (a3 : Int32) (h : HP) : Rs (Unit ⊕ Unit) :=
  ldR 9 141 v1 h fun x1 =>
  lsSize x1 h fun x2 =>
  if x2 ≤ a3 then
  (rok (Sum.inr ()) h)
  else
  (ldR 9 141 v1 h fun x3 =>
  lsGet x3 a3 h fun x4 =>
  eqR h x4 v2
  (rok (Sum.inl ()) h)
  (lt3 (a3 + 1) fun x5 =>
  ih x5 h))
noncomputable def f_X4_isChanged_l2 (v1 : Nat) (v2 : Nat) (n : Nat) : Int32 → HP → Rs (Unit ⊕ Unit) := @Nat.rec (fun _ => Int32 → HP → Rs (Unit ⊕ Unit)) (fun _ _ => none) (fun _ ih => b_X4_isChanged_l2 v1 v2 ih) n
noncomputable def f_X4_isChanged (a0 : Nat) (a1 : Nat) (a2 : Nat) (h : HP) : Rs Int32 :=
  bd (f_X4_isChanged_l2 a1 a2 NN (0 : Int32) h) (Sum.elim (fun x1 => fun h2 => rok (1 : Int32) h2) (fun x3 => fun h4 => rok (0 : Int32) h4))
noncomputable def f_X4_clashOf_l28b68 (v0 : Nat) (v1 : Nat) (v2 : Int32) (v3 : Int32) (v4 : Nat) (ih : Int32 → HP → Rs (Unit ⊕ Unit)) (a5 : Int32) (h : HP) : Rs (Unit ⊕ Unit) :=
  lt3 (a5 + 1) fun x1 =>
  ih x1 h
noncomputable def b_X4_clashOf_l28 (v0 : Nat) (v1 : Nat) (v2 : Int32) (v3 : Int32) (v4 : Nat) (ih : Int32 → HP → Rs (Unit ⊕ Unit)) (a5 : Int32) (h : HP) : Rs (Unit ⊕ Unit) :=
  if (16 : Int32) ≤ a5 then
  (rok (Sum.inr ()) h)
  else
  (ldR 59 440 v4 h fun x1 =>
  aldI 2 x1 a5 h fun x2 =>
  if x2 = 0 then
  (f_X4_clashOf_l28b68 v0 v1 v2 v3 v4 ih a5 h)
  else
  (ldR 9 147 v1 h fun x3 =>
  aldI 2 x3 a5 h fun x4 =>
  if x4 = 0 then
  (ldR 9 146 v1 h fun x5 =>
  aldI 2 x5 a5 h fun x6 =>
  if x6 = 0 then
  (f_X4_clashOf_l28b68 v0 v1 v2 v3 v4 ih a5 h)
  else
  (rok (Sum.inl ()) h))
  else
  (rok (Sum.inl ()) h)))
noncomputable def f_X4_clashOf_l28 (v0 : Nat) (v1 : Nat) (v2 : Int32) (v3 : Int32) (v4 : Nat) (n : Nat) : Int32 → HP → Rs (Unit ⊕ Unit) := @Nat.rec (fun _ => Int32 → HP → Rs (Unit ⊕ Unit)) (fun _ _ => none) (fun _ ih => b_X4_clashOf_l28 v0 v1 v2 v3 v4 ih) n
noncomputable def f_X4_clashOf_l77b147 (v0 : Nat) (v1 : Nat) (v3 : Int32) (v4 : Nat) (ih : Int32 → Int32 → HP → Rs Int32) (a2 : Int32) (a5 : Int32) (h : HP) : Rs Int32 :=
  lt3 (a5 + 1) fun x1 =>
  ih a2 x1 h
noncomputable def f_X4_clashOf_l77b141 (v0 : Nat) (v1 : Nat) (v3 : Int32) (v4 : Nat) (ih : Int32 → Int32 → HP → Rs Int32) (a5 : Int32) (a6 : Nat) (h : HP) : Rs Int32 :=
  ldI 58 429 a6 h fun x1 =>
  f_X4_clashOf_l77b147 v0 v1 v3 v4 ih x1 a5 h
noncomputable def f_X4_clashOf_l77b128 (v0 : Nat) (v1 : Nat) (v3 : Int32) (v4 : Nat) (ih : Int32 → Int32 → HP → Rs Int32) (a2 : Int32) (a5 : Int32) (a6 : Nat) (h : HP) : Rs Int32 :=
  if a2 < 0 then
  (f_X4_clashOf_l77b141 v0 v1 v3 v4 ih a5 a6 h)
  else
  (ldI 58 429 a6 h fun x1 =>
  if a2 ≤ x1 then
  (f_X4_clashOf_l77b147 v0 v1 v3 v4 ih a2 a5 h)
  else
  (f_X4_clashOf_l77b141 v0 v1 v3 v4 ih a5 a6 h))
noncomputable def b_X4_clashOf_l77 (v0 : Nat) (v1 : Nat) (v3 : Int32) (v4 : Nat) (ih : Int32 → Int32 → HP → Rs Int32) (a2 : Int32) (a5 : Int32) (h : HP) : Rs Int32 :=
  ldR 59 441 v4 h fun x1 =>
  lsSize x1 h fun x2 =>
  if x2 ≤ a5 then
  (rok a2 h)
  else
  (ldR 59 441 v4 h fun x3 =>
  lsGet x3 a5 h fun x4 =>
  castR [58] x4 h (
  ldR 9 143 v1 h fun x5 =>
  ldI 58 429 x4 h fun x6 =>
  aldI 2 x5 x6 h fun x7 =>
  if x7 = 0 then
  (if kc h v0 = 5 then
  bd (f_X4_isChanged v0 v1 x4 h) (fun x8 h9 =>
  if x8 = 0 then
  (f_X4_clashOf_l77b147 v0 v1 v3 v4 ih a2 a5 h9)
  else
  (f_X4_clashOf_l77b128 v0 v1 v3 v4 ih a2 a5 x4 h9))
  else none)
  else
  (f_X4_clashOf_l77b128 v0 v1 v3 v4 ih a2 a5 x4 h)))
noncomputable def f_X4_clashOf_l77 (v0 : Nat) (v1 : Nat) (v3 : Int32) (v4 : Nat) (n : Nat) : Int32 → Int32 → HP → Rs Int32 := @Nat.rec (fun _ => Int32 → Int32 → HP → Rs Int32) (fun _ _ _ => none) (fun _ ih => b_X4_clashOf_l77 v0 v1 v3 v4 ih) n
noncomputable def f_X4_clashOf_l190b236 (v0 : Nat) (v1 : Nat) (v2 : Int32) (v3 : Int32) (v4 : Nat) (v5 : Int32) (v6 : Nat) (ih : Int32 → Int32 → HP → Rs Int32) (a8 : Int32) (s0 : Int32) (h : HP) : Rs Int32 :=
  lt3 (a8 + 1) fun x1 =>
  ih s0 x1 h
noncomputable def f_X4_clashOf_l190b235 (v0 : Nat) (v1 : Nat) (v2 : Int32) (v3 : Int32) (v4 : Nat) (v5 : Int32) (v6 : Nat) (ih : Int32 → Int32 → HP → Rs Int32) (a8 : Int32) (h : HP) : Rs Int32 :=
  f_X4_clashOf_l190b236 v0 v1 v2 v3 v4 v5 v6 ih a8 (0 : Int32) h
noncomputable def b_X4_clashOf_l190 (v0 : Nat) (v1 : Nat) (v2 : Int32) (v3 : Int32) (v4 : Nat) (v5 : Int32) (v6 : Nat) (ih : Int32 → Int32 → HP → Rs Int32) (a7 : Int32) (a8 : Int32) (h : HP) : Rs Int32 :=
  ldR 5 53 v0 h fun x1 =>
  lsSize x1 h fun x2 =>
  if x2 ≤ a8 then
  (rok a7 h)
  else
  (if a7 = 0 then
  (ldR 9 144 v1 h fun x3 =>
  aldI 2 x3 a8 h fun x4 =>
  if x4 = 0 then
  (f_X4_clashOf_l190b235 v0 v1 v2 v3 v4 v5 v6 ih a8 h)
  else
  (ldI 58 430 v6 h fun x5 =>
  if kc h v0 = 5 then
  bd (f_X4_isBelow 100 v0 x5 a8 h) (fun x6 h7 =>
  if x6 = 0 then
  (f_X4_clashOf_l190b235 v0 v1 v2 v3 v4 v5 v6 ih a8 h7)
  else
  (f_X4_clashOf_l190b236 v0 v1 v2 v3 v4 v5 v6 ih a8 (1 : Int32) h7))
  else none))
  else
  (rok a7 h))
noncomputable def f_X4_clashOf_l190 (v0 : Nat) (v1 : Nat) (v2 : Int32) (v3 : Int32) (v4 : Nat) (v5 : Int32) (v6 : Nat) (n : Nat) : Int32 → Int32 → HP → Rs Int32 := @Nat.rec (fun _ => Int32 → Int32 → HP → Rs Int32) (fun _ _ _ => none) (fun _ ih => b_X4_clashOf_l190 v0 v1 v2 v3 v4 v5 v6 ih) n
noncomputable def f_X4_clashOf_l156b268 (v0 : Nat) (v1 : Nat) (v3 : Int32) (v4 : Nat) (ih : Int32 → Int32 → HP → Rs Int32) (a2 : Int32) (a5 : Int32) (h : HP) : Rs Int32 :=
  lt3 (a5 + 1) fun x1 =>
  ih a2 x1 h
noncomputable def f_X4_clashOf_l156b262 (v0 : Nat) (v1 : Nat) (v3 : Int32) (v4 : Nat) (ih : Int32 → Int32 → HP → Rs Int32) (a5 : Int32) (a6 : Nat) (h : HP) : Rs Int32 :=
  ldI 58 429 a6 h fun x1 =>
  f_X4_clashOf_l156b268 v0 v1 v3 v4 ih x1 a5 h
noncomputable def f_X4_clashOf_l156b244 (v0 : Nat) (v1 : Nat) (v3 : Int32) (v4 : Nat) (ih : Int32 → Int32 → HP → Rs Int32) (a2 : Int32) (a5 : Int32) (a6 : Nat) (a7 : Int32) (h : HP) : Rs Int32 :=
  if a7 = 0 then
  (f_X4_clashOf_l156b268 v0 v1 v3 v4 ih a2 a5 h)
  else
  (if a2 < 0 then
  (f_X4_clashOf_l156b262 v0 v1 v3 v4 ih a5 a6 h)
  else
  (ldI 58 429 a6 h fun x1 =>
  if a2 ≤ x1 then
  (f_X4_clashOf_l156b268 v0 v1 v3 v4 ih a2 a5 h)
  else
  (f_X4_clashOf_l156b262 v0 v1 v3 v4 ih a5 a6 h)))
noncomputable def b_X4_clashOf_l156 (v0 : Nat) (v1 : Nat) (v3 : Int32) (v4 : Nat) (ih : Int32 → Int32 → HP → Rs Int32) (a2 : Int32) (a5 : Int32) (h : HP) : Rs Int32 :=
  ldR 59 442 v4 h fun x1 =>
  lsSize x1 h fun x2 =>
  if x2 ≤ a5 then
  (rok a2 h)
  else
  (ldR 59 442 v4 h fun x3 =>
  lsGet x3 a5 h fun x4 =>
  castR [58] x4 h (
  bd (f_X4_clashOf_l190 v0 v1 a2 v3 v4 a5 x4 NN (0 : Int32) (0 : Int32) h) (fun x5 h6 => f_X4_clashOf_l156b244 v0 v1 v3 v4 ih a2 a5 x4 x5 h6)))
noncomputable def f_X4_clashOf_l156 (v0 : Nat) (v1 : Nat) (v3 : Int32) (v4 : Nat) (n : Nat) : Int32 → Int32 → HP → Rs Int32 := @Nat.rec (fun _ => Int32 → Int32 → HP → Rs Int32) (fun _ _ _ => none) (fun _ ih => b_X4_clashOf_l156 v0 v1 v3 v4 ih) n
noncomputable def b_X4_clashOf_l9 (v0 : Nat) (v1 : Nat) (ih : Int32 → Int32 → HP → Rs (Unit ⊕ Int32)) (a2 : Int32) (a3 : Int32) (h : HP) : Rs (Unit ⊕ Int32) :=
  ldI 5 64 v0 h fun x1 =>
  if x1 < a3 then
  (rok (Sum.inr a2) h)
  else
  (ldR 5 63 v0 h fun x2 =>
  aldR 14 x2 a3 h fun x3 =>
  bd (f_X4_clashOf_l28 v0 v1 a2 a3 x3 NN (0 : Int32) h) (Sum.elim (fun x4 => fun h5 => rok (Sum.inl ()) h5) (fun x6 => fun h7 => bd (f_X4_clashOf_l77 v0 v1 a3 x3 NN a2 (0 : Int32) h7) (fun x8 h9 => bd (f_X4_clashOf_l156 v0 v1 a3 x3 NN x8 (0 : Int32) h9) (fun x10 h11 => lt3 (a3 + 1) fun x12 =>
  ih x10 x12 h11)))))
noncomputable def f_X4_clashOf_l9 (v0 : Nat) (v1 : Nat) (n : Nat) : Int32 → Int32 → HP → Rs (Unit ⊕ Int32) := @Nat.rec (fun _ => Int32 → Int32 → HP → Rs (Unit ⊕ Int32)) (fun _ _ _ => none) (fun _ ih => b_X4_clashOf_l9 v0 v1 ih) n
noncomputable def f_X4_clashOf (a0 : Nat) (a1 : Nat) (h : HP) : Rs Int32 :=
  ldI 9 139 a1 h fun x1 =>
  lt3 (x1 + (1 : Int32)) fun x2 =>
  bd (f_X4_clashOf_l9 a0 a1 NN (-1 : Int32) x2 h) (Sum.elim (fun x3 => fun h4 => rok (0 : Int32) h4) (fun x5 => fun h6 => rok x5 h6))
noncomputable def b_X4_clearWalk_l9 (v0 : Nat) (ih : Int32 → HP → Rs Unit) (a1 : Int32) (h : HP) : Rs Unit :=
  if (4000 : Int32) < a1 then
  (rok () h)
  else
  (ldR 5 105 v0 h fun x1 =>
  astI 0 x1 a1 (0 : Int32) h fun h2 =>
  lt3 (a1 + 1) fun x3 =>
  ih x3 h2)
noncomputable def f_X4_clearWalk_l9 (v0 : Nat) (n : Nat) : Int32 → HP → Rs Unit := @Nat.rec (fun _ => Int32 → HP → Rs Unit) (fun _ _ => none) (fun _ ih => b_X4_clearWalk_l9 v0 ih) n
noncomputable def f_X4_clearWalk (a0 : Nat) (h : HP) : Rs Unit :=
  ldR 5 104 a0 h fun x1 =>
  lsClr x1 h fun h2 =>
  bd (f_X4_clearWalk_l9 a0 NN (0 : Int32) h2) (fun x3 h4 => rok () h4)
noncomputable def f_X4_cloned_b26 (a0 : Nat) (a1 : Int32) (h : HP) : Rs Int32 :=
  if a1 = 0 then
  (rok (-3 : Int32) h)
  else
  (if kc h a0 = 5 then
  bd (f_X4_thingAt a0 (Int32.toInt64 a1) h) (fun x1 h2 =>
  if kc h2 a0 = 5 then
  bd (f_X4_isArray a0 x1 h2) (fun x3 h4 =>
  if x3 = 0 then
  (rok (-1 : Int32) h4)
  else
  (if kc h4 a0 = 5 then
  bd (f_X4_seen a0 x1 h4) (fun x5 h6 =>
  alen x5 h6 fun x7 =>
  if kc h6 a0 = 5 then
  bd (f_X4_isRoom a0 x7 h6) (fun x8 h9 =>
  if x8 = 0 then
  (rok (-12 : Int32) h9)
  else
  (ldI 58 430 x1 h9 fun x10 =>
  if kc h9 a0 = 5 then
  bd (f_X4_values a0 x1 h9) (fun x11 h12 =>
  bd (f_X4_longs x11 h12) (fun x13 h14 =>
  if kc h14 a0 = 5 then
  bd (f_X4_made a0 x10 x13 h14) (fun x15 h16 =>
  ldI 58 429 x15 h16 fun x17 =>
  rok x17 h16)
  else none))
  else none))
  else none)
  else none))
  else none)
  else none)
noncomputable def f_X4_cloned (a0 : Nat) (a1 : Int32) (h : HP) : Rs Int32 :=
  if kc h a0 = 5 then
  bd (f_X4_hasAct a0 h) (fun x1 h2 =>
  if x1 = 0 then
  (rok (-13 : Int32) h2)
  else
  (if a1 = 0 then
  (f_X4_cloned_b26  a0 a1 h2)
  else
  (if kc h2 a0 = 5 then
  bd (f_X4_isAlive a0 (Int32.toInt64 a1) h2) (fun x3 h4 =>
  if x3 = 0 then
  (rok (-14 : Int32) h4)
  else
  (f_X4_cloned_b26  a0 a1 h4))
  else none)))
  else none
noncomputable def f_X4_code (a0 : Nat) (h : HP) : Rs Int32 :=
  ldI 5 76 a0 h fun x1 =>
  rok x1 h
noncomputable def f_X4_codeOf (a0 : Nat) (a1 : Int32) (h : HP) : Rs Int32 :=
  if kc h a0 = 5 then
  bd (f_X4_hasView a0 h) (fun x1 h2 =>
  if x1 = 0 then
  (rok (13 : Int32) h2)
  else
  (if a1 = 0 then
  (if a1 = 0 then
  (rok (3 : Int32) h2)
  else
  (rok (0 : Int32) h2))
  else
  (if kc h2 a0 = 5 then
  bd (f_X4_isAlive a0 (Int32.toInt64 a1) h2) (fun x3 h4 =>
  if x3 = 0 then
  (rok (14 : Int32) h4)
  else
  (if a1 = 0 then
  (rok (3 : Int32) h4)
  else
  (rok (0 : Int32) h4)))
  else none)))
  else none
noncomputable def f_X4_comparable_b29 (s0 : Int64) (h : HP) : Rs Int64 :=
  bd (f_X46_isZero s0 h) (fun x1 h2 =>
  if x1 = 0 then
  (if 0 ≤ (lg_cmp s0 (0 : Int64)) then
  (rok s0 h2)
  else
  (rok ((s0 ^^^ (9223372036854775807 : Int64)) + (1 : Int64)) h2))
  else
  (rok (0 : Int64) h2))
noncomputable def f_X4_comparable_b14 (a0 : Int32) (a1 : Int64) (h : HP) : Rs Int64 :=
  if a0 = (6 : Int32) then
  (bd (f_X46_wide (Int64.toInt32 a1) h) (fun x1 h2 =>
  f_X4_comparable_b29  x1 h2))
  else
  (f_X4_comparable_b29  a1 h)
noncomputable def f_X4_comparable (a0 : Int32) (a1 : Int64) (h : HP) : Rs Int64 :=
  if a0 = (6 : Int32) then
  (f_X4_comparable_b14  a0 a1 h)
  else
  (if a0 = (7 : Int32) then
  (f_X4_comparable_b14  a0 a1 h)
  else
  (rok a1 h))
noncomputable def f_X4_constant (a0 : Nat) (a1 : Int32) (a2 : Int32) (h : HP) : Rs Int32 :=
  if kc h a0 = 5 then
  bd (f_X4_isOpen a0 h) (fun x1 h2 =>
  if x1 = 0 then
  (rok (-13 : Int32) h2)
  else
  (if kc h2 a0 = 5 then
  bd (f_X4_isKind a0 a1 h2) (fun x3 h4 =>
  if x3 = 0 then
  (rok (-14 : Int32) h4)
  else
  (if kc h4 a0 = 5 then
  bd (f_X4_kindAt a0 a1 h4) (fun x5 h6 =>
  ldI 47 363 x5 h6 fun x7 =>
  if x7 = (3 : Int32) then
  (if a2 < 0 then
  (rok (-2 : Int32) h6)
  else
  (if kc h6 a0 = 5 then
  bd (f_X4_kindAt a0 a1 h6) (fun x8 h9 =>
  ldR 47 373 x8 h9 fun x10 =>
  lsSize x10 h9 fun x11 =>
  if a2 < x11 then
  (if kc h9 a0 = 5 then
  bd (f_X4_kindAt a0 a1 h9) (fun x12 h13 =>
  ldI 47 378 x12 h13 fun x14 =>
  rok (x14 + a2) h13)
  else none)
  else
  (rok (-2 : Int32) h9))
  else none))
  else
  (rok (-1 : Int32) h6))
  else none))
  else none))
  else none
noncomputable def b_X4_copy_l201 (v0 : Nat) (v2 : Int32) (v4 : Int32) (v5 : Int32) (v6 : Nat) (v7 : Nat) (v8 : Int32) (v9 : Int32) (v10 : Nat) (ih : Int32 → HP → Rs Unit) (a11 : Int32) (h : HP) : Rs Unit :=
  if v5 ≤ a11 then
  (rok () h)
  else
  (ldR 5 77 v0 h fun x1 =>
  aldJ 3 v10 (v2 + a11) h fun x2 =>
  astJ 3 x1 a11 x2 h fun h3 =>
  lt3 (a11 + 1) fun x4 =>
  ih x4 h3)
noncomputable def f_X4_copy_l201 (v0 : Nat) (v2 : Int32) (v4 : Int32) (v5 : Int32) (v6 : Nat) (v7 : Nat) (v8 : Int32) (v9 : Int32) (v10 : Nat) (n : Nat) : Int32 → HP → Rs Unit := @Nat.rec (fun _ => Int32 → HP → Rs Unit) (fun _ _ => none) (fun _ ih => b_X4_copy_l201 v0 v2 v4 v5 v6 v7 v8 v9 v10 ih) n
noncomputable def f_X4_copy_l253b304 (v0 : Nat) (v4 : Int32) (v5 : Int32) (v8 : Int32) (v9 : Int32) (v11 : Nat) (ih : Int32 → HP → Rs (Unit ⊕ Unit)) (a12 : Int32) (a13 : Int64) (h : HP) : Rs (Unit ⊕ Unit) :=
  astJ 3 v11 (v4 + a12) a13 h fun h1 =>
  lt3 (a12 + 1) fun x2 =>
  ih x2 h1
noncomputable def b_X4_copy_l253 (v0 : Nat) (v4 : Int32) (v5 : Int32) (v8 : Int32) (v9 : Int32) (v11 : Nat) (ih : Int32 → HP → Rs (Unit ⊕ Unit)) (a12 : Int32) (h : HP) : Rs (Unit ⊕ Unit) :=
  if v5 ≤ a12 then
  (rok (Sum.inr ()) h)
  else
  (ldR 5 77 v0 h fun x1 =>
  aldJ 3 x1 a12 h fun x2 =>
  if v8 < (8 : Int32) then
  (f_X4_copy_l253b304 v0 v4 v5 v8 v9 v11 ih a12 x2 h)
  else
  (if (lg_cmp x2 (0 : Int64)) = 0 then
  (f_X4_copy_l253b304 v0 v4 v5 v8 v9 v11 ih a12 x2 h)
  else
  (if kc h v0 = 5 then
  bd (f_X4_thingAt v0 x2 h) (fun x3 h4 =>
  ldI 58 430 x3 h4 fun x5 =>
  if kc h4 v0 = 5 then
  bd (f_X4_isBelow 100 v0 x5 v9 h4) (fun x6 h7 =>
  if x6 = 0 then
  (rok (Sum.inl ()) h7)
  else
  (f_X4_copy_l253b304 v0 v4 v5 v8 v9 v11 ih a12 x2 h7))
  else none)
  else none)))
noncomputable def f_X4_copy_l253 (v0 : Nat) (v4 : Int32) (v5 : Int32) (v8 : Int32) (v9 : Int32) (v11 : Nat) (n : Nat) : Int32 → HP → Rs (Unit ⊕ Unit) := @Nat.rec (fun _ => Int32 → HP → Rs (Unit ⊕ Unit)) (fun _ _ => none) (fun _ ih => b_X4_copy_l253 v0 v4 v5 v8 v9 v11 ih) n
noncomputable def f_X4_copy_b137 (a0 : Nat) (a2 : Int32) (a4 : Int32) (a5 : Int32) (a6 : Nat) (a7 : Nat) (a8 : Int32) (a9 : Int32) (h : HP) : Rs Int32 :=
  if a5 < 0 then
  (rok (-2 : Int32) h)
  else
  (if a2 < 0 then
  (rok (-2 : Int32) h)
  else
  (if a4 < 0 then
  (rok (-2 : Int32) h)
  else
  (if kc h a0 = 5 then
  bd (f_X4_seen a0 a6 h) (fun x1 h2 =>
  alen x1 h2 fun x3 =>
  if (x3 - a5) < a2 then
  (rok (-2 : Int32) h2)
  else
  (if kc h2 a0 = 5 then
  bd (f_X4_seen a0 a7 h2) (fun x4 h5 =>
  alen x4 h5 fun x6 =>
  if a4 ≤ (x6 - a5) then
  (if a5 = 0 then
  (rok (0 : Int32) h5)
  else
  (if kc h5 a0 = 5 then
  bd (f_X4_seen a0 a6 h5) (fun x7 h8 =>
  bd (f_X4_copy_l201 a0 a2 a4 a5 a6 a7 a8 a9 x7 NN (0 : Int32) h8) (fun x9 h10 => if kc h10 a0 = 5 then
  bd (f_X4_changing a0 a7 h10) (fun x11 h12 =>
  if x11 = 0 then
  (rok (-12 : Int32) h12)
  else
  (if kc h12 a0 = 5 then
  bd (f_X4_touch a0 a6 h12) (fun _ h13 =>
  bd (f_X4_copy_l253 a0 a4 a5 a8 a9 x11 NN (0 : Int32) h13) (Sum.elim (fun x14 => fun h15 => rok (-6 : Int32) h15) (fun x16 => fun h17 => rok (0 : Int32) h17)))
  else none))
  else none))
  else none))
  else
  (rok (-2 : Int32) h5))
  else none))
  else none)))
noncomputable def f_X4_copy_b128 (a0 : Nat) (a2 : Int32) (a4 : Int32) (a5 : Int32) (a6 : Nat) (a7 : Nat) (a8 : Int32) (a9 : Int32) (h : HP) : Rs Int32 :=
  if a8 = a9 then
  (f_X4_copy_b137  a0 a2 a4 a5 a6 a7 a8 a9 h)
  else
  (rok (-1 : Int32) h)
noncomputable def f_X4_copy_b39 (a0 : Nat) (a1 : Int32) (a2 : Int32) (a3 : Int32) (a4 : Int32) (a5 : Int32) (h : HP) : Rs Int32 :=
  if a1 = 0 then
  (rok (-3 : Int32) h)
  else
  (if a3 = 0 then
  (rok (-3 : Int32) h)
  else
  (if kc h a0 = 5 then
  bd (f_X4_thingAt a0 (Int32.toInt64 a1) h) (fun x1 h2 =>
  if kc h2 a0 = 5 then
  bd (f_X4_thingAt a0 (Int32.toInt64 a3) h2) (fun x3 h4 =>
  if kc h4 a0 = 5 then
  bd (f_X4_isArray a0 x1 h4) (fun x5 h6 =>
  if x5 = 0 then
  (rok (-1 : Int32) h6)
  else
  (if kc h6 a0 = 5 then
  bd (f_X4_isArray a0 x3 h6) (fun x7 h8 =>
  if x7 = 0 then
  (rok (-1 : Int32) h8)
  else
  (ldI 58 430 x1 h8 fun x9 =>
  if kc h8 a0 = 5 then
  bd (f_X4_kindAt a0 x9 h8) (fun x10 h11 =>
  ldI 47 367 x10 h11 fun x12 =>
  ldI 58 430 x3 h11 fun x13 =>
  if kc h11 a0 = 5 then
  bd (f_X4_kindAt a0 x13 h11) (fun x14 h15 =>
  ldI 47 367 x14 h15 fun x16 =>
  if x12 < (8 : Int32) then
  (f_X4_copy_b128  a0 a2 a4 a5 x1 x3 x12 x16 h15)
  else
  (if (8 : Int32) ≤ x16 then
  (f_X4_copy_b137  a0 a2 a4 a5 x1 x3 x12 x16 h15)
  else
  (f_X4_copy_b128  a0 a2 a4 a5 x1 x3 x12 x16 h15)))
  else none)
  else none))
  else none))
  else none)
  else none)
  else none))
noncomputable def f_X4_copy_b23 (a0 : Nat) (a1 : Int32) (a2 : Int32) (a3 : Int32) (a4 : Int32) (a5 : Int32) (h : HP) : Rs Int32 :=
  if a3 = 0 then
  (f_X4_copy_b39  a0 a1 a2 a3 a4 a5 h)
  else
  (if kc h a0 = 5 then
  bd (f_X4_isAlive a0 (Int32.toInt64 a3) h) (fun x1 h2 =>
  if x1 = 0 then
  (rok (-14 : Int32) h2)
  else
  (f_X4_copy_b39  a0 a1 a2 a3 a4 a5 h2))
  else none)
noncomputable def f_X4_copy (a0 : Nat) (a1 : Int32) (a2 : Int32) (a3 : Int32) (a4 : Int32) (a5 : Int32) (h : HP) : Rs Int32 :=
  if kc h a0 = 5 then
  bd (f_X4_hasAct a0 h) (fun x1 h2 =>
  if x1 = 0 then
  (rok (-13 : Int32) h2)
  else
  (if a1 = 0 then
  (f_X4_copy_b23  a0 a1 a2 a3 a4 a5 h2)
  else
  (if kc h2 a0 = 5 then
  bd (f_X4_isAlive a0 (Int32.toInt64 a1) h2) (fun x3 h4 =>
  if x3 = 0 then
  (rok (-14 : Int32) h4)
  else
  (f_X4_copy_b23  a0 a1 a2 a3 a4 a5 h4))
  else none)))
  else none
noncomputable def b_X4_crash_l80 (v0 : Nat) (ih : HP → Rs Unit) (h : HP) : Rs Unit :=
  ldR 5 53 v0 h fun x1 =>
  lsSize x1 h fun x2 =>
  ldI 5 56 v0 h fun x3 =>
  if x2 ≤ x3 then
  (rok () h)
  else
  (ldR 5 53 v0 h fun x4 =>
  ldR 5 53 v0 h fun x5 =>
  lsSize x5 h fun x6 =>
  lsRem x4 (x6 - (1 : Int32)) h fun x7 h8 =>
  castR [47] x7 h8 (
  ih  h8))
noncomputable def f_X4_crash_l80 (v0 : Nat) (n : Nat) : HP → Rs Unit := @Nat.rec (fun _ => HP → Rs Unit) (fun _ => none) (fun _ ih => b_X4_crash_l80 v0 ih) n
noncomputable def f_X4_crash_b65 (a0 : Nat) (h : HP) : Rs Int32 :=
  stI 5 70 a0 (1 : Int32) h fun h1 =>
  stR 5 68 a0 0 h1 fun h2 =>
  stI 5 69 a0 (-1 : Int32) h2 fun h3 =>
  bd (f_X4_crash_l80 a0 NN h3) (fun x4 h5 => stI 5 72 a0 (-1 : Int32) h5 fun h6 =>
  stI 5 51 a0 (-1 : Int32) h6 fun h7 =>
  stI 5 76 a0 (0 : Int32) h7 fun h8 =>
  stJ 5 92 a0 (0 : Int64) h8 fun h9 =>
  stI 5 88 a0 (0 : Int32) h9 fun h10 =>
  stI 5 98 a0 (0 : Int32) h10 fun h11 =>
  stI 5 100 a0 (0 : Int32) h11 fun h12 =>
  stI 5 103 a0 (0 : Int32) h12 fun h13 =>
  ldR 5 106 a0 h13 fun x14 =>
  stI 7 134 x14 (0 : Int32) h13 fun h15 =>
  ldR 5 111 a0 h15 fun x16 =>
  stI 8 136 x16 (0 : Int32) h15 fun h17 =>
  stI 5 75 a0 (0 : Int32) h17 fun h18 =>
  rok (1 : Int32) h18)
noncomputable def f_X4_crash (a0 : Nat) (a1 : Int32) (h : HP) : Rs Int32 :=
  ldI 5 55 a0 h fun x1 =>
  if x1 = 0 then
  (rok (0 : Int32) h)
  else
  (ldI 5 70 a0 h fun x2 =>
  if x2 = 0 then
  (if 0 ≤ a1 then
  (ldR 5 123 a0 h fun x3 =>
  lsSize x3 h fun x4 =>
  lt3 (x4 - (1 : Int32)) fun x5 =>
  if x5 < 0 then
  (f_X4_crash_b65  a0 h)
  else
  (ldI 5 122 a0 h fun x6 =>
  ldR 5 123 a0 h fun x7 =>
  lsGet x7 x5 h fun x8 =>
  castR [73] x8 h (
  ivGet x8 h fun x9 =>
  stI 5 122 a0 (Int64.toInt32 (mnJ (Int32.toInt64 x6) ((Int32.toInt64 x9) + (Int32.toInt64 a1)))) h fun h10 =>
  f_X4_crash_b65  a0 h10)))
  else
  (rok (0 : Int32) h))
  else
  (rok (0 : Int32) h))
noncomputable def f_X4_crc_l22b49 (v0 : Nat) (v1 : Int32) (v3 : Int32) (ih : Int32 → Int32 → HP → Rs Int32) (a4 : Int32) (s0 : Int32) (h : HP) : Rs Int32 :=
  lt3 (a4 + 1) fun x1 =>
  ih s0 x1 h
noncomputable def b_X4_crc_l22 (v0 : Nat) (v1 : Int32) (v3 : Int32) (ih : Int32 → Int32 → HP → Rs Int32) (a2 : Int32) (a4 : Int32) (h : HP) : Rs Int32 :=
  if (8 : Int32) ≤ a4 then
  (rok a2 h)
  else
  (if (a2 &&& (1 : Int32)) = (1 : Int32) then
  (f_X4_crc_l22b49 v0 v1 v3 ih a4 ((UInt32.toInt32 (Int32.toUInt32 a2 >>> (Int32.toUInt32 (1 : Int32) &&& Int32.toUInt32 31))) ^^^ (-306674912 : Int32)) h)
  else
  (f_X4_crc_l22b49 v0 v1 v3 ih a4 (UInt32.toInt32 (Int32.toUInt32 a2 >>> (Int32.toUInt32 (1 : Int32) &&& Int32.toUInt32 31))) h))
noncomputable def f_X4_crc_l22 (v0 : Nat) (v1 : Int32) (v3 : Int32) (n : Nat) : Int32 → Int32 → HP → Rs Int32 := @Nat.rec (fun _ => Int32 → Int32 → HP → Rs Int32) (fun _ _ _ => none) (fun _ ih => b_X4_crc_l22 v0 v1 v3 ih) n
noncomputable def b_X4_crc_l4 (v0 : Nat) (v1 : Int32) (ih : Int32 → Int32 → HP → Rs Int32) (a2 : Int32) (a3 : Int32) (h : HP) : Rs Int32 :=
  if v1 ≤ a3 then
  (rok a2 h)
  else
  (aldI 1 v0 a3 h fun x1 =>
  lt3 (a2 ^^^ (x1 &&& (255 : Int32))) fun x2 =>
  bd (f_X4_crc_l22 v0 v1 a3 NN x2 (0 : Int32) h) (fun x3 h4 => lt3 (a3 + 1) fun x5 =>
  ih x3 x5 h4))
noncomputable def f_X4_crc_l4 (v0 : Nat) (v1 : Int32) (n : Nat) : Int32 → Int32 → HP → Rs Int32 := @Nat.rec (fun _ => Int32 → Int32 → HP → Rs Int32) (fun _ _ _ => none) (fun _ ih => b_X4_crc_l4 v0 v1 ih) n
noncomputable def f_X4_crc (a0 : Nat) (a1 : Int32) (h : HP) : Rs Int32 :=
  bd (f_X4_crc_l4 a0 a1 NN (-1 : Int32) (0 : Int32) h) (fun x1 h2 => rok (x1 ^^^ (-1 : Int32)) h2)
noncomputable def f_X4_toldKind (a0 : Nat) (a1 : Int32) (h : HP) : Rs Nat :=
  ldR 5 53 a0 h fun x1 =>
  lsGet x1 ((10 : Int32) + a1) h fun x2 =>
  castR [47] x2 h (
  rok x2 h)
noncomputable def b_X4_isRoomFor_l26 (v0 : Nat) (v1 : Nat) (v2 : Int32) (ih : Int32 → Int32 → HP → Rs Int32) (a3 : Int32) (a4 : Int32) (h : HP) : Rs Int32 :=
  ldR 5 71 v0 h fun x1 =>
  lsSize x1 h fun x2 =>
  if x2 ≤ a4 then
  (rok a3 h)
  else
  (if a3 = 0 then
  (ldR 5 71 v0 h fun x3 =>
  lsGet x3 a4 h fun x4 =>
  castR [45] x4 h (
  ldR 45 353 x4 h fun x5 =>
  lsGet v1 v2 h fun x6 =>
  castR [45] x6 h (
  ldR 45 353 x6 h fun x7 =>
  txEq x5 x7 h fun x8 =>
  lt3 (a4 + 1) fun x9 =>
  ih x8 x9 h)))
  else
  (rok a3 h))
noncomputable def f_X4_isRoomFor_l26 (v0 : Nat) (v1 : Nat) (v2 : Int32) (n : Nat) : Int32 → Int32 → HP → Rs Int32 := @Nat.rec (fun _ => Int32 → Int32 → HP → Rs Int32) (fun _ _ _ => none) (fun _ ih => b_X4_isRoomFor_l26 v0 v1 v2 ih) n
noncomputable def f_X4_isRoomFor_l13b98 (v0 : Nat) (v1 : Nat) (ih : Int32 → HP → Rs Unit) (a2 : Int32) (h : HP) : Rs Unit :=
  lt3 (a2 + 1) fun x1 =>
  ih x1 h
noncomputable def f_X4_isRoomFor_l13b78 (v0 : Nat) (v1 : Nat) (ih : Int32 → HP → Rs Unit) (a2 : Int32) (a3 : Int32) (h : HP) : Rs Unit :=
  if a3 = 0 then
  (ldR 5 71 v0 h fun x1 =>
  lsGet v1 a2 h fun x2 =>
  castR [45] x2 h (
  lsAdd x1 x2 h fun h3 =>
  f_X4_isRoomFor_l13b98 v0 v1 ih a2 h3))
  else
  (f_X4_isRoomFor_l13b98 v0 v1 ih a2 h)
noncomputable def b_X4_isRoomFor_l13 (v0 : Nat) (v1 : Nat) (ih : Int32 → HP → Rs Unit) (a2 : Int32) (h : HP) : Rs Unit :=
  lsSize v1 h fun x1 =>
  if x1 ≤ a2 then
  (rok () h)
  else
  (bd (f_X4_isRoomFor_l26 v0 v1 a2 NN (0 : Int32) (0 : Int32) h) (fun x2 h3 => f_X4_isRoomFor_l13b78 v0 v1 ih a2 x2 h3))
noncomputable def f_X4_isRoomFor_l13 (v0 : Nat) (v1 : Nat) (n : Nat) : Int32 → HP → Rs Unit := @Nat.rec (fun _ => Int32 → HP → Rs Unit) (fun _ _ => none) (fun _ ih => b_X4_isRoomFor_l13 v0 v1 ih) n
noncomputable def b_X4_isRoomFor_l114 (v0 : Nat) (ih : Int32 → Int32 → HP → Rs Int32) (a2 : Int32) (a3 : Int32) (h : HP) : Rs Int32 :=
  ldI 5 54 v0 h fun x1 =>
  if x1 ≤ a3 then
  (rok a2 h)
  else
  (if kc h v0 = 5 then
  bd (f_X4_toldKind v0 a3 h) (fun x2 h3 =>
  ldR 47 373 x2 h3 fun x4 =>
  lsSize x4 h3 fun x5 =>
  lt3 (a2 + x5) fun x6 =>
  lt3 (a3 + 1) fun x7 =>
  ih x6 x7 h3)
  else none)
noncomputable def f_X4_isRoomFor_l114 (v0 : Nat) (n : Nat) : Int32 → Int32 → HP → Rs Int32 := @Nat.rec (fun _ => Int32 → Int32 → HP → Rs Int32) (fun _ _ _ => none) (fun _ ih => b_X4_isRoomFor_l114 v0 ih) n
noncomputable def f_X4_isRoomFor (a0 : Nat) (a1 : Nat) (h : HP) : Rs Int32 :=
  nwC 158 3 h fun p1 h2 =>
  lsInit p1 h2 fun h3 =>
  stR 5 71 a0 p1 h3 fun h4 =>
  bd (f_X4_isRoomFor_l13 a0 a1 NN (0 : Int32) h4) (fun x5 h6 => ldR 5 71 a0 h6 fun x7 =>
  lsSize x7 h6 fun x8 =>
  bd (f_X4_isRoomFor_l114 a0 NN x8 (0 : Int32) h6) (fun x9 h10 => if (4000 : Int32) < x9 then
  (rok (0 : Int32) h10)
  else
  (rok (1 : Int32) h10)))
abbrev TY_S10 : Type := (Nat → HP → Rs Nat)
noncomputable def b_X4_fieldsOf_l25 (R : TY_S10) (v0 : Nat) (v1 : Nat) (ih : Int32 → HP → Rs Unit) (a2 : Int32) (h : HP) : Rs Unit :=
  ldR 47 371 v0 h fun x1 =>
  lsSize x1 h fun x2 =>
  if x2 ≤ a2 then
  (rok () h)
  else
  (ldR 47 371 v0 h fun x3 =>
  lsGet x3 a2 h fun x4 =>
  castR [49] x4 h (
  lsAdd v1 x4 h fun h5 =>
  lt3 (a2 + 1) fun x6 =>
  ih x6 h5))
noncomputable def f_X4_fieldsOf_l25 (R : TY_S10) (v0 : Nat) (v1 : Nat) (n : Nat) : Int32 → HP → Rs Unit := @Nat.rec (fun _ => Int32 → HP → Rs Unit) (fun _ _ => none) (fun _ ih => b_X4_fieldsOf_l25 R v0 v1 ih) n
noncomputable def f_X4_fieldsOf_b23 (R : TY_S10) (a0 : Nat) (a1 : Nat) (h : HP) : Rs Nat :=
  bd (f_X4_fieldsOf_l25 R a0 a1 NN (0 : Int32) h) (fun x1 h2 => rok a1 h2)
noncomputable def f_X4_fieldsOf_o (R : TY_S10) (a0 : Nat) (h : HP) : Rs Nat :=
  nwC 159 3 h fun p1 h2 =>
  lsInit p1 h2 fun h3 =>
  ldR 47 375 a0 h3 fun x4 =>
  if x4 = 0 then
  (f_X4_fieldsOf_b23 R  a0 p1 h3)
  else
  (ldR 47 375 a0 h3 fun x5 =>
  bd (R x5 h3) (fun x6 h7 =>
  f_X4_fieldsOf_b23 R  a0 x6 h7))
noncomputable def r_S10 (n : Nat) : TY_S10 := @Nat.rec (fun _ => TY_S10) (fun _ _ => none) (fun _ R => (f_X4_fieldsOf_o R)) n
noncomputable def f_X4_fieldsOf (n : Nat) : Nat → HP → Rs Nat := (r_S10 n)
noncomputable def f_X4_isReached_l50b111 (v1 : Nat) (v2 : Nat) (v3 : Nat) (v4 : Int32) (v5 : Nat) (ih : Int32 → HP → Rs (Unit ⊕ Unit)) (a6 : Int32) (h : HP) : Rs (Unit ⊕ Unit) :=
  lt3 (a6 + 1) fun x1 =>
  ih x1 h
noncomputable def b_X4_isReached_l50 (v1 : Nat) (v2 : Nat) (v3 : Nat) (v4 : Int32) (v5 : Nat) (ih : Int32 → HP → Rs (Unit ⊕ Unit)) (a6 : Int32) (h : HP) : Rs (Unit ⊕ Unit) :=
  ldR 47 376 v5 h fun x1 =>
  lsSize x1 h fun x2 =>
  if x2 ≤ a6 then
  (rok (Sum.inr ()) h)
  else
  (ldR 47 376 v5 h fun x3 =>
  lsGet x3 a6 h fun x4 =>
  castR [47] x4 h (
  eqR h x4 v1
  (rok (Sum.inl ()) h)
  (ldI 47 362 x4 h fun x5 =>
  aldI 2 v2 x5 h fun x6 =>
  if x6 = 0 then
  (ldI 47 362 x4 h fun x7 =>
  astI 2 v2 x7 (vp_nar .boolean (1 : Int32)) h fun h8 =>
  lsAdd v3 x4 h8 fun h9 =>
  f_X4_isReached_l50b111 v1 v2 v3 v4 v5 ih a6 h9)
  else
  (f_X4_isReached_l50b111 v1 v2 v3 v4 v5 ih a6 h))))
noncomputable def f_X4_isReached_l50 (v1 : Nat) (v2 : Nat) (v3 : Nat) (v4 : Int32) (v5 : Nat) (n : Nat) : Int32 → HP → Rs (Unit ⊕ Unit) := @Nat.rec (fun _ => Int32 → HP → Rs (Unit ⊕ Unit)) (fun _ _ => none) (fun _ ih => b_X4_isReached_l50 v1 v2 v3 v4 v5 ih) n
noncomputable def b_X4_isReached_l27 (v1 : Nat) (v2 : Nat) (v3 : Nat) (ih : Int32 → HP → Rs (Unit ⊕ Unit)) (a4 : Int32) (h : HP) : Rs (Unit ⊕ Unit) :=
  lsSize v3 h fun x1 =>
  if x1 ≤ a4 then
  (rok (Sum.inr ()) h)
  else
  (lsGet v3 a4 h fun x2 =>
  castR [47] x2 h (
  bd (f_X4_isReached_l50 v1 v2 v3 a4 x2 NN (0 : Int32) h) (Sum.elim (fun x3 => fun h4 => rok (Sum.inl ()) h4) (fun x5 => fun h6 => lt3 (a4 + 1) fun x7 =>
  ih x7 h6))))
noncomputable def f_X4_isReached_l27 (v1 : Nat) (v2 : Nat) (v3 : Nat) (n : Nat) : Int32 → HP → Rs (Unit ⊕ Unit) := @Nat.rec (fun _ => Int32 → HP → Rs (Unit ⊕ Unit)) (fun _ _ => none) (fun _ ih => b_X4_isReached_l27 v1 v2 v3 ih) n
noncomputable def f_X4_isReached (a0 : Nat) (a1 : Nat) (h : HP) : Rs Int32 :=
  ldR 5 53 a0 h fun x1 =>
  lsSize x1 h fun x2 =>
  nwA 1302 x2 h fun p3 h4 =>
  nwC 160 3 h4 fun p5 h6 =>
  lsInit p5 h6 fun h7 =>
  lsAdd p5 a1 h7 fun h8 =>
  bd (f_X4_isReached_l27 a1 p3 p5 NN (0 : Int32) h8) (Sum.elim (fun x9 => fun h10 => rok (1 : Int32) h10) (fun x11 => fun h12 => rok (0 : Int32) h12))
noncomputable def b_X4_isAboveItself_l21 (v0 : Nat) (v1 : Nat) (ih : Nat → Int32 → HP → Rs (Unit ⊕ Unit)) (a2 : Nat) (a3 : Int32) (h : HP) : Rs (Unit ⊕ Unit) :=
  ldI 5 54 v0 h fun x1 =>
  if x1 ≤ a3 then
  (rok (Sum.inr ()) h)
  else
  (if a2 = 0 then
  (rok (Sum.inr ()) h)
  else
  (eqR h a2 v1
  (rok (Sum.inl ()) h)
  (ldR 47 375 a2 h fun x2 =>
  lt3 (a3 + 1) fun x3 =>
  ih x2 x3 h)))
noncomputable def f_X4_isAboveItself_l21 (v0 : Nat) (v1 : Nat) (n : Nat) : Nat → Int32 → HP → Rs (Unit ⊕ Unit) := @Nat.rec (fun _ => Nat → Int32 → HP → Rs (Unit ⊕ Unit)) (fun _ _ _ => none) (fun _ ih => b_X4_isAboveItself_l21 v0 v1 ih) n
noncomputable def f_X4_isAboveItself (a0 : Nat) (a1 : Nat) (h : HP) : Rs Int32 :=
  ldI 47 363 a1 h fun x1 =>
  if x1 = (2 : Int32) then
  (if kc h a0 = 5 then
  bd (f_X4_isReached a0 a1 h) (fun x7 h8 =>
  rokZ x7 h8)
  else none)
  else
  (ldR 47 375 a1 h fun x2 =>
  bd (f_X4_isAboveItself_l21 a0 a1 NN x2 (0 : Int32) h) (Sum.elim (fun x3 => fun h4 => rok (1 : Int32) h4) (fun x5 => fun h6 => rok (0 : Int32) h6)))
noncomputable def b_X4_isWhole_l10 (v0 : Nat) (v1 : Nat) (v2 : Nat) (ih : Nat → HP → Rs Unit) (a3 : Nat) (h : HP) : Rs Unit :=
  if a3 = 0 then
  (rok () h)
  else
  (lsAdd v2 a3 h fun h1 =>
  ldR 47 375 a3 h1 fun x2 =>
  ih x2 h1)
noncomputable def f_X4_isWhole_l10 (v0 : Nat) (v1 : Nat) (v2 : Nat) (n : Nat) : Nat → HP → Rs Unit := @Nat.rec (fun _ => Nat → HP → Rs Unit) (fun _ _ => none) (fun _ ih => b_X4_isWhole_l10 v0 v1 v2 ih) n
noncomputable def b_X4_isWhole_l46 (v0 : Nat) (v1 : Nat) (v2 : Nat) (v3 : Int32) (ih : Int32 → HP → Rs (Unit ⊕ Unit)) (a4 : Int32) (h : HP) : Rs (Unit ⊕ Unit) :=
  lsGet v2 v3 h fun x1 =>
  castR [47] x1 h (
  ldR 47 372 x1 h fun x2 =>
  lsSize x2 h fun x3 =>
  if x3 ≤ a4 then
  (rok (Sum.inr ()) h)
  else
  (lsGet v2 v3 h fun x4 =>
  castR [47] x4 h (
  ldR 47 372 x4 h fun x5 =>
  lsGet x5 a4 h fun x6 =>
  castR [50] x6 h (
  ldR 50 390 x6 h fun x7 =>
  ldR 45 353 x7 h fun x8 =>
  if kc h v0 = 5 then
  bd (f_X4_bodied v0 v1 x8 h) (fun x9 h10 =>
  if x9 = 0 then
  (rok (Sum.inl ()) h10)
  else
  (lt3 (a4 + 1) fun x11 =>
  ih x11 h10))
  else none))))
noncomputable def f_X4_isWhole_l46 (v0 : Nat) (v1 : Nat) (v2 : Nat) (v3 : Int32) (n : Nat) : Int32 → HP → Rs (Unit ⊕ Unit) := @Nat.rec (fun _ => Int32 → HP → Rs (Unit ⊕ Unit)) (fun _ _ => none) (fun _ ih => b_X4_isWhole_l46 v0 v1 v2 v3 ih) n
noncomputable def b_X4_isWhole_l35 (v0 : Nat) (v1 : Nat) (v2 : Nat) (ih : Int32 → HP → Rs (Unit ⊕ Unit)) (a3 : Int32) (h : HP) : Rs (Unit ⊕ Unit) :=
  lsSize v2 h fun x1 =>
  if x1 ≤ a3 then
  (rok (Sum.inr ()) h)
  else
  (bd (f_X4_isWhole_l46 v0 v1 v2 a3 NN (0 : Int32) h) (Sum.elim (fun x2 => fun h3 => rok (Sum.inl ()) h3) (fun x4 => fun h5 => lt3 (a3 + 1) fun x6 =>
  ih x6 h5)))
noncomputable def f_X4_isWhole_l35 (v0 : Nat) (v1 : Nat) (v2 : Nat) (n : Nat) : Int32 → HP → Rs (Unit ⊕ Unit) := @Nat.rec (fun _ => Int32 → HP → Rs (Unit ⊕ Unit)) (fun _ _ => none) (fun _ ih => b_X4_isWhole_l35 v0 v1 v2 ih) n
noncomputable def f_X4_isWhole (a0 : Nat) (a1 : Nat) (h : HP) : Rs Int32 :=
  nwC 161 3 h fun p1 h2 =>
  lsInit p1 h2 fun h3 =>
  bd (f_X4_isWhole_l10 a0 a1 p1 NN a1 h3) (fun x4 h5 => bd (f_X4_allFaces 100 a1 p1 h5) (fun _ h6 =>
  bd (f_X4_isWhole_l35 a0 a1 p1 NN (0 : Int32) h6) (Sum.elim (fun x7 => fun h8 => rok (0 : Int32) h8) (fun x9 => fun h10 => rok (1 : Int32) h10))))
noncomputable def f_X4_lay_l80b177 (v0 : Nat) (v1 : Int32) (v2 : Nat) (v3 : Int32) (v4 : Nat) (ih : Int32 → HP → Rs Unit) (a5 : Int32) (h : HP) : Rs Unit :=
  lt3 (a5 + 1) fun x1 =>
  ih x1 h
noncomputable def f_X4_lay_l80b119 (v0 : Nat) (v1 : Int32) (v2 : Nat) (v3 : Int32) (v4 : Nat) (ih : Int32 → HP → Rs Unit) (a5 : Int32) (s0 : Nat) (h : HP) : Rs Unit :=
  if s0 = 0 then
  (f_X4_lay_l80b177 v0 v1 v2 v3 v4 ih a5 h)
  else
  (ldR 5 58 v0 h fun x1 =>
  ldI 5 54 v0 h fun x2 =>
  ldI 47 362 s0 h fun x3 =>
  aldI 2 x1 (((v1 * x2) + x3) - (10 : Int32)) h fun x4 =>
  if x4 = 0 then
  (ldR 5 58 v0 h fun x5 =>
  ldI 5 54 v0 h fun x6 =>
  ldI 47 362 s0 h fun x7 =>
  astI 2 x5 (((v1 * x6) + x7) - (10 : Int32)) (vp_nar .boolean (1 : Int32)) h fun h8 =>
  lsAdd v2 s0 h8 fun h9 =>
  f_X4_lay_l80b177 v0 v1 v2 v3 v4 ih a5 h9)
  else
  (f_X4_lay_l80b177 v0 v1 v2 v3 v4 ih a5 h))
noncomputable def b_X4_lay_l80 (v0 : Nat) (v1 : Int32) (v2 : Nat) (v3 : Int32) (v4 : Nat) (ih : Int32 → HP → Rs Unit) (a5 : Int32) (h : HP) : Rs Unit :=
  ldR 47 376 v4 h fun x1 =>
  lsSize x1 h fun x2 =>
  if x2 ≤ a5 then
  (rok () h)
  else
  (if 0 ≤ a5 then
  (ldR 47 376 v4 h fun x3 =>
  lsGet x3 a5 h fun x4 =>
  castR [47] x4 h (
  f_X4_lay_l80b119 v0 v1 v2 v3 v4 ih a5 x4 h))
  else
  (ldR 47 375 v4 h fun x5 =>
  f_X4_lay_l80b119 v0 v1 v2 v3 v4 ih a5 x5 h))
noncomputable def f_X4_lay_l80 (v0 : Nat) (v1 : Int32) (v2 : Nat) (v3 : Int32) (v4 : Nat) (n : Nat) : Int32 → HP → Rs Unit := @Nat.rec (fun _ => Int32 → HP → Rs Unit) (fun _ _ => none) (fun _ ih => b_X4_lay_l80 v0 v1 v2 v3 v4 ih) n
noncomputable def b_X4_lay_l59 (v0 : Nat) (v1 : Int32) (v2 : Nat) (ih : Int32 → HP → Rs Unit) (a3 : Int32) (h : HP) : Rs Unit :=
  lsSize v2 h fun x1 =>
  if x1 ≤ a3 then
  (rok () h)
  else
  (lsGet v2 a3 h fun x2 =>
  castR [47] x2 h (
  bd (f_X4_lay_l80 v0 v1 v2 a3 x2 NN (-1 : Int32) h) (fun x3 h4 => lt3 (a3 + 1) fun x5 =>
  ih x5 h4)))
noncomputable def f_X4_lay_l59 (v0 : Nat) (v1 : Int32) (v2 : Nat) (n : Nat) : Int32 → HP → Rs Unit := @Nat.rec (fun _ => Int32 → HP → Rs Unit) (fun _ _ => none) (fun _ ih => b_X4_lay_l59 v0 v1 v2 ih) n
noncomputable def b_X4_lay_l17 (v0 : Nat) (ih : Int32 → HP → Rs Unit) (a1 : Int32) (h : HP) : Rs Unit :=
  ldI 5 54 v0 h fun x1 =>
  if x1 ≤ a1 then
  (rok () h)
  else
  (nwC 162 3 h fun p2 h3 =>
  lsInit p2 h3 fun h4 =>
  if kc h4 v0 = 5 then
  bd (f_X4_toldKind v0 a1 h4) (fun x5 h6 =>
  lsAdd p2 x5 h6 fun h7 =>
  ldR 5 58 v0 h7 fun x8 =>
  ldI 5 54 v0 h7 fun x9 =>
  astI 2 x8 ((a1 * x9) + a1) (vp_nar .boolean (1 : Int32)) h7 fun h10 =>
  bd (f_X4_lay_l59 v0 a1 p2 NN (0 : Int32) h10) (fun x11 h12 => lt3 (a1 + 1) fun x13 =>
  ih x13 h12))
  else none)
noncomputable def f_X4_lay_l17 (v0 : Nat) (n : Nat) : Int32 → HP → Rs Unit := @Nat.rec (fun _ => Int32 → HP → Rs Unit) (fun _ _ => none) (fun _ ih => b_X4_lay_l17 v0 ih) n
noncomputable def f_X4_lay (a0 : Nat) (h : HP) : Rs Unit :=
  ldI 5 54 a0 h fun x1 =>
  ldI 5 54 a0 h fun x2 =>
  nwA 1322 (x1 * x2) h fun p3 h4 =>
  stR 5 58 a0 p3 h4 fun h5 =>
  bd (f_X4_lay_l17 a0 NN (0 : Int32) h5) (fun x6 h7 => rok () h7)
noncomputable def b_X4_isAmong_l2 (v0 : Nat) (v1 : Nat) (ih : Int32 → HP → Rs (Unit ⊕ Unit)) (a2 : Int32) (h : HP) : Rs (Unit ⊕ Unit) :=
  lsSize v0 h fun x1 =>
  if x1 ≤ a2 then
  (rok (Sum.inr ()) h)
  else
  (lsGet v0 a2 h fun x2 =>
  castR [49] x2 h (
  ldR 49 385 x2 h fun x3 =>
  ldR 45 353 x3 h fun x4 =>
  txEq x4 v1 h fun x5 =>
  if x5 = 0 then
  (lt3 (a2 + 1) fun x6 =>
  ih x6 h)
  else
  (rok (Sum.inl ()) h)))
noncomputable def f_X4_isAmong_l2 (v0 : Nat) (v1 : Nat) (n : Nat) : Int32 → HP → Rs (Unit ⊕ Unit) := @Nat.rec (fun _ => Int32 → HP → Rs (Unit ⊕ Unit)) (fun _ _ => none) (fun _ ih => b_X4_isAmong_l2 v0 v1 ih) n
noncomputable def f_X4_isAmong (a0 : Nat) (a1 : Nat) (h : HP) : Rs Int32 :=
  bd (f_X4_isAmong_l2 a0 a1 NN (0 : Int32) h) (Sum.elim (fun x1 => fun h2 => rok (1 : Int32) h2) (fun x3 => fun h4 => rok (0 : Int32) h4))
noncomputable def f_X4_known (a0 : Nat) (a1 : Nat) (h : HP) : Rs Unit :=
  ldR 5 53 a0 h fun x1 =>
  bd (f_X4_kindOfType x1 a1 (0 : Int32) h) (fun x2 h3 =>
  if x2 < 0 then
  (ldI 48 381 a1 h3 fun x4 =>
  if kc h3 a0 = 5 then
  bd (f_X4_must a0 (0 : Int32) x4 h3) (fun _ h5 =>
  rok () h5)
  else none)
  else
  (ldI 48 381 a1 h3 fun x6 =>
  if kc h3 a0 = 5 then
  bd (f_X4_must a0 (1 : Int32) x6 h3) (fun _ h7 =>
  rok () h7)
  else none))
noncomputable def f_X4_signature_l20b92 (v0 : Nat) (v1 : Nat) (v2 : Nat) (v3 : Int32) (v4 : Nat) (ih : Int32 → HP → Rs Unit) (a5 : Int32) (a6 : Nat) (s0 : Nat) (s1 : Int32) (h : HP) : Rs Unit :=
  ldR 49 385 a6 h fun x1 =>
  ldI 45 354 x1 h fun x2 =>
  if kc h s0 = 5 then
  bd (f_X4_must s0 s1 x2 h) (fun _ h3 =>
  lsAdd v4 a6 h3 fun h4 =>
  lt3 (a5 + 1) fun x5 =>
  ih x5 h4)
  else none
noncomputable def f_X4_signature_l20b91 (v0 : Nat) (v1 : Nat) (v2 : Nat) (v3 : Int32) (v4 : Nat) (ih : Int32 → HP → Rs Unit) (a5 : Int32) (a6 : Nat) (s0 : Nat) (h : HP) : Rs Unit :=
  f_X4_signature_l20b92 v0 v1 v2 v3 v4 ih a5 a6 s0 (0 : Int32) h
noncomputable def b_X4_signature_l20 (v0 : Nat) (v1 : Nat) (v2 : Nat) (v3 : Int32) (v4 : Nat) (ih : Int32 → HP → Rs Unit) (a5 : Int32) (h : HP) : Rs Unit :=
  ldR 50 391 v2 h fun x1 =>
  lsSize x1 h fun x2 =>
  if x2 ≤ a5 then
  (rok () h)
  else
  (ldR 50 391 v2 h fun x3 =>
  lsGet x3 a5 h fun x4 =>
  castR [49] x4 h (
  ldR 49 384 x4 h fun x5 =>
  if kc h v0 = 5 then
  bd (f_X4_known v0 x5 h) (fun _ h6 =>
  ldR 49 385 x4 h6 fun x7 =>
  ldR 45 353 x7 h6 fun x8 =>
  if kc h6 v0 = 5 then
  bd (f_X4_isClassName v0 x8 h6) (fun x9 h10 =>
  if x9 = 0 then
  (ldR 49 385 x4 h10 fun x11 =>
  ldR 45 353 x11 h10 fun x12 =>
  bd (f_X4_isAmong v4 x12 h10) (fun x13 h14 =>
  if x13 = 0 then
  (f_X4_signature_l20b92 v0 v1 v2 v3 v4 ih a5 x4 v0 (1 : Int32) h14)
  else
  (f_X4_signature_l20b91 v0 v1 v2 v3 v4 ih a5 x4 v0 h14)))
  else
  (f_X4_signature_l20b91 v0 v1 v2 v3 v4 ih a5 x4 v0 h10))
  else none)
  else none))
noncomputable def f_X4_signature_l20 (v0 : Nat) (v1 : Nat) (v2 : Nat) (v3 : Int32) (v4 : Nat) (n : Nat) : Int32 → HP → Rs Unit := @Nat.rec (fun _ => Int32 → HP → Rs Unit) (fun _ _ => none) (fun _ ih => b_X4_signature_l20 v0 v1 v2 v3 v4 ih) n
noncomputable def f_X4_signature_l120b163 (v0 : Nat) (v1 : Nat) (v2 : Nat) (v3 : Int32) (ih : Int32 → HP → Rs Unit) (a5 : Int32) (s0 : Nat) (s1 : Int32) (h : HP) : Rs Unit :=
  ldR 50 390 v2 h fun x1 =>
  ldI 45 354 x1 h fun x2 =>
  if kc h s0 = 5 then
  bd (f_X4_must s0 s1 x2 h) (fun _ h3 =>
  lt3 (a5 + 1) fun x4 =>
  ih x4 h3)
  else none
noncomputable def b_X4_signature_l120 (v0 : Nat) (v1 : Nat) (v2 : Nat) (v3 : Int32) (ih : Int32 → HP → Rs Unit) (a5 : Int32) (h : HP) : Rs Unit :=
  if v3 ≤ a5 then
  (rok () h)
  else
  (ldR 47 372 v1 h fun x1 =>
  lsGet x1 a5 h fun x2 =>
  castR [50] x2 h (
  ldR 50 390 x2 h fun x3 =>
  ldR 45 353 x3 h fun x4 =>
  ldR 50 390 v2 h fun x5 =>
  ldR 45 353 x5 h fun x6 =>
  txEq x4 x6 h fun x7 =>
  if x7 = 0 then
  (f_X4_signature_l120b163 v0 v1 v2 v3 ih a5 v0 (1 : Int32) h)
  else
  (f_X4_signature_l120b163 v0 v1 v2 v3 ih a5 v0 (0 : Int32) h)))
noncomputable def f_X4_signature_l120 (v0 : Nat) (v1 : Nat) (v2 : Nat) (v3 : Int32) (n : Nat) : Int32 → HP → Rs Unit := @Nat.rec (fun _ => Int32 → HP → Rs Unit) (fun _ _ => none) (fun _ ih => b_X4_signature_l120 v0 v1 v2 v3 ih) n
noncomputable def f_X4_signature_b279 (a0 : Nat) (a2 : Nat) (s0 : Int32) (h : HP) : Rs Unit :=
  ldI 50 387 a2 h fun x1 =>
  if kc h a0 = 5 then
  bd (f_X4_must a0 s0 x1 h) (fun _ h2 =>
  rok () h2)
  else none
noncomputable def f_X4_signature_b278 (a0 : Nat) (a2 : Nat) (h : HP) : Rs Unit :=
  f_X4_signature_b279  a0 a2 (0 : Int32) h
noncomputable def f_X4_signature_b274 (a0 : Nat) (a2 : Nat) (h : HP) : Rs Unit :=
  f_X4_signature_b279  a0 a2 (1 : Int32) h
noncomputable def f_X4_signature_b246 (a0 : Nat) (a1 : Nat) (a2 : Nat) (a5 : Int32) (h : HP) : Rs Unit :=
  ldI 50 388 a2 h fun x1 =>
  if x1 = (1 : Int32) then
  (if a5 = 0 then
  (ldI 47 363 a1 h fun x2 =>
  if x2 = (1 : Int32) then
  (ldI 47 364 a1 h fun x3 =>
  if x3 = 0 then
  (f_X4_signature_b278  a0 a2 h)
  else
  (f_X4_signature_b274  a0 a2 h))
  else
  (f_X4_signature_b278  a0 a2 h))
  else
  (f_X4_signature_b278  a0 a2 h))
  else
  (f_X4_signature_b278  a0 a2 h)
noncomputable def f_X4_signature_b230 (a0 : Nat) (a2 : Nat) (h : HP) : Rs Unit :=
  f_X4_signature_b279  a0 a2 (0 : Int32) h
noncomputable def f_X4_signature_b226 (a0 : Nat) (a2 : Nat) (h : HP) : Rs Unit :=
  f_X4_signature_b279  a0 a2 (1 : Int32) h
noncomputable def f_X4_signature_b213 (a0 : Nat) (a2 : Nat) (a5 : Int32) (h : HP) : Rs Unit :=
  ldI 50 388 a2 h fun x1 =>
  if x1 = (2 : Int32) then
  (if a5 = 0 then
  (f_X4_signature_b230  a0 a2 h)
  else
  (f_X4_signature_b226  a0 a2 h))
  else
  (f_X4_signature_b230  a0 a2 h)
noncomputable def f_X4_signature_b191 (a0 : Nat) (a1 : Nat) (a2 : Nat) (s0 : Int32) (h : HP) : Rs Unit :=
  ldI 47 363 a1 h fun x1 =>
  if x1 = (2 : Int32) then
  (ldI 50 388 a2 h fun x3 =>
  if x3 = 0 then
  (if s0 = 0 then
  (f_X4_signature_b226  a0 a2 h)
  else
  (f_X4_signature_b213  a0 a2 s0 h))
  else
  (f_X4_signature_b213  a0 a2 s0 h))
  else
  (ldI 50 388 a2 h fun x2 =>
  if x2 = 0 then
  (if s0 = 0 then
  (f_X4_signature_b246  a0 a1 a2 s0 h)
  else
  (f_X4_signature_b274  a0 a2 h))
  else
  (f_X4_signature_b246  a0 a1 a2 s0 h))
noncomputable def f_X4_signature (a0 : Nat) (a1 : Nat) (a2 : Nat) (a3 : Int32) (h : HP) : Rs Unit :=
  ldR 50 389 a2 h fun x1 =>
  if kc h a0 = 5 then
  bd (f_X4_known a0 x1 h) (fun _ h2 =>
  nwC 163 3 h2 fun p3 h4 =>
  lsInit p3 h4 fun h5 =>
  bd (f_X4_signature_l20 a0 a1 a2 a3 p3 NN (0 : Int32) h5) (fun x6 h7 => bd (f_X4_signature_l120 a0 a1 a2 a3 NN (0 : Int32) h7) (fun x8 h9 => ldR 50 392 a2 h9 fun x10 =>
  if x10 = 0 then
  (f_X4_signature_b191  a0 a1 a2 (0 : Int32) h9)
  else
  (f_X4_signature_b191  a0 a1 a2 (1 : Int32) h9))))
  else none
noncomputable def f_X4_members_l15b60 (v0 : Nat) (v1 : Nat) (v2 : Int32) (ih : Int32 → HP → Rs Unit) (a3 : Int32) (s0 : Nat) (s1 : Int32) (h : HP) : Rs Unit :=
  ldR 47 373 v1 h fun x1 =>
  lsGet x1 v2 h fun x2 =>
  castR [45] x2 h (
  ldI 45 354 x2 h fun x3 =>
  if kc h s0 = 5 then
  bd (f_X4_must s0 s1 x3 h) (fun _ h4 =>
  lt3 (a3 + 1) fun x5 =>
  ih x5 h4)
  else none)
noncomputable def b_X4_members_l15 (v0 : Nat) (v1 : Nat) (v2 : Int32) (ih : Int32 → HP → Rs Unit) (a3 : Int32) (h : HP) : Rs Unit :=
  if v2 ≤ a3 then
  (rok () h)
  else
  (ldR 47 373 v1 h fun x1 =>
  lsGet x1 a3 h fun x2 =>
  castR [45] x2 h (
  ldR 45 353 x2 h fun x3 =>
  ldR 47 373 v1 h fun x4 =>
  lsGet x4 v2 h fun x5 =>
  castR [45] x5 h (
  ldR 45 353 x5 h fun x6 =>
  txEq x3 x6 h fun x7 =>
  if x7 = 0 then
  (f_X4_members_l15b60 v0 v1 v2 ih a3 v0 (1 : Int32) h)
  else
  (f_X4_members_l15b60 v0 v1 v2 ih a3 v0 (0 : Int32) h))))
noncomputable def f_X4_members_l15 (v0 : Nat) (v1 : Nat) (v2 : Int32) (n : Nat) : Int32 → HP → Rs Unit := @Nat.rec (fun _ => Int32 → HP → Rs Unit) (fun _ _ => none) (fun _ ih => b_X4_members_l15 v0 v1 v2 ih) n
noncomputable def b_X4_members_l2 (v0 : Nat) (v1 : Nat) (ih : Int32 → HP → Rs Unit) (a2 : Int32) (h : HP) : Rs Unit :=
  ldR 47 373 v1 h fun x1 =>
  lsSize x1 h fun x2 =>
  if x2 ≤ a2 then
  (rok () h)
  else
  (bd (f_X4_members_l15 v0 v1 a2 NN (0 : Int32) h) (fun x3 h4 => lt3 (a2 + 1) fun x5 =>
  ih x5 h4))
noncomputable def f_X4_members_l2 (v0 : Nat) (v1 : Nat) (n : Nat) : Int32 → HP → Rs Unit := @Nat.rec (fun _ => Int32 → HP → Rs Unit) (fun _ _ => none) (fun _ ih => b_X4_members_l2 v0 v1 ih) n
noncomputable def f_X4_members_l122b265 (v0 : Nat) (v1 : Nat) (v2 : Nat) (ih : Int32 → Int32 → Int32 → HP → Rs Unit) (a3 : Int32) (a4 : Int32) (a5 : Int32) (h : HP) : Rs Unit :=
  lt3 (a5 + 1) fun x1 =>
  ih a3 a4 x1 h
noncomputable def f_X4_members_l122b222 (v0 : Nat) (v1 : Nat) (v2 : Nat) (ih : Int32 → Int32 → Int32 → HP → Rs Unit) (a3 : Int32) (a4 : Int32) (a5 : Int32) (a6 : Nat) (s0 : Nat) (s1 : Int32) (h : HP) : Rs Unit :=
  ldR 49 385 a6 h fun x1 =>
  ldI 45 354 x1 h fun x2 =>
  if kc h s0 = 5 then
  bd (f_X4_must s0 s1 x2 h) (fun _ h3 =>
  lsAdd v2 a6 h3 fun h4 =>
  f_X4_members_l122b265 v0 v1 v2 ih a3 a4 a5 h4)
  else none
noncomputable def f_X4_members_l122b221 (v0 : Nat) (v1 : Nat) (v2 : Nat) (ih : Int32 → Int32 → Int32 → HP → Rs Unit) (a3 : Int32) (a4 : Int32) (a5 : Int32) (a6 : Nat) (s0 : Nat) (h : HP) : Rs Unit :=
  f_X4_members_l122b222 v0 v1 v2 ih a3 a4 a5 a6 s0 (0 : Int32) h
noncomputable def b_X4_members_l122 (v0 : Nat) (v1 : Nat) (v2 : Nat) (ih : Int32 → Int32 → Int32 → HP → Rs Unit) (a3 : Int32) (a4 : Int32) (a5 : Int32) (h : HP) : Rs Unit :=
  ldR 47 374 v1 h fun x1 =>
  lsSize x1 h fun x2 =>
  if x2 ≤ a5 then
  (rok () h)
  else
  (ldR 47 374 v1 h fun x3 =>
  lsGet x3 a5 h fun x4 =>
  castR [73] x4 h (
  ivGet x4 h fun x5 =>
  if x5 = 0 then
  (ldR 47 371 v1 h fun x10 =>
  lsGet x10 a3 h fun x11 =>
  castR [49] x11 h (
  lt3 (a3 + 1) fun x12 =>
  ldR 49 384 x11 h fun x13 =>
  if kc h v0 = 5 then
  bd (f_X4_known v0 x13 h) (fun _ h14 =>
  ldR 49 385 x11 h14 fun x15 =>
  ldR 45 353 x15 h14 fun x16 =>
  if kc h14 v0 = 5 then
  bd (f_X4_isClassName v0 x16 h14) (fun x17 h18 =>
  if x17 = 0 then
  (ldR 49 385 x11 h18 fun x19 =>
  ldR 45 353 x19 h18 fun x20 =>
  bd (f_X4_isAmong v2 x20 h18) (fun x21 h22 =>
  if x21 = 0 then
  (lsSize v2 h22 fun x23 =>
  if (40 : Int32) ≤ x23 then
  (f_X4_members_l122b221 v0 v1 v2 ih x12 a4 a5 x11 v0 h22)
  else
  (f_X4_members_l122b222 v0 v1 v2 ih x12 a4 a5 x11 v0 (1 : Int32) h22))
  else
  (f_X4_members_l122b221 v0 v1 v2 ih x12 a4 a5 x11 v0 h22)))
  else
  (f_X4_members_l122b221 v0 v1 v2 ih x12 a4 a5 x11 v0 h18))
  else none)
  else none))
  else
  (ldR 47 372 v1 h fun x6 =>
  lsGet x6 a4 h fun x7 =>
  castR [50] x7 h (
  if kc h v0 = 5 then
  bd (f_X4_signature v0 v1 x7 a4 h) (fun _ h8 =>
  lt3 (a4 + 1) fun x9 =>
  f_X4_members_l122b265 v0 v1 v2 ih a3 x9 a5 h8)
  else none))))
noncomputable def f_X4_members_l122 (v0 : Nat) (v1 : Nat) (v2 : Nat) (n : Nat) : Int32 → Int32 → Int32 → HP → Rs Unit := @Nat.rec (fun _ => Int32 → Int32 → Int32 → HP → Rs Unit) (fun _ _ _ _ => none) (fun _ ih => b_X4_members_l122 v0 v1 v2 ih) n
noncomputable def f_X4_members_b113 (a0 : Nat) (a1 : Nat) (s0 : Nat) (h : HP) : Rs Unit :=
  bd (f_X4_members_l122 a0 a1 s0 NN (0 : Int32) (0 : Int32) (0 : Int32) h) (fun x1 h2 => rok () h2)
noncomputable def f_X4_members (a0 : Nat) (a1 : Nat) (h : HP) : Rs Unit :=
  bd (f_X4_members_l2 a0 a1 NN (0 : Int32) h) (fun x1 h2 => ldR 47 375 a1 h2 fun x3 =>
  if x3 = 0 then
  (nwC 164 3 h2 fun p7 h8 =>
  lsInit p7 h8 fun h9 =>
  f_X4_members_b113  a0 a1 p7 h9)
  else
  (ldR 47 375 a1 h2 fun x4 =>
  bd (f_X4_fieldsOf 100 x4 h2) (fun x5 h6 =>
  f_X4_members_b113  a0 a1 x5 h6)))
noncomputable def f_X4_rounds_l16b63 (v0 : Nat) (v1 : Nat) (v2 : Int32) (ih : Int32 → Int32 → HP → Rs Int32) (a4 : Int32) (s0 : Int32) (h : HP) : Rs Int32 :=
  lt3 (a4 + 1) fun x1 =>
  ih s0 x1 h
noncomputable def f_X4_rounds_l16b58 (v0 : Nat) (v1 : Nat) (v2 : Int32) (ih : Int32 → Int32 → HP → Rs Int32) (a4 : Int32) (h : HP) : Rs Int32 :=
  f_X4_rounds_l16b63 v0 v1 v2 ih a4 (1 : Int32) h
noncomputable def b_X4_rounds_l16 (v0 : Nat) (v1 : Nat) (v2 : Int32) (ih : Int32 → Int32 → HP → Rs Int32) (a3 : Int32) (a4 : Int32) (h : HP) : Rs Int32 :=
  if ((10 : Int32) + v2) ≤ a4 then
  (rok a3 h)
  else
  (if a3 = 0 then
  (ldR 5 53 v0 h fun x1 =>
  lsGet x1 a4 h fun x2 =>
  castR [47] x2 h (
  ldR 47 365 x2 h fun x3 =>
  if kc h v0 = 5 then
  bd (f_X4_toldKind v0 v2 h) (fun x4 h5 =>
  ldR 47 365 x4 h5 fun x6 =>
  txEq x3 x6 h5 fun x7 =>
  if x7 = 0 then
  (f_X4_rounds_l16b63 v0 v1 v2 ih a4 (0 : Int32) h5)
  else
  (f_X4_rounds_l16b58 v0 v1 v2 ih a4 h5))
  else none))
  else
  (f_X4_rounds_l16b58 v0 v1 v2 ih a4 h))
noncomputable def f_X4_rounds_l16 (v0 : Nat) (v1 : Nat) (v2 : Int32) (n : Nat) : Int32 → Int32 → HP → Rs Int32 := @Nat.rec (fun _ => Int32 → Int32 → HP → Rs Int32) (fun _ _ _ => none) (fun _ ih => b_X4_rounds_l16 v0 v1 v2 ih) n
noncomputable def f_X4_rounds_l2b80 (v0 : Nat) (v1 : Nat) (ih : Int32 → HP → Rs Unit) (a2 : Int32) (s0 : Nat) (s1 : Int32) (h : HP) : Rs Unit :=
  if kc h v0 = 5 then
  bd (f_X4_toldKind v0 a2 h) (fun x1 h2 =>
  ldI 47 366 x1 h2 fun x3 =>
  if kc h2 s0 = 5 then
  bd (f_X4_must s0 s1 x3 h2) (fun _ h4 =>
  lt3 (a2 + 1) fun x5 =>
  ih x5 h4)
  else none)
  else none
noncomputable def b_X4_rounds_l2 (v0 : Nat) (v1 : Nat) (ih : Int32 → HP → Rs Unit) (a2 : Int32) (h : HP) : Rs Unit :=
  ldI 5 54 v0 h fun x1 =>
  if x1 ≤ a2 then
  (rok () h)
  else
  (bd (f_X4_rounds_l16 v0 v1 a2 NN (0 : Int32) (8 : Int32) h) (fun x2 h3 => if x2 = 0 then
  (f_X4_rounds_l2b80 v0 v1 ih a2 v0 (1 : Int32) h3)
  else
  (f_X4_rounds_l2b80 v0 v1 ih a2 v0 (0 : Int32) h3)))
noncomputable def f_X4_rounds_l2 (v0 : Nat) (v1 : Nat) (n : Nat) : Int32 → HP → Rs Unit := @Nat.rec (fun _ => Int32 → HP → Rs Unit) (fun _ _ => none) (fun _ ih => b_X4_rounds_l2 v0 v1 ih) n
noncomputable def b_X4_rounds_l99 (v0 : Nat) (v1 : Nat) (ih : Int32 → HP → Rs Unit) (a2 : Int32) (h : HP) : Rs Unit :=
  ldI 5 54 v0 h fun x1 =>
  if x1 ≤ a2 then
  (rok () h)
  else
  (if kc h v0 = 5 then
  bd (f_X4_toldKind v0 a2 h) (fun x2 h3 =>
  if kc h3 v0 = 5 then
  bd (f_X4_above v0 x2 h3) (fun _ h4 =>
  lt3 (a2 + 1) fun x5 =>
  ih x5 h4)
  else none)
  else none)
noncomputable def f_X4_rounds_l99 (v0 : Nat) (v1 : Nat) (n : Nat) : Int32 → HP → Rs Unit := @Nat.rec (fun _ => Int32 → HP → Rs Unit) (fun _ _ => none) (fun _ ih => b_X4_rounds_l99 v0 v1 ih) n
noncomputable def f_X4_rounds_l124b150 (v0 : Nat) (v1 : Nat) (ih : Int32 → HP → Rs Unit) (a2 : Int32) (s0 : Nat) (s1 : Int32) (h : HP) : Rs Unit :=
  if kc h v0 = 5 then
  bd (f_X4_toldKind v0 a2 h) (fun x1 h2 =>
  ldI 47 366 x1 h2 fun x3 =>
  if kc h2 s0 = 5 then
  bd (f_X4_must s0 s1 x3 h2) (fun _ h4 =>
  lt3 (a2 + 1) fun x5 =>
  ih x5 h4)
  else none)
  else none
noncomputable def b_X4_rounds_l124 (v0 : Nat) (v1 : Nat) (ih : Int32 → HP → Rs Unit) (a2 : Int32) (h : HP) : Rs Unit :=
  ldI 5 54 v0 h fun x1 =>
  if x1 ≤ a2 then
  (rok () h)
  else
  (if kc h v0 = 5 then
  bd (f_X4_toldKind v0 a2 h) (fun x2 h3 =>
  if kc h3 v0 = 5 then
  bd (f_X4_isAboveItself v0 x2 h3) (fun x4 h5 =>
  if x4 = 0 then
  (f_X4_rounds_l124b150 v0 v1 ih a2 v0 (1 : Int32) h5)
  else
  (f_X4_rounds_l124b150 v0 v1 ih a2 v0 (0 : Int32) h5))
  else none)
  else none)
noncomputable def f_X4_rounds_l124 (v0 : Nat) (v1 : Nat) (n : Nat) : Int32 → HP → Rs Unit := @Nat.rec (fun _ => Int32 → HP → Rs Unit) (fun _ _ => none) (fun _ ih => b_X4_rounds_l124 v0 v1 ih) n
noncomputable def b_X4_rounds_l175 (v0 : Nat) (v1 : Nat) (ih : Int32 → Int32 → HP → Rs Unit) (a2 : Int32) (a3 : Int32) (h : HP) : Rs Unit :=
  ldI 5 54 v0 h fun x1 =>
  if x1 ≤ a3 then
  (rok () h)
  else
  (if kc h v0 = 5 then
  bd (f_X4_toldKind v0 a3 h) (fun x2 h3 =>
  stI 47 378 x2 a2 h3 fun h4 =>
  if kc h4 v0 = 5 then
  bd (f_X4_toldKind v0 a3 h4) (fun x5 h6 =>
  ldR 47 373 x5 h6 fun x7 =>
  lsSize x7 h6 fun x8 =>
  lt3 (a2 + x8) fun x9 =>
  lt3 (a3 + 1) fun x10 =>
  ih x9 x10 h6)
  else none)
  else none)
noncomputable def f_X4_rounds_l175 (v0 : Nat) (v1 : Nat) (n : Nat) : Int32 → Int32 → HP → Rs Unit := @Nat.rec (fun _ => Int32 → Int32 → HP → Rs Unit) (fun _ _ _ => none) (fun _ ih => b_X4_rounds_l175 v0 v1 ih) n
noncomputable def b_X4_rounds_l214 (v0 : Nat) (v1 : Nat) (ih : Int32 → HP → Rs Unit) (a3 : Int32) (h : HP) : Rs Unit :=
  ldR 46 360 v1 h fun x1 =>
  lsSize x1 h fun x2 =>
  if x2 ≤ a3 then
  (rok () h)
  else
  (ldR 5 53 v0 h fun x3 =>
  ldR 46 360 v1 h fun x4 =>
  lsGet x4 a3 h fun x5 =>
  castR [48] x5 h (
  bd (f_X4_kindOfType x3 x5 (1 : Int32) h) (fun x6 h7 =>
  lt3 (a3 + 1) fun x8 =>
  ih x8 h7)))
noncomputable def f_X4_rounds_l214 (v0 : Nat) (v1 : Nat) (n : Nat) : Int32 → HP → Rs Unit := @Nat.rec (fun _ => Int32 → HP → Rs Unit) (fun _ _ => none) (fun _ ih => b_X4_rounds_l214 v0 v1 ih) n
noncomputable def b_X4_rounds_l254 (v0 : Nat) (ih : Int32 → HP → Rs Unit) (a3 : Int32) (h : HP) : Rs Unit :=
  ldI 5 54 v0 h fun x1 =>
  if x1 ≤ a3 then
  (rok () h)
  else
  (if kc h v0 = 5 then
  bd (f_X4_toldKind v0 a3 h) (fun x2 h3 =>
  if kc h3 v0 = 5 then
  bd (f_X4_members v0 x2 h3) (fun _ h4 =>
  lt3 (a3 + 1) fun x5 =>
  ih x5 h4)
  else none)
  else none)
noncomputable def f_X4_rounds_l254 (v0 : Nat) (n : Nat) : Int32 → HP → Rs Unit := @Nat.rec (fun _ => Int32 → HP → Rs Unit) (fun _ _ => none) (fun _ ih => b_X4_rounds_l254 v0 ih) n
noncomputable def b_X4_rounds_l279 (v0 : Nat) (ih : Int32 → HP → Rs Unit) (a3 : Int32) (h : HP) : Rs Unit :=
  ldI 5 54 v0 h fun x1 =>
  if x1 ≤ a3 then
  (rok () h)
  else
  (if kc h v0 = 5 then
  bd (f_X4_toldKind v0 a3 h) (fun x2 h3 =>
  if kc h3 v0 = 5 then
  bd (f_X4_toldKind v0 a3 h3) (fun x4 h5 =>
  bd (f_X4_fieldsOf 100 x4 h5) (fun x6 h7 =>
  stR 47 377 x2 x6 h7 fun h8 =>
  lt3 (a3 + 1) fun x9 =>
  ih x9 h8))
  else none)
  else none)
noncomputable def f_X4_rounds_l279 (v0 : Nat) (n : Nat) : Int32 → HP → Rs Unit := @Nat.rec (fun _ => Int32 → HP → Rs Unit) (fun _ _ => none) (fun _ ih => b_X4_rounds_l279 v0 ih) n
noncomputable def b_X4_rounds_l311 (v0 : Nat) (ih : Int32 → HP → Rs Unit) (a3 : Int32) (h : HP) : Rs Unit :=
  ldI 5 54 v0 h fun x1 =>
  if x1 ≤ a3 then
  (rok () h)
  else
  (if kc h v0 = 5 then
  bd (f_X4_toldKind v0 a3 h) (fun x2 h3 =>
  if kc h3 v0 = 5 then
  bd (f_X4_alike v0 x2 h3) (fun _ h4 =>
  lt3 (a3 + 1) fun x5 =>
  ih x5 h4)
  else none)
  else none)
noncomputable def f_X4_rounds_l311 (v0 : Nat) (n : Nat) : Int32 → HP → Rs Unit := @Nat.rec (fun _ => Int32 → HP → Rs Unit) (fun _ _ => none) (fun _ ih => b_X4_rounds_l311 v0 ih) n
noncomputable def f_X4_rounds_l336b392 (v0 : Nat) (ih : Int32 → HP → Rs Unit) (a3 : Int32) (h : HP) : Rs Unit :=
  lt3 (a3 + 1) fun x1 =>
  ih x1 h
noncomputable def f_X4_rounds_l336b377 (v0 : Nat) (ih : Int32 → HP → Rs Unit) (a3 : Int32) (a4 : Nat) (h : HP) : Rs Unit :=
  if kc h v0 = 5 then
  bd (f_X4_isWhole v0 a4 h) (fun x1 h2 =>
  ldI 47 366 a4 h2 fun x3 =>
  if kc h2 v0 = 5 then
  bd (f_X4_must v0 x1 x3 h2) (fun _ h4 =>
  f_X4_rounds_l336b392 v0 ih a3 h4)
  else none)
  else none
noncomputable def b_X4_rounds_l336 (v0 : Nat) (ih : Int32 → HP → Rs Unit) (a3 : Int32) (h : HP) : Rs Unit :=
  ldI 5 54 v0 h fun x1 =>
  if x1 ≤ a3 then
  (rok () h)
  else
  (if kc h v0 = 5 then
  bd (f_X4_toldKind v0 a3 h) (fun x2 h3 =>
  ldI 47 363 x2 h3 fun x4 =>
  if x4 = (4 : Int32) then
  (f_X4_rounds_l336b377 v0 ih a3 x2 h3)
  else
  (ldI 47 363 x2 h3 fun x5 =>
  if x5 = (1 : Int32) then
  (ldI 47 364 x2 h3 fun x6 =>
  if x6 = 0 then
  (f_X4_rounds_l336b377 v0 ih a3 x2 h3)
  else
  (f_X4_rounds_l336b392 v0 ih a3 h3))
  else
  (f_X4_rounds_l336b392 v0 ih a3 h3)))
  else none)
noncomputable def f_X4_rounds_l336 (v0 : Nat) (n : Nat) : Int32 → HP → Rs Unit := @Nat.rec (fun _ => Int32 → HP → Rs Unit) (fun _ _ => none) (fun _ ih => b_X4_rounds_l336 v0 ih) n
noncomputable def b_X4_rounds_l418 (v0 : Nat) (v3 : Int32) (v4 : Nat) (ih : Int32 → HP → Rs Unit) (a5 : Int32) (h : HP) : Rs Unit :=
  ldR 47 372 v4 h fun x1 =>
  lsSize x1 h fun x2 =>
  if x2 ≤ a5 then
  (rok () h)
  else
  (ldR 47 372 v4 h fun x3 =>
  lsGet x3 a5 h fun x4 =>
  castR [50] x4 h (
  if kc h v0 = 5 then
  bd (f_X4_body v0 v4 x4 h) (fun _ h5 =>
  lt3 (a5 + 1) fun x6 =>
  ih x6 h5)
  else none))
noncomputable def f_X4_rounds_l418 (v0 : Nat) (v3 : Int32) (v4 : Nat) (n : Nat) : Int32 → HP → Rs Unit := @Nat.rec (fun _ => Int32 → HP → Rs Unit) (fun _ _ => none) (fun _ ih => b_X4_rounds_l418 v0 v3 v4 ih) n
noncomputable def b_X4_rounds_l400 (v0 : Nat) (ih : Int32 → HP → Rs Unit) (a3 : Int32) (h : HP) : Rs Unit :=
  ldI 5 54 v0 h fun x1 =>
  if x1 ≤ a3 then
  (rok () h)
  else
  (if kc h v0 = 5 then
  bd (f_X4_toldKind v0 a3 h) (fun x2 h3 =>
  bd (f_X4_rounds_l418 v0 a3 x2 NN (0 : Int32) h3) (fun x4 h5 => lt3 (a3 + 1) fun x6 =>
  ih x6 h5))
  else none)
noncomputable def f_X4_rounds_l400 (v0 : Nat) (n : Nat) : Int32 → HP → Rs Unit := @Nat.rec (fun _ => Int32 → HP → Rs Unit) (fun _ _ => none) (fun _ ih => b_X4_rounds_l400 v0 ih) n
noncomputable def f_X4_rounds (a0 : Nat) (a1 : Nat) (h : HP) : Rs Unit :=
  bd (f_X4_rounds_l2 a0 a1 NN (0 : Int32) h) (fun x1 h2 => bd (f_X4_rounds_l99 a0 a1 NN (0 : Int32) h2) (fun x3 h4 => bd (f_X4_rounds_l124 a0 a1 NN (0 : Int32) h4) (fun x5 h6 => if kc h6 a0 = 5 then
  bd (f_X4_lay a0 h6) (fun _ h7 =>
  bd (f_X4_rounds_l175 a0 a1 NN (1 : Int32) (0 : Int32) h7) (fun x8 h9 => bd (f_X4_rounds_l214 a0 a1 NN (0 : Int32) h9) (fun x10 h11 => bd (f_X4_rounds_l254 a0 NN (0 : Int32) h11) (fun x12 h13 => bd (f_X4_rounds_l279 a0 NN (0 : Int32) h13) (fun x14 h15 => bd (f_X4_rounds_l311 a0 NN (0 : Int32) h15) (fun x16 h17 => bd (f_X4_rounds_l336 a0 NN (0 : Int32) h17) (fun x18 h19 => bd (f_X4_rounds_l400 a0 NN (0 : Int32) h19) (fun x20 h21 => rok () h21))))))))
  else none)))
noncomputable def b_X4_start_l2 (v0 : Nat) (ih : Int32 → HP → Rs Unit) (a1 : Int32) (h : HP) : Rs Unit :=
  if (4000 : Int32) < a1 then
  (rok () h)
  else
  (ldR 5 59 v0 h fun x1 =>
  astO 13 58 x1 a1 0 h fun h2 =>
  lt3 (a1 + 1) fun x3 =>
  ih x3 h2)
noncomputable def f_X4_start_l2 (v0 : Nat) (n : Nat) : Int32 → HP → Rs Unit := @Nat.rec (fun _ => Int32 → HP → Rs Unit) (fun _ _ => none) (fun _ ih => b_X4_start_l2 v0 ih) n
noncomputable def b_X4_start_l44 (v0 : Nat) (v1 : Int32) (ih : Int32 → HP → Rs Unit) (a2 : Int32) (h : HP) : Rs Unit :=
  if kc h v0 = 5 then
  bd (f_X4_toldKind v0 v1 h) (fun x1 h2 =>
  ldR 47 373 x1 h2 fun x3 =>
  lsSize x3 h2 fun x4 =>
  if x4 ≤ a2 then
  (rok () h2)
  else
  (if kc h2 v0 = 5 then
  bd (f_X4_toldKind v0 v1 h2) (fun x5 h6 =>
  ldI 47 362 x5 h6 fun x7 =>
  if kc h6 v0 = 5 then
  bd (f_X4_thing v0 x7 h6) (fun x8 h9 =>
  stI 58 432 x8 a2 h9 fun h10 =>
  stI 58 434 x8 (0 : Int32) h10 fun h11 =>
  lt3 (a2 + 1) fun x12 =>
  ih x12 h11)
  else none)
  else none))
  else none
noncomputable def f_X4_start_l44 (v0 : Nat) (v1 : Int32) (n : Nat) : Int32 → HP → Rs Unit := @Nat.rec (fun _ => Int32 → HP → Rs Unit) (fun _ _ => none) (fun _ ih => b_X4_start_l44 v0 v1 ih) n
noncomputable def b_X4_start_l34 (v0 : Nat) (ih : Int32 → HP → Rs Unit) (a1 : Int32) (h : HP) : Rs Unit :=
  ldI 5 54 v0 h fun x1 =>
  if x1 ≤ a1 then
  (rok () h)
  else
  (bd (f_X4_start_l44 v0 a1 NN (0 : Int32) h) (fun x2 h3 => lt3 (a1 + 1) fun x4 =>
  ih x4 h3))
noncomputable def f_X4_start_l34 (v0 : Nat) (n : Nat) : Int32 → HP → Rs Unit := @Nat.rec (fun _ => Int32 → HP → Rs Unit) (fun _ _ => none) (fun _ ih => b_X4_start_l34 v0 ih) n
noncomputable def b_X4_start_l96 (v0 : Nat) (ih : Int32 → HP → Rs Unit) (a1 : Int32) (h : HP) : Rs Unit :=
  ldR 5 71 v0 h fun x1 =>
  lsSize x1 h fun x2 =>
  if x2 ≤ a1 then
  (rok () h)
  else
  (ldR 5 71 v0 h fun x3 =>
  lsGet x3 a1 h fun x4 =>
  castR [45] x4 h (
  ldR 45 353 x4 h fun x5 =>
  if kc h v0 = 5 then
  bd (f_X4_textThing v0 x5 h) (fun x6 h7 =>
  stI 58 433 x6 (1 : Int32) h7 fun h8 =>
  stI 58 437 x6 (1 : Int32) h8 fun h9 =>
  lt3 (a1 + 1) fun x10 =>
  ih x10 h9)
  else none))
noncomputable def f_X4_start_l96 (v0 : Nat) (n : Nat) : Int32 → HP → Rs Unit := @Nat.rec (fun _ => Int32 → HP → Rs Unit) (fun _ _ => none) (fun _ ih => b_X4_start_l96 v0 ih) n
noncomputable def b_X4_start_l144 (v0 : Nat) (ih : Int32 → HP → Rs Unit) (a1 : Int32) (h : HP) : Rs Unit :=
  if (64 : Int32) < a1 then
  (rok () h)
  else
  (ldR 5 63 v0 h fun x1 =>
  astO 14 59 x1 a1 0 h fun h2 =>
  lt3 (a1 + 1) fun x3 =>
  ih x3 h2)
noncomputable def f_X4_start_l144 (v0 : Nat) (n : Nat) : Int32 → HP → Rs Unit := @Nat.rec (fun _ => Int32 → HP → Rs Unit) (fun _ _ => none) (fun _ ih => b_X4_start_l144 v0 ih) n
noncomputable def b_X4_start_l188 (v0 : Nat) (ih : Int32 → HP → Rs Unit) (a1 : Int32) (h : HP) : Rs Unit :=
  if (8 : Int32) ≤ a1 then
  (rok () h)
  else
  (ldR 5 66 v0 h fun x1 =>
  aldR 10 x1 a1 h fun x2 =>
  stI 9 137 x2 (0 : Int32) h fun h3 =>
  lt3 (a1 + 1) fun x4 =>
  ih x4 h3)
noncomputable def f_X4_start_l188 (v0 : Nat) (n : Nat) : Int32 → HP → Rs Unit := @Nat.rec (fun _ => Int32 → HP → Rs Unit) (fun _ _ => none) (fun _ ih => b_X4_start_l188 v0 ih) n
noncomputable def f_X4_start (a0 : Nat) (h : HP) : Rs Unit :=
  bd (f_X4_start_l2 a0 NN (0 : Int32) h) (fun x1 h2 => stI 5 60 a0 (1 : Int32) h2 fun h3 =>
  stI 5 61 a0 (0 : Int32) h3 fun h4 =>
  bd (f_X4_start_l34 a0 NN (0 : Int32) h4) (fun x5 h6 => bd (f_X4_start_l96 a0 NN (0 : Int32) h6) (fun x7 h8 => bd (f_X4_start_l144 a0 NN (0 : Int32) h8) (fun x9 h10 => ldR 5 63 a0 h10 fun x11 =>
  nwO 59 4 h10 fun p12 h13 =>
  if kc h13 p12 = 59 then
  bd (f_X61_init p12 h13) (fun _ h14 =>
  astO 14 59 x11 (0 : Int32) p12 h14 fun h15 =>
  stI 5 64 a0 (0 : Int32) h15 fun h16 =>
  stI 5 65 a0 (0 : Int32) h16 fun h17 =>
  bd (f_X4_start_l188 a0 NN (0 : Int32) h17) (fun x18 h19 => stR 5 68 a0 0 h19 fun h20 =>
  stI 5 69 a0 (-1 : Int32) h20 fun h21 =>
  ldR 5 111 a0 h21 fun x22 =>
  stI 8 136 x22 (0 : Int32) h21 fun h23 =>
  rok () h23))
  else none))))
noncomputable def f_X4_declare_l61b213 (v0 : Nat) (v1 : Nat) (v2 : Nat) (ih : Int32 → HP → Rs Unit) (a3 : Int32) (h : HP) : Rs Unit :=
  lt3 (a3 + 1) fun x1 =>
  ih x1 h
noncomputable def f_X4_declare_l61b157 (v0 : Nat) (v1 : Nat) (v2 : Nat) (ih : Int32 → HP → Rs Unit) (a3 : Int32) (s0 : Int32) (h : HP) : Rs Unit :=
  if s0 = 0 then
  (f_X4_declare_l61b213 v0 v1 v2 ih a3 h)
  else
  (ldR 43 347 v1 h fun x1 =>
  lsGet x1 (a3 + (1 : Int32)) h fun x2 =>
  castR [44] x2 h (
  ldI 44 349 x2 h fun x3 =>
  if x3 = (1 : Int32) then
  (nwO 45 2 h fun p4 h5 =>
  ldR 43 347 v1 h5 fun x6 =>
  lsGet x6 (a3 + (1 : Int32)) h5 fun x7 =>
  castR [44] x7 h5 (
  ldR 44 351 x7 h5 fun x8 =>
  if kc h5 p4 = 45 then
  bd (f_X47_init p4 x8 (0 : Int32) h5) (fun _ h9 =>
  lsAdd v2 p4 h9 fun h10 =>
  f_X4_declare_l61b213 v0 v1 v2 ih a3 h10)
  else none))
  else
  (f_X4_declare_l61b213 v0 v1 v2 ih a3 h)))
noncomputable def f_X4_declare_l61b156 (v0 : Nat) (v1 : Nat) (v2 : Nat) (ih : Int32 → HP → Rs Unit) (a3 : Int32) (h : HP) : Rs Unit :=
  f_X4_declare_l61b157 v0 v1 v2 ih a3 (0 : Int32) h
noncomputable def f_X4_declare_l61b152 (v0 : Nat) (v1 : Nat) (v2 : Nat) (ih : Int32 → HP → Rs Unit) (a3 : Int32) (h : HP) : Rs Unit :=
  f_X4_declare_l61b157 v0 v1 v2 ih a3 (1 : Int32) h
noncomputable def b_X4_declare_l61 (v0 : Nat) (v1 : Nat) (v2 : Nat) (ih : Int32 → HP → Rs Unit) (a3 : Int32) (h : HP) : Rs Unit :=
  ldR 43 347 v1 h fun x1 =>
  lsSize x1 h fun x2 =>
  if x2 ≤ (a3 + (1 : Int32)) then
  (rok () h)
  else
  (ldR 43 347 v1 h fun x3 =>
  lsGet x3 a3 h fun x4 =>
  castR [44] x4 h (
  ldI 44 349 x4 h fun x5 =>
  if x5 = (2 : Int32) then
  (ldR 44 351 x4 h fun x6 =>
  txEq x6 43 h fun x7 =>
  if x7 = 0 then
  (ldR 44 351 x4 h fun x8 =>
  txEq x8 59 h fun x9 =>
  if x9 = 0 then
  (ldR 44 351 x4 h fun x10 =>
  txEq x10 48 h fun x11 =>
  if x11 = 0 then
  (ldR 44 351 x4 h fun x12 =>
  txEq x12 65 h fun x13 =>
  if x13 = 0 then
  (f_X4_declare_l61b156 v0 v1 v2 ih a3 h)
  else
  (f_X4_declare_l61b152 v0 v1 v2 ih a3 h))
  else
  (f_X4_declare_l61b152 v0 v1 v2 ih a3 h))
  else
  (f_X4_declare_l61b152 v0 v1 v2 ih a3 h))
  else
  (f_X4_declare_l61b152 v0 v1 v2 ih a3 h))
  else
  (f_X4_declare_l61b156 v0 v1 v2 ih a3 h)))
noncomputable def f_X4_declare_l61 (v0 : Nat) (v1 : Nat) (v2 : Nat) (n : Nat) : Int32 → HP → Rs Unit := @Nat.rec (fun _ => Int32 → HP → Rs Unit) (fun _ _ => none) (fun _ ih => b_X4_declare_l61 v0 v1 v2 ih) n
noncomputable def b_X4_declare_l261 (v0 : Nat) (v2 : Nat) (v3 : Nat) (v4 : Nat) (ih : Int32 → HP → Rs (Unit ⊕ Unit)) (a5 : Int32) (h : HP) : Rs (Unit ⊕ Unit) :=
  lsSize v4 h fun x1 =>
  if x1 ≤ a5 then
  (rok (Sum.inl ()) h)
  else
  (ldR 5 53 v0 h fun x2 =>
  lsGet v4 a5 h fun x3 =>
  castR [47] x3 h (
  lsAdd x2 x3 h fun h4 =>
  lt3 (a5 + 1) fun x5 =>
  ih x5 h4))
noncomputable def f_X4_declare_l261 (v0 : Nat) (v2 : Nat) (v3 : Nat) (v4 : Nat) (n : Nat) : Int32 → HP → Rs (Unit ⊕ Unit) := @Nat.rec (fun _ => Int32 → HP → Rs (Unit ⊕ Unit)) (fun _ _ => none) (fun _ ih => b_X4_declare_l261 v0 v2 v3 v4 ih) n
noncomputable def f_X4_declare (a0 : Nat) (h : HP) : Rs Int32 :=
  stI 5 51 a0 (-1 : Int32) h fun h1 =>
  ldI 5 55 a0 h1 fun x2 =>
  if x2 = 0 then
  (ldI 5 50 a0 h1 fun x3 =>
  if x3 ≤ (20000 : Int32) then
  (nwO 43 3 h1 fun p4 h5 =>
  if kc h5 a0 = 5 then
  bd (f_X4_used a0 h5) (fun x6 h7 =>
  if kc h7 p4 = 43 then
  bd (f_X44_init p4 x6 h7) (fun _ h8 =>
  nwC 168 3 h8 fun p9 h10 =>
  lsInit p9 h10 fun h11 =>
  bd (f_X4_declare_l61 a0 p4 p9 NN (0 : Int32) h11) (fun x12 h13 => nwO 46 7 h13 fun p14 h15 =>
  ldR 5 52 a0 h15 fun x16 =>
  ldR 43 347 p4 h15 fun x17 =>
  if kc h15 p14 = 46 then
  bd (f_X48_init p14 x16 x17 p9 h15) (fun _ h18 =>
  nwC 167 3 h18 fun p19 h20 =>
  lsInit p19 h20 fun h21 =>
  bd (f_X4_basics h21) (fun x22 h23 =>
  stR 5 53 a0 x22 h23 fun h24 =>
  if kc h24 p14 = 46 then
  bdc (f_X48_all p14 p19 h24) (fun _ h25 =>
  bd (f_X4_declare_l261 a0 p9 p14 p19 NN (0 : Int32) h25) (Sum.elim (fun x37 => fun h38 => lsSize p19 h38 fun x39 =>
  stI 5 54 a0 x39 h38 fun h40 =>
  if kc h40 a0 = 5 then
  bdc (f_X4_rounds a0 p14 h40) (fun _ h41 =>
  ldR 46 361 p14 h41 fun x53 =>
  if kc h41 a0 = 5 then
  bd (f_X4_isRoomFor a0 x53 h41) (fun x54 h55 =>
  if x54 = 0 then
  (nwC 166 3 h55 fun p63 h64 =>
  lsInit p63 h64 fun h65 =>
  stR 5 53 a0 p63 h65 fun h66 =>
  stI 5 54 a0 (0 : Int32) h66 fun h67 =>
  rok (-12 : Int32) h67)
  else
  (stR 5 57 a0 p9 h55 fun h56 =>
  stI 5 55 a0 (1 : Int32) h56 fun h57 =>
  ldR 5 53 a0 h57 fun x58 =>
  lsSize x58 h57 fun x59 =>
  stI 5 56 a0 x59 h57 fun h60 =>
  if kc h60 a0 = 5 then
  bd (f_X4_start a0 h60) (fun _ h61 =>
  ldI 5 54 a0 h61 fun x62 =>
  rok x62 h61)
  else none))
  else none) (fun h42 =>
  nwC 165 3 h42 fun p43 h44 =>
  lsInit p43 h44 fun h45 =>
  stR 5 53 a0 p43 h45 fun h46 =>
  stI 5 54 a0 (0 : Int32) h46 fun h47 =>
  ldR 5 52 a0 h47 fun x48 =>
  ldI 6 132 x48 h47 fun x49 =>
  stI 5 51 a0 x49 h47 fun h50 =>
  ldR 5 52 a0 h50 fun x51 =>
  ldI 6 131 x51 h50 fun x52 =>
  rok (-x52) h50)
  else none) (fun x68 => fun h69 => nwC 165 3 h69 fun p70 h71 =>
  lsInit p70 h71 fun h72 =>
  stR 5 53 a0 p70 h72 fun h73 =>
  stI 5 54 a0 (0 : Int32) h73 fun h74 =>
  ldR 5 52 a0 h74 fun x75 =>
  ldI 6 132 x75 h74 fun x76 =>
  stI 5 51 a0 x76 h74 fun h77 =>
  ldR 5 52 a0 h77 fun x78 =>
  ldI 6 131 x78 h77 fun x79 =>
  rok (-x79) h77))) (fun h26 =>
  nwC 165 3 h26 fun p27 h28 =>
  lsInit p27 h28 fun h29 =>
  stR 5 53 a0 p27 h29 fun h30 =>
  stI 5 54 a0 (0 : Int32) h30 fun h31 =>
  ldR 5 52 a0 h31 fun x32 =>
  ldI 6 132 x32 h31 fun x33 =>
  stI 5 51 a0 x33 h31 fun h34 =>
  ldR 5 52 a0 h34 fun x35 =>
  ldI 6 131 x35 h34 fun x36 =>
  rok (-x36) h34)
  else none))
  else none))
  else none)
  else none)
  else
  (stI 5 50 a0 (0 : Int32) h1 fun h80 =>
  stI 5 51 a0 (20000 : Int32) h80 fun h81 =>
  rok (-1 : Int32) h81))
  else
  (rok (-13 : Int32) h1)
noncomputable def b_X4_spelled_l10 (v0 : Nat) (v2 : Nat) (ih : Int32 → HP → Rs Int32) (a3 : Int32) (h : HP) : Rs Int32 :=
  if kc h v0 = 5 then
  bd (f_X4_kindAt v0 a3 h) (fun x1 h2 =>
  if kc h2 x1 = 47 then
  bd (f_X49_array x1 h2) (fun x3 h4 =>
  if x3 = 0 then
  (rok a3 h4)
  else
  (sbApC v2 (91 : Int32) h4 fun h5 =>
  if kc h5 v0 = 5 then
  bd (f_X4_kindAt v0 a3 h5) (fun x6 h7 =>
  ldI 47 367 x6 h7 fun x8 =>
  ih x8 h7)
  else none))
  else none)
  else none
noncomputable def f_X4_spelled_l10 (v0 : Nat) (v2 : Nat) (n : Nat) : Int32 → HP → Rs Int32 := @Nat.rec (fun _ => Int32 → HP → Rs Int32) (fun _ _ => none) (fun _ ih => b_X4_spelled_l10 v0 v2 ih) n
noncomputable def f_X4_spelled (a0 : Nat) (a1 : Int32) (h : HP) : Rs Nat :=
  nwC 72 4 h fun p1 h2 =>
  sbInit p1 h2 fun h3 =>
  bd (f_X4_spelled_l10 a0 p1 NN a1 h3) (fun x4 h5 => if (8 : Int32) ≤ x4 then
  (sbApC p1 (76 : Int32) h5 fun h6 =>
  if kc h6 a0 = 5 then
  bd (f_X4_kindAt a0 x4 h6) (fun x7 h8 =>
  ldR 47 365 x7 h8 fun x9 =>
  sbApS p1 x9 h8 fun h10 =>
  sbApC p1 (59 : Int32) h10 fun h11 =>
  sbStr p1 h11 fun x12 h13 =>
  rok x12 h13)
  else none)
  else
  (txAt 32 x4 h5 fun x14 =>
  sbApC p1 x14 h5 fun h15 =>
  sbStr p1 h15 fun x16 h17 =>
  rok x16 h17))
noncomputable def f_X4_descriptor (a0 : Nat) (a1 : Int32) (h : HP) : Rs Nat :=
  if kc h a0 = 5 then
  bd (f_X4_kindAt a0 a1 h) (fun x1 h2 =>
  ldR 47 379 x1 h2 fun x3 =>
  if x3 = 0 then
  (if kc h2 a0 = 5 then
  bd (f_X4_kindAt a0 a1 h2) (fun x7 h8 =>
  if kc h8 a0 = 5 then
  bd (f_X4_spelled a0 a1 h8) (fun x9 h10 =>
  stR 47 379 x7 x9 h10 fun h11 =>
  if kc h11 a0 = 5 then
  bd (f_X4_kindAt a0 a1 h11) (fun x12 h13 =>
  ldR 47 379 x12 h13 fun x14 =>
  rok x14 h13)
  else none)
  else none)
  else none)
  else
  (if kc h2 a0 = 5 then
  bd (f_X4_kindAt a0 a1 h2) (fun x4 h5 =>
  ldR 47 379 x4 h5 fun x6 =>
  rok x6 h5)
  else none))
  else none
noncomputable def b_X4_descriptorIn_l65 (v0 : Nat) (v1 : Nat) (v2 : Nat) (v3 : Int32) (v4 : Int32) (v5 : Nat) (ih : Int32 → HP → Rs Unit) (a6 : Int32) (h : HP) : Rs Unit :=
  if v4 ≤ a6 then
  (rok () h)
  else
  (ldR 66 466 v1 h fun x1 =>
  aldI 1 x1 ((v3 + (1 : Int32)) + a6) h fun x2 =>
  sbApC v5 (UInt32.toInt32 (Int32.toUInt32 (x2 &&& (255 : Int32)) % 65536)) h fun h3 =>
  lt3 (a6 + 1) fun x4 =>
  ih x4 h3)
noncomputable def f_X4_descriptorIn_l65 (v0 : Nat) (v1 : Nat) (v2 : Nat) (v3 : Int32) (v4 : Int32) (v5 : Nat) (n : Nat) : Int32 → HP → Rs Unit := @Nat.rec (fun _ => Int32 → HP → Rs Unit) (fun _ _ => none) (fun _ ih => b_X4_descriptorIn_l65 v0 v1 v2 v3 v4 v5 ih) n
noncomputable def b_X4_descriptorIn_l163 (v0 : Nat) (v2 : Nat) (v3 : Int32) (v6 : Int32) (ih : Int32 → HP → Rs (Unit ⊕ Unit)) (a7 : Int32) (h : HP) : Rs (Unit ⊕ Unit) :=
  lsSize v2 h fun x1 =>
  if x1 ≤ a7 then
  (rok (Sum.inr ()) h)
  else
  (lsGet v2 a7 h fun x2 =>
  castR [73] x2 h (
  ivGet x2 h fun x3 =>
  if x3 = v6 then
  (rok (Sum.inl ()) h)
  else
  (lt3 (a7 + 1) fun x4 =>
  ih x4 h)))
noncomputable def f_X4_descriptorIn_l163 (v0 : Nat) (v2 : Nat) (v3 : Int32) (v6 : Int32) (n : Nat) : Int32 → HP → Rs (Unit ⊕ Unit) := @Nat.rec (fun _ => Int32 → HP → Rs (Unit ⊕ Unit)) (fun _ _ => none) (fun _ ih => b_X4_descriptorIn_l163 v0 v2 v3 v6 ih) n
noncomputable def f_X4_descriptorIn (a0 : Nat) (a1 : Nat) (a2 : Nat) (h : HP) : Rs Int32 :=
  ldI 66 468 a1 h fun x1 =>
  ldI 66 468 a1 h fun x2 =>
  ldI 66 467 a1 h fun x3 =>
  if x2 = x3 then
  (if kc h a0 = 5 then
  bd (f_X4_bad a0 x1 h) (fun x38 h39 =>
  if kc h39 x38 = 69 then rex h39 else none)
  else none)
  else
  (ldR 66 466 a1 h fun x4 =>
  aldI 1 x4 x1 h fun x5 =>
  lt3 (x5 &&& (255 : Int32)) fun x6 =>
  ldI 66 467 a1 h fun x7 =>
  if x6 ≤ ((x7 - x1) - (1 : Int32)) then
  (nwC 72 4 h fun p8 h9 =>
  sbInit p8 h9 fun h10 =>
  bd (f_X4_descriptorIn_l65 a0 a1 a2 x1 x6 p8 NN (0 : Int32) h10) (fun x11 h12 => stI 66 468 a1 ((x1 + (1 : Int32)) + x6) h12 fun h13 =>
  sbStr p8 h13 fun x14 h15 =>
  if kc h15 a0 = 5 then
  bd (f_X4_described a0 x14 (0 : Int32) h15) (fun x16 h17 =>
  if x16 < (9 : Int32) then
  (if kc h17 a0 = 5 then
  bd (f_X4_bad a0 x1 h17) (fun x18 h19 =>
  if kc h19 x18 = 69 then rex h19 else none)
  else none)
  else
  (if kc h17 a0 = 5 then
  bd (f_X4_kindAt a0 x16 h17) (fun x20 h21 =>
  ldI 47 363 x20 h21 fun x22 =>
  if x22 = (2 : Int32) then
  (if kc h21 a0 = 5 then
  bd (f_X4_bad a0 x1 h21) (fun x23 h24 =>
  if kc h24 x23 = 69 then rex h24 else none)
  else none)
  else
  (if kc h21 a0 = 5 then
  bd (f_X4_kindAt a0 x16 h21) (fun x25 h26 =>
  ldI 47 364 x25 h26 fun x27 =>
  if x27 = 0 then
  (bd (f_X4_descriptorIn_l163 a0 a2 x1 x16 NN (0 : Int32) h26) (Sum.elim (fun x28 => fun h29 => if kc h29 a0 = 5 then
  bd (f_X4_bad a0 x1 h29) (fun x30 h31 =>
  if kc h31 x30 = 69 then rex h31 else none)
  else none) (fun x32 => fun h33 => rok x16 h33)))
  else
  (if kc h26 a0 = 5 then
  bd (f_X4_bad a0 x1 h26) (fun x34 h35 =>
  if kc h35 x34 = 69 then rex h35 else none)
  else none))
  else none))
  else none))
  else none))
  else
  (if kc h a0 = 5 then
  bd (f_X4_bad a0 x1 h) (fun x36 h37 =>
  if kc h37 x36 = 69 then rex h37 else none)
  else none))
noncomputable def f_X4_small_l13b114 (v0 : Nat) (v1 : Nat) (v2 : Int32) (ih : Int64 → Int32 → Int32 → HP → Rs (Unit ⊕ Unit ⊕ Int64)) (a3 : Int64) (a5 : Int32) (a6 : Int32) (h : HP) : Rs (Unit ⊕ Unit ⊕ Int64) :=
  if (lg_cmp a3 (2147483647 : Int64)) ≤ 0 then
  (ih a3 a5 a6 h)
  else
  (rok (Sum.inr (Sum.inl ())) h)
noncomputable def f_X4_small_l13b96 (v0 : Nat) (v1 : Nat) (v2 : Int32) (ih : Int64 → Int32 → Int32 → HP → Rs (Unit ⊕ Unit ⊕ Int64)) (a3 : Int64) (a5 : Int32) (a7 : Int32) (s0 : Int32) (h : HP) : Rs (Unit ⊕ Unit ⊕ Int64) :=
  if s0 = 0 then
  (if a7 = 0 then
  (if (1 : Int32) < a5 then
  (rok (Sum.inr (Sum.inl ())) h)
  else
  (f_X4_small_l13b114 v0 v1 v2 ih a3 a5 s0 h))
  else
  (f_X4_small_l13b114 v0 v1 v2 ih a3 a5 s0 h))
  else
  (f_X4_small_l13b114 v0 v1 v2 ih a3 a5 s0 h)
noncomputable def b_X4_small_l13 (v0 : Nat) (v1 : Nat) (v2 : Int32) (ih : Int64 → Int32 → Int32 → HP → Rs (Unit ⊕ Unit ⊕ Int64)) (a3 : Int64) (a5 : Int32) (a6 : Int32) (h : HP) : Rs (Unit ⊕ Unit ⊕ Int64) :=
  if a6 = 0 then
  (rok (Sum.inr (Sum.inr a3)) h)
  else
  (ldI 66 468 v1 h fun x1 =>
  ldI 66 467 v1 h fun x2 =>
  if x1 = x2 then
  (rok (Sum.inl ()) h)
  else
  (if a5 = (5 : Int32) then
  (rok (Sum.inl ()) h)
  else
  (ldR 66 466 v1 h fun x3 =>
  ldI 66 468 v1 h fun x4 =>
  aldI 1 x3 x4 h fun x5 =>
  lt3 (x5 &&& (255 : Int32)) fun x6 =>
  ldI 66 468 v1 h fun x7 =>
  stI 66 468 v1 (x7 + (1 : Int32)) h fun h8 =>
  lt3 (a3 ||| ((Int32.toInt64 (x6 &&& (127 : Int32))) <<< (Int32.toInt64 ((7 : Int32) * a5) &&& 63))) fun x9 =>
  lt3 (a5 + 1) fun x10 =>
  if x6 ≤ (127 : Int32) then
  (f_X4_small_l13b96 v0 v1 v2 ih x9 x10 x6 (0 : Int32) h8)
  else
  (f_X4_small_l13b96 v0 v1 v2 ih x9 x10 x6 (1 : Int32) h8))))
noncomputable def f_X4_small_l13 (v0 : Nat) (v1 : Nat) (v2 : Int32) (n : Nat) : Int64 → Int32 → Int32 → HP → Rs (Unit ⊕ Unit ⊕ Int64) := @Nat.rec (fun _ => Int64 → Int32 → Int32 → HP → Rs (Unit ⊕ Unit ⊕ Int64)) (fun _ _ _ _ => none) (fun _ ih => b_X4_small_l13 v0 v1 v2 ih) n
noncomputable def f_X4_small (a0 : Nat) (a1 : Nat) (h : HP) : Rs Int32 :=
  ldI 66 468 a1 h fun x1 =>
  bd (f_X4_small_l13 a0 a1 x1 NN (0 : Int64) (0 : Int32) (1 : Int32) h) (Sum.elim (fun x2 => fun h3 => if kc h3 a0 = 5 then
  bd (f_X4_bad a0 x1 h3) (fun x4 h5 =>
  if kc h5 x4 = 69 then rex h5 else none)
  else none) (Sum.elim (fun x6 => fun h7 => if kc h7 a0 = 5 then
  bd (f_X4_bad a0 x1 h7) (fun x8 h9 =>
  if kc h9 x8 = 69 then rex h9 else none)
  else none) (fun x10 => fun h11 => rok (Int64.toInt32 x10) h11)))
noncomputable def f_X69_init (a0 : Nat) (h : HP) : Rs Unit :=
  if a0 = 0 then none else (
  stI 67 471 a0 (-1 : Int32) h fun h1 =>
  nwA 1343 (0 : Int32) h1 fun p2 h3 =>
  stR 67 472 a0 p2 h3 fun h4 =>
  nwA 1360 (0 : Int32) h4 fun p5 h6 =>
  stR 67 473 a0 p5 h6 fun h7 =>
  rok () h7)
noncomputable def f_X4_draft_l283b402 (v0 : Nat) (v1 : Nat) (v3 : Int32) (v4 : Nat) (v5 : Nat) (v7 : Int32) (ih : Int32 → HP → Rs (Int32 ⊕ Unit)) (a8 : Int32) (h : HP) : Rs (Int32 ⊕ Unit) :=
  lt3 (a8 + 1) fun x1 =>
  ih x1 h
noncomputable def f_X4_draft_l283b325 (v0 : Nat) (v1 : Nat) (v3 : Int32) (v4 : Nat) (v5 : Nat) (v7 : Int32) (ih : Int32 → HP → Rs (Int32 ⊕ Unit)) (a8 : Int32) (s0 : Int32) (h : HP) : Rs (Int32 ⊕ Unit) :=
  ldR 67 473 v4 h fun x1 =>
  ldI 66 468 v1 h fun x2 =>
  astI 0 x1 a8 x2 h fun h3 =>
  if s0 < (8 : Int32) then
  (ldR 67 472 v4 h3 fun x4 =>
  if kc h3 v0 = 5 then
  bd (f_X4_bits v0 v1 s0 h3) (fun x5 h6 =>
  astJ 3 x4 a8 x5 h6 fun h7 =>
  f_X4_draft_l283b402 v0 v1 v3 v4 v5 v7 ih a8 h7)
  else none)
  else
  (ldR 67 472 v4 h3 fun x8 =>
  if kc h3 v0 = 5 then
  bd (f_X4_small v0 v1 h3) (fun x9 h10 =>
  astJ 3 x8 a8 (Int32.toInt64 x9) h10 fun h11 =>
  ldR 67 472 v4 h11 fun x12 =>
  aldJ 3 x12 a8 h11 fun x13 =>
  if (lg_cmp x13 (Int32.toInt64 v3)) ≤ 0 then
  (f_X4_draft_l283b402 v0 v1 v3 v4 v5 v7 ih a8 h11)
  else
  (rok (Sum.inl a8) h11))
  else none)
noncomputable def b_X4_draft_l283 (v0 : Nat) (v1 : Nat) (v3 : Int32) (v4 : Nat) (v5 : Nat) (v7 : Int32) (ih : Int32 → HP → Rs (Int32 ⊕ Unit)) (a8 : Int32) (h : HP) : Rs (Int32 ⊕ Unit) :=
  if v7 ≤ a8 then
  (rok (Sum.inr ()) h)
  else
  (if kc h v5 = 47 then
  bd (f_X49_array v5 h) (fun x1 h2 =>
  if x1 = 0 then
  (ldR 47 377 v5 h2 fun x3 =>
  lsGet x3 a8 h2 fun x4 =>
  castR [49] x4 h2 (
  ldR 49 384 x4 h2 fun x5 =>
  ldI 48 383 x5 h2 fun x6 =>
  f_X4_draft_l283b325 v0 v1 v3 v4 v5 v7 ih a8 x6 h2))
  else
  (ldI 47 367 v5 h2 fun x7 =>
  f_X4_draft_l283b325 v0 v1 v3 v4 v5 v7 ih a8 x7 h2))
  else none)
noncomputable def f_X4_draft_l283 (v0 : Nat) (v1 : Nat) (v3 : Int32) (v4 : Nat) (v5 : Nat) (v7 : Int32) (n : Nat) : Int32 → HP → Rs (Int32 ⊕ Unit) := @Nat.rec (fun _ => Int32 → HP → Rs (Int32 ⊕ Unit)) (fun _ _ => none) (fun _ ih => b_X4_draft_l283 v0 v1 v3 v4 v5 v7 ih) n
noncomputable def f_X4_draft_b262 (a0 : Nat) (a1 : Nat) (a3 : Int32) (a4 : Nat) (a5 : Nat) (a7 : Int32) (h : HP) : Rs Nat :=
  nwA 1383 a7 h fun p1 h2 =>
  stR 67 472 a4 p1 h2 fun h3 =>
  nwA 1400 a7 h3 fun p4 h5 =>
  stR 67 473 a4 p4 h5 fun h6 =>
  bd (f_X4_draft_l283 a0 a1 a3 a4 a5 a7 NN (0 : Int32) h6) (Sum.elim (fun x7 => fun h8 => ldR 67 473 a4 h8 fun x9 =>
  aldI 0 x9 x7 h8 fun x10 =>
  if kc h8 a0 = 5 then
  bd (f_X4_bad a0 x10 h8) (fun x11 h12 =>
  if kc h12 x11 = 69 then rex h12 else none)
  else none) (fun x13 => fun h14 => rok a4 h14))
noncomputable def f_X4_draft_b237 (a0 : Nat) (a1 : Nat) (a3 : Int32) (a4 : Nat) (a5 : Nat) (a6 : Int32) (s0 : Int32) (h : HP) : Rs Nat :=
  if s0 ≤ (400 : Int32) then
  (f_X4_draft_b262  a0 a1 a3 a4 a5 s0 h)
  else
  (if kc h a5 = 47 then
  bd (f_X49_array a5 h) (fun x1 h2 =>
  if x1 = 0 then
  (f_X4_draft_b262  a0 a1 a3 a4 a5 s0 h2)
  else
  (if kc h2 a0 = 5 then
  bd (f_X4_bad a0 a6 h2) (fun x3 h4 =>
  if kc h4 x3 = 69 then rex h4 else none)
  else none))
  else none)
noncomputable def b_X4_draft_l113 (v0 : Nat) (v1 : Nat) (v4 : Nat) (v7 : Int32) (v8 : Nat) (ih : Int32 → HP → Rs (Unit ⊕ Unit)) (a9 : Int32) (h : HP) : Rs (Unit ⊕ Unit) :=
  if v7 ≤ a9 then
  (rok (Sum.inr ()) h)
  else
  (ldI 66 468 v1 h fun x1 =>
  ldI 66 467 v1 h fun x2 =>
  if x1 = x2 then
  (rok (Sum.inl ()) h)
  else
  (ldR 66 466 v1 h fun x3 =>
  ldI 66 468 v1 h fun x4 =>
  aldI 1 x3 x4 h fun x5 =>
  if x5 < (32 : Int32) then
  (rok (Sum.inl ()) h)
  else
  (ldR 66 466 v1 h fun x6 =>
  ldI 66 468 v1 h fun x7 =>
  aldI 1 x6 x7 h fun x8 =>
  if x8 ≤ (126 : Int32) then
  (ldR 66 466 v1 h fun x9 =>
  ldI 66 468 v1 h fun x10 =>
  aldI 1 x9 x10 h fun x11 =>
  sbApC v8 (UInt32.toInt32 (Int32.toUInt32 x11 % 65536)) h fun h12 =>
  ldI 66 468 v1 h12 fun x13 =>
  stI 66 468 v1 (x13 + (1 : Int32)) h12 fun h14 =>
  lt3 (a9 + 1) fun x15 =>
  ih x15 h14)
  else
  (rok (Sum.inl ()) h))))
noncomputable def f_X4_draft_l113 (v0 : Nat) (v1 : Nat) (v4 : Nat) (v7 : Int32) (v8 : Nat) (n : Nat) : Int32 → HP → Rs (Unit ⊕ Unit) := @Nat.rec (fun _ => Int32 → HP → Rs (Unit ⊕ Unit)) (fun _ _ => none) (fun _ ih => b_X4_draft_l113 v0 v1 v4 v7 v8 ih) n
noncomputable def f_X4_draft (a0 : Nat) (a1 : Nat) (a2 : Int32) (a3 : Int32) (h : HP) : Rs Nat :=
  nwO 67 6 h fun p1 h2 =>
  if kc h2 p1 = 67 then
  bd (f_X69_init p1 h2) (fun _ h3 =>
  stI 67 469 p1 a2 h3 fun h4 =>
  if kc h4 a0 = 5 then
  bd (f_X4_kindAt a0 a2 h4) (fun x5 h6 =>
  ldI 66 468 a1 h6 fun x7 =>
  ldI 47 363 x5 h6 fun x8 =>
  if x8 = (3 : Int32) then
  (if kc h6 a0 = 5 then
  bd (f_X4_small a0 a1 h6) (fun x32 h33 =>
  stI 67 471 p1 x32 h33 fun h34 =>
  ldI 67 471 p1 h34 fun x35 =>
  ldR 47 373 x5 h34 fun x36 =>
  lsSize x36 h34 fun x37 =>
  if x35 < x37 then
  (rok p1 h34)
  else
  (if kc h34 a0 = 5 then
  bd (f_X4_bad a0 x7 h34) (fun x38 h39 =>
  if kc h39 x38 = 69 then rex h39 else none)
  else none))
  else none)
  else
  (if a2 = (9 : Int32) then
  (if kc h6 a0 = 5 then
  bd (f_X4_small a0 a1 h6) (fun x15 h16 =>
  if x15 ≤ (1000 : Int32) then
  (nwC 72 4 h16 fun p17 h18 =>
  sbInit p17 h18 fun h19 =>
  bd (f_X4_draft_l113 a0 a1 p1 x15 p17 NN (0 : Int32) h19) (Sum.elim (fun x20 => fun h21 => ldI 66 468 a1 h21 fun x22 =>
  if kc h21 a0 = 5 then
  bd (f_X4_bad a0 x22 h21) (fun x23 h24 =>
  if kc h24 x23 = 69 then rex h24 else none)
  else none) (fun x25 => fun h26 => sbStr p17 h26 fun x27 h28 =>
  stR 67 470 p1 x27 h28 fun h29 =>
  rok p1 h29)))
  else
  (if kc h16 a0 = 5 then
  bd (f_X4_bad a0 x7 h16) (fun x30 h31 =>
  if kc h31 x30 = 69 then rex h31 else none)
  else none))
  else none)
  else
  (if kc h6 x5 = 47 then
  bd (f_X49_array x5 h6) (fun x9 h10 =>
  if x9 = 0 then
  (ldR 47 377 x5 h10 fun x11 =>
  lsSize x11 h10 fun x12 =>
  f_X4_draft_b237  a0 a1 a3 p1 x5 x7 x12 h10)
  else
  (if kc h10 a0 = 5 then
  bd (f_X4_small a0 a1 h10) (fun x13 h14 =>
  f_X4_draft_b237  a0 a1 a3 p1 x5 x7 x13 h14)
  else none))
  else none)))
  else none)
  else none
noncomputable def f_X68_init (a0 : Nat) (a1 : Nat) (a2 : Int32) (h : HP) : Rs Unit :=
  if a0 = 0 then none else (
  stR 66 466 a0 a1 h fun h1 =>
  stI 66 467 a0 a2 h1 fun h2 =>
  rok () h2)
noncomputable def b_X4_drafted_l28 (v0 : Nat) (v1 : Nat) (v2 : Nat) (v3 : Int32) (ih : Int64 → Int32 → HP → Rs Int64) (a4 : Int64) (a6 : Int32) (h : HP) : Rs Int64 :=
  if (4 : Int32) ≤ a6 then
  (rok a4 h)
  else
  (aldI 1 v1 (v3 + a6) h fun x1 =>
  lt3 ((a4 <<< (Int32.toInt64 (8 : Int32) &&& 63)) ||| (Int32.toInt64 (x1 &&& (255 : Int32)))) fun x2 =>
  lt3 (a6 + 1) fun x3 =>
  ih x2 x3 h)
noncomputable def f_X4_drafted_l28 (v0 : Nat) (v1 : Nat) (v2 : Nat) (v3 : Int32) (n : Nat) : Int64 → Int32 → HP → Rs Int64 := @Nat.rec (fun _ => Int64 → Int32 → HP → Rs Int64) (fun _ _ _ => none) (fun _ ih => b_X4_drafted_l28 v0 v1 v2 v3 ih) n
noncomputable def b_X4_drafted_l159 (v0 : Nat) (v2 : Nat) (v6 : Nat) (v7 : Int32) (v8 : Nat) (ih : Int32 → HP → Rs Unit) (a9 : Int32) (h : HP) : Rs Unit :=
  if v7 ≤ a9 then
  (rok () h)
  else
  (if kc h v0 = 5 then
  bd (f_X4_descriptorIn v0 v6 v8 h) (fun x1 h2 =>
  ivOf x1 h2 fun x3 h4 =>
  lsAdd v8 x3 h4 fun h5 =>
  lt3 (a9 + 1) fun x6 =>
  ih x6 h5)
  else none)
noncomputable def f_X4_drafted_l159 (v0 : Nat) (v2 : Nat) (v6 : Nat) (v7 : Int32) (v8 : Nat) (n : Nat) : Int32 → HP → Rs Unit := @Nat.rec (fun _ => Int32 → HP → Rs Unit) (fun _ _ => none) (fun _ ih => b_X4_drafted_l159 v0 v2 v6 v7 v8 ih) n
noncomputable def b_X4_drafted_l227 (v0 : Nat) (v2 : Nat) (v6 : Nat) (v7 : Int32) (v8 : Nat) (v10 : Int32) (ih : Int32 → HP → Rs (Int32 ⊕ Unit)) (a11 : Int32) (h : HP) : Rs (Int32 ⊕ Unit) :=
  if v10 ≤ a11 then
  (rok (Sum.inr ()) h)
  else
  (ldI 66 468 v6 h fun x1 =>
  if kc h v0 = 5 then
  bd (f_X4_small v0 v6 h) (fun x2 h3 =>
  if x2 < v7 then
  (lsGet v8 x2 h3 fun x4 =>
  castR [73] x4 h3 (
  ivGet x4 h3 fun x5 =>
  if kc h3 v0 = 5 then
  bd (f_X4_draft v0 v6 x5 v10 h3) (fun x6 h7 =>
  lsAdd v2 x6 h7 fun h8 =>
  lt3 (a11 + 1) fun x9 =>
  ih x9 h8)
  else none))
  else
  (rok (Sum.inl x1) h3))
  else none)
noncomputable def f_X4_drafted_l227 (v0 : Nat) (v2 : Nat) (v6 : Nat) (v7 : Int32) (v8 : Nat) (v10 : Int32) (n : Nat) : Int32 → HP → Rs (Int32 ⊕ Unit) := @Nat.rec (fun _ => Int32 → HP → Rs (Int32 ⊕ Unit)) (fun _ _ => none) (fun _ ih => b_X4_drafted_l227 v0 v2 v6 v7 v8 v10 ih) n
noncomputable def f_X4_drafted_l344b476 (v0 : Nat) (v2 : Nat) (v11 : Int32) (v12 : Nat) (ih : Int32 → HP → Rs (Int32 ⊕ Unit)) (a13 : Int32) (h : HP) : Rs (Int32 ⊕ Unit) :=
  lt3 (a13 + 1) fun x1 =>
  ih x1 h
noncomputable def f_X4_drafted_l344b411 (v0 : Nat) (v2 : Nat) (v11 : Int32) (v12 : Nat) (ih : Int32 → HP → Rs (Int32 ⊕ Unit)) (a13 : Int32) (s0 : Int32) (h : HP) : Rs (Int32 ⊕ Unit) :=
  if s0 < (8 : Int32) then
  (f_X4_drafted_l344b476 v0 v2 v11 v12 ih a13 h)
  else
  (ldR 67 472 v12 h fun x1 =>
  aldJ 3 x1 a13 h fun x2 =>
  if (lg_cmp x2 (0 : Int64)) ≤ 0 then
  (f_X4_drafted_l344b476 v0 v2 v11 v12 ih a13 h)
  else
  (ldR 67 472 v12 h fun x3 =>
  aldJ 3 x3 a13 h fun x4 =>
  lsGet v2 ((Int64.toInt32 x4) - (1 : Int32)) h fun x5 =>
  castR [67] x5 h (
  ldI 67 469 x5 h fun x6 =>
  if kc h v0 = 5 then
  bd (f_X4_isBelow 100 v0 x6 s0 h) (fun x7 h8 =>
  if x7 = 0 then
  (rok (Sum.inl a13) h8)
  else
  (f_X4_drafted_l344b476 v0 v2 v11 v12 ih a13 h8))
  else none)))
noncomputable def b_X4_drafted_l344 (v0 : Nat) (v2 : Nat) (v11 : Int32) (v12 : Nat) (ih : Int32 → HP → Rs (Int32 ⊕ Unit)) (a13 : Int32) (h : HP) : Rs (Int32 ⊕ Unit) :=
  ldR 67 472 v12 h fun x1 =>
  alen x1 h fun x2 =>
  if x2 ≤ a13 then
  (rok (Sum.inr ()) h)
  else
  (ldI 67 469 v12 h fun x3 =>
  if kc h v0 = 5 then
  bd (f_X4_kindAt v0 x3 h) (fun x4 h5 =>
  if kc h5 x4 = 47 then
  bd (f_X49_array x4 h5) (fun x6 h7 =>
  if x6 = 0 then
  (ldI 67 469 v12 h7 fun x8 =>
  if kc h7 v0 = 5 then
  bd (f_X4_kindAt v0 x8 h7) (fun x9 h10 =>
  ldR 47 377 x9 h10 fun x11 =>
  lsGet x11 a13 h10 fun x12 =>
  castR [49] x12 h10 (
  ldR 49 384 x12 h10 fun x13 =>
  ldI 48 383 x13 h10 fun x14 =>
  f_X4_drafted_l344b411 v0 v2 v11 v12 ih a13 x14 h10))
  else none)
  else
  (ldI 67 469 v12 h7 fun x15 =>
  if kc h7 v0 = 5 then
  bd (f_X4_kindAt v0 x15 h7) (fun x16 h17 =>
  ldI 47 367 x16 h17 fun x18 =>
  f_X4_drafted_l344b411 v0 v2 v11 v12 ih a13 x18 h17)
  else none))
  else none)
  else none)
noncomputable def f_X4_drafted_l344 (v0 : Nat) (v2 : Nat) (v11 : Int32) (v12 : Nat) (n : Nat) : Int32 → HP → Rs (Int32 ⊕ Unit) := @Nat.rec (fun _ => Int32 → HP → Rs (Int32 ⊕ Unit)) (fun _ _ => none) (fun _ ih => b_X4_drafted_l344 v0 v2 v11 v12 ih) n
noncomputable def b_X4_drafted_l321 (v0 : Nat) (v2 : Nat) (ih : Int32 → HP → Rs ((Nat × Int32) ⊕ Unit)) (a11 : Int32) (h : HP) : Rs ((Nat × Int32) ⊕ Unit) :=
  lsSize v2 h fun x1 =>
  if x1 ≤ a11 then
  (rok (Sum.inr ()) h)
  else
  (lsGet v2 a11 h fun x2 =>
  castR [67] x2 h (
  bd (f_X4_drafted_l344 v0 v2 a11 x2 NN (0 : Int32) h) (Sum.elim (fun x3 => fun h4 => rok (Sum.inl (x2, x3)) h4) (fun x5 => fun h6 => lt3 (a11 + 1) fun x7 =>
  ih x7 h6))))
noncomputable def f_X4_drafted_l321 (v0 : Nat) (v2 : Nat) (n : Nat) : Int32 → HP → Rs ((Nat × Int32) ⊕ Unit) := @Nat.rec (fun _ => Int32 → HP → Rs ((Nat × Int32) ⊕ Unit)) (fun _ _ => none) (fun _ ih => b_X4_drafted_l321 v0 v2 ih) n
noncomputable def f_X4_drafted (a0 : Nat) (a1 : Nat) (a2 : Nat) (h : HP) : Rs Unit :=
  alen a1 h fun x1 =>
  lt3 (x1 - (4 : Int32)) fun x2 =>
  alen a1 h fun x3 =>
  if (8 : Int32) ≤ x3 then
  (bd (f_X4_drafted_l28 a0 a1 a2 x2 NN (0 : Int64) (0 : Int32) h) (fun x4 h5 => bd (f_X4_crc a1 x2 h5) (fun x6 h7 =>
  if (Int64.toInt32 x4) = x6 then
  (nwO 66 3 h7 fun p8 h9 =>
  if kc h9 p8 = 66 then
  bd (f_X68_init p8 a1 x2 h9) (fun _ h10 =>
  aldI 1 a1 (0 : Int32) h10 fun x11 =>
  if x11 = (79 : Int32) then
  (aldI 1 a1 (1 : Int32) h10 fun x12 =>
  if x12 = (71 : Int32) then
  (stI 66 468 p8 (2 : Int32) h10 fun h13 =>
  if kc h13 a0 = 5 then
  bd (f_X4_small a0 p8 h13) (fun x14 h15 =>
  if x14 = 0 then
  (if kc h15 a0 = 5 then
  bd (f_X4_bad a0 (2 : Int32) h15) (fun x16 h17 =>
  if kc h17 x16 = 69 then rex h17 else none)
  else none)
  else
  (if x14 ≤ (100 : Int32) then
  (nwC 169 3 h15 fun p18 h19 =>
  lsInit p18 h19 fun h20 =>
  bd (f_X4_drafted_l159 a0 a2 p8 x14 p18 NN (0 : Int32) h20) (fun x21 h22 => ldI 66 468 p8 h22 fun x23 =>
  if kc h22 a0 = 5 then
  bd (f_X4_small a0 p8 h22) (fun x24 h25 =>
  if x24 = 0 then
  (if kc h25 a0 = 5 then
  bd (f_X4_bad a0 x23 h25) (fun x26 h27 =>
  if kc h27 x26 = 69 then rex h27 else none)
  else none)
  else
  (if x24 ≤ (4000 : Int32) then
  (bd (f_X4_drafted_l227 a0 a2 p8 x14 p18 x24 NN (0 : Int32) h25) (Sum.elim (fun x28 => fun h29 => if kc h29 a0 = 5 then
  bd (f_X4_bad a0 x28 h29) (fun x30 h31 =>
  if kc h31 x30 = 69 then rex h31 else none)
  else none) (fun x32 => fun h33 => ldI 66 468 p8 h33 fun x34 =>
  ldI 66 467 p8 h33 fun x35 =>
  if x35 ≤ x34 then
  (bd (f_X4_drafted_l321 a0 a2 NN (0 : Int32) h33) (Sum.elim (fun x36 => fun h37 => ldR 67 473 x36.1 h37 fun x38 =>
  aldI 0 x38 x36.2 h37 fun x39 =>
  if kc h37 a0 = 5 then
  bd (f_X4_bad a0 x39 h37) (fun x40 h41 =>
  if kc h41 x40 = 69 then rex h41 else none)
  else none) (fun x42 => fun h43 => rok () h43)))
  else
  (ldI 66 468 p8 h33 fun x44 =>
  if kc h33 a0 = 5 then
  bd (f_X4_bad a0 x44 h33) (fun x45 h46 =>
  if kc h46 x45 = 69 then rex h46 else none)
  else none))))
  else
  (if kc h25 a0 = 5 then
  bd (f_X4_bad a0 x23 h25) (fun x47 h48 =>
  if kc h48 x47 = 69 then rex h48 else none)
  else none)))
  else none))
  else
  (if kc h15 a0 = 5 then
  bd (f_X4_bad a0 (2 : Int32) h15) (fun x49 h50 =>
  if kc h50 x49 = 69 then rex h50 else none)
  else none)))
  else none)
  else
  (if kc h10 a0 = 5 then
  bd (f_X4_bad a0 (1 : Int32) h10) (fun x51 h52 =>
  if kc h52 x51 = 69 then rex h52 else none)
  else none))
  else
  (if kc h10 a0 = 5 then
  bd (f_X4_bad a0 (0 : Int32) h10) (fun x53 h54 =>
  if kc h54 x53 = 69 then rex h54 else none)
  else none))
  else none)
  else
  (if kc h7 a0 = 5 then
  bd (f_X4_bad a0 x2 h7) (fun x55 h56 =>
  if kc h56 x55 = 69 then rex h56 else none)
  else none))))
  else
  (if kc h a0 = 5 then
  bd (f_X4_bad a0 (mxI (0 : Int32) x2) h) (fun x57 h58 =>
  if kc h58 x57 = 69 then rex h58 else none)
  else none)
noncomputable def f_X4_over (a0 : Nat) (a1 : Nat) (h : HP) : Rs Unit :=
  stI 9 137 a1 (0 : Int32) h fun h1 =>
  ldR 5 68 a0 h1 fun x2 =>
  eqR h1 x2 a1
  (stR 5 68 a0 0 h1 fun h3 =>
  rok () h3)
  (rok () h1)
noncomputable def b_X4_drop_l25 (v0 : Nat) (v2 : Nat) (ih : Int32 → HP → Rs Unit) (a3 : Int32) (h : HP) : Rs Unit :=
  ldR 9 142 v2 h fun x1 =>
  lsSize x1 h fun x2 =>
  if x2 ≤ a3 then
  (rok () h)
  else
  (ldR 9 142 v2 h fun x3 =>
  lsGet x3 a3 h fun x4 =>
  castR [58] x4 h (
  stI 58 436 x4 (1 : Int32) h fun h5 =>
  lt3 (a3 + 1) fun x6 =>
  ih x6 h5))
noncomputable def f_X4_drop_l25 (v0 : Nat) (v2 : Nat) (n : Nat) : Int32 → HP → Rs Unit := @Nat.rec (fun _ => Int32 → HP → Rs Unit) (fun _ _ => none) (fun _ ih => b_X4_drop_l25 v0 v2 ih) n
noncomputable def f_X4_drop_b16 (a0 : Nat) (s0 : Nat) (h : HP) : Rs Int32 :=
  if s0 = 0 then
  (rok (0 : Int32) h)
  else
  (bd (f_X4_drop_l25 a0 s0 NN (0 : Int32) h) (fun x1 h2 => if kc h2 a0 = 5 then
  bd (f_X4_over a0 s0 h2) (fun _ h3 =>
  rok (1 : Int32) h3)
  else none))
noncomputable def f_X4_drop (a0 : Nat) (a1 : Int32) (h : HP) : Rs Int32 :=
  if kc h a0 = 5 then
  bd (f_X4_isOpen a0 h) (fun x1 h2 =>
  if x1 = 0 then
  (f_X4_drop_b16  a0 0 h2)
  else
  (if kc h2 a0 = 5 then
  bd (f_X4_actOf a0 a1 h2) (fun x3 h4 =>
  f_X4_drop_b16  a0 x3 h4)
  else none))
  else none
noncomputable def f_X4_element_b60 (a0 : Nat) (a2 : Int32) (a3 : Nat) (h : HP) : Rs Int64 :=
  ldI 5 76 a0 h fun x1 =>
  if x1 ≤ 0 then
  (if kc h a0 = 5 then
  bd (f_X4_values a0 a3 h) (fun x2 h3 =>
  aldJ 3 x2 a2 h3 fun x4 =>
  rok x4 h3)
  else none)
  else
  (rok (0 : Int64) h)
noncomputable def f_X4_element_b55 (a0 : Nat) (a2 : Int32) (a3 : Nat) (h : HP) : Rs Int64 :=
  stI 5 76 a0 (2 : Int32) h fun h1 =>
  f_X4_element_b60  a0 a2 a3 h1
noncomputable def f_X4_element (a0 : Nat) (a1 : Int32) (a2 : Int32) (h : HP) : Rs Int64 :=
  if kc h a0 = 5 then
  bd (f_X4_codeOf a0 a1 h) (fun x1 h2 =>
  stI 5 76 a0 x1 h2 fun h3 =>
  ldI 5 76 a0 h3 fun x4 =>
  if x4 ≤ 0 then
  (if kc h3 a0 = 5 then
  bd (f_X4_thingAt a0 (Int32.toInt64 a1) h3) (fun x5 h6 =>
  if kc h6 a0 = 5 then
  bd (f_X4_isArray a0 x5 h6) (fun x7 h8 =>
  if x7 = 0 then
  (stI 5 76 a0 (1 : Int32) h8 fun h12 =>
  f_X4_element_b60  a0 a2 x5 h12)
  else
  (if a2 < 0 then
  (f_X4_element_b55  a0 a2 x5 h8)
  else
  (if kc h8 a0 = 5 then
  bd (f_X4_seen a0 x5 h8) (fun x9 h10 =>
  alen x9 h10 fun x11 =>
  if a2 < x11 then
  (f_X4_element_b60  a0 a2 x5 h10)
  else
  (f_X4_element_b55  a0 a2 x5 h10))
  else none)))
  else none)
  else none)
  else
  (rok (0 : Int64) h3))
  else none
noncomputable def f_X4_end (a0 : Nat) (a1 : Int32) (h : HP) : Rs Int32 :=
  if a1 < 0 then
  (rok (-1 : Int32) h)
  else
  (ldI 5 50 a0 h fun x1 =>
  if a1 ≤ x1 then
  (stI 5 50 a0 a1 h fun h2 =>
  rok a1 h2)
  else
  (rok (-1 : Int32) h))
noncomputable def b_X4_word_l2 (v0 : Nat) (v1 : Int32) (ih : Int32 → HP → Rs Unit) (a2 : Int32) (h : HP) : Rs Unit :=
  if (4 : Int32) ≤ a2 then
  (rok () h)
  else
  (ldR 5 49 v0 h fun x1 =>
  ldI 5 50 v0 h fun x2 =>
  astI 1 x1 x2 (vp_nar .byte (Int8.toInt32 (Int32.toInt8 (v1 >>> (((24 : Int32) - ((8 : Int32) * a2)) &&& 31))))) h fun h3 =>
  ldI 5 50 v0 h3 fun x4 =>
  stI 5 50 v0 (x4 + (1 : Int32)) h3 fun h5 =>
  lt3 (a2 + 1) fun x6 =>
  ih x6 h5)
noncomputable def f_X4_word_l2 (v0 : Nat) (v1 : Int32) (n : Nat) : Int32 → HP → Rs Unit := @Nat.rec (fun _ => Int32 → HP → Rs Unit) (fun _ _ => none) (fun _ ih => b_X4_word_l2 v0 v1 ih) n
noncomputable def f_X4_word (a0 : Nat) (a1 : Int32) (h : HP) : Rs Unit :=
  bd (f_X4_word_l2 a0 a1 NN (0 : Int32) h) (fun x1 h2 => rok () h2)
noncomputable def f_X4_feed (a0 : Nat) (a1 : Int32) (a2 : Int32) (a3 : Int32) (a4 : Int32) (a5 : Int32) (h : HP) : Rs Int32 :=
  ldI 5 50 a0 h fun x1 =>
  if (x1 + (20 : Int32)) ≤ (65540 : Int32) then
  (if kc h a0 = 5 then
  bd (f_X4_word a0 a1 h) (fun _ h2 =>
  if kc h2 a0 = 5 then
  bd (f_X4_word a0 a2 h2) (fun _ h3 =>
  if kc h3 a0 = 5 then
  bd (f_X4_word a0 a3 h3) (fun _ h4 =>
  if kc h4 a0 = 5 then
  bd (f_X4_word a0 a4 h4) (fun _ h5 =>
  if kc h5 a0 = 5 then
  bd (f_X4_word a0 a5 h5) (fun _ h6 =>
  ldI 5 50 a0 h6 fun x7 =>
  rok x7 h6)
  else none)
  else none)
  else none)
  else none)
  else none)
  else
  (rok (-1 : Int32) h)
noncomputable def f_X4_hasFields (a0 : Nat) (a1 : Int32) (h : HP) : Rs Int32 :=
  if kc h a0 = 5 then
  bd (f_X4_kindAt a0 a1 h) (fun x1 h2 =>
  ldI 47 363 x1 h2 fun x3 =>
  if x3 = (1 : Int32) then
  (rok (1 : Int32) h2)
  else
  (if kc h2 a0 = 5 then
  bd (f_X4_kindAt a0 a1 h2) (fun x4 h5 =>
  ldI 47 363 x4 h5 fun x6 =>
  if x6 = (4 : Int32) then
  (rok (1 : Int32) h5)
  else
  (rok (0 : Int32) h5))
  else none))
  else none
noncomputable def f_X4_field (a0 : Nat) (a1 : Int32) (a2 : Int32) (h : HP) : Rs Int32 :=
  if kc h a0 = 5 then
  bd (f_X4_isOpen a0 h) (fun x1 h2 =>
  if x1 = 0 then
  (rok (-13 : Int32) h2)
  else
  (if kc h2 a0 = 5 then
  bd (f_X4_isKind a0 a1 h2) (fun x3 h4 =>
  if x3 = 0 then
  (rok (-14 : Int32) h4)
  else
  (if kc h4 a0 = 5 then
  bd (f_X4_hasFields a0 a1 h4) (fun x5 h6 =>
  if x5 = 0 then
  (rok (-14 : Int32) h6)
  else
  (if a2 < 0 then
  (rok (-14 : Int32) h6)
  else
  (if kc h6 a0 = 5 then
  bd (f_X4_kindAt a0 a1 h6) (fun x7 h8 =>
  ldR 47 377 x7 h8 fun x9 =>
  lsSize x9 h8 fun x10 =>
  if a2 < x10 then
  (if kc h8 a0 = 5 then
  bd (f_X4_kindAt a0 a1 h8) (fun x11 h12 =>
  ldR 47 377 x11 h12 fun x13 =>
  lsGet x13 a2 h12 fun x14 =>
  castR [49] x14 h12 (
  ldR 49 384 x14 h12 fun x15 =>
  ldI 48 383 x15 h12 fun x16 =>
  rok x16 h12))
  else none)
  else
  (rok (-14 : Int32) h8))
  else none)))
  else none))
  else none))
  else none
noncomputable def f_X4_fields (a0 : Nat) (a1 : Int32) (h : HP) : Rs Int32 :=
  if kc h a0 = 5 then
  bd (f_X4_isOpen a0 h) (fun x1 h2 =>
  if x1 = 0 then
  (rok (-13 : Int32) h2)
  else
  (if kc h2 a0 = 5 then
  bd (f_X4_isKind a0 a1 h2) (fun x3 h4 =>
  if x3 = 0 then
  (rok (-14 : Int32) h4)
  else
  (if kc h4 a0 = 5 then
  bd (f_X4_hasFields a0 a1 h4) (fun x5 h6 =>
  if x5 = 0 then
  (rok (0 : Int32) h6)
  else
  (if kc h6 a0 = 5 then
  bd (f_X4_kindAt a0 a1 h6) (fun x7 h8 =>
  ldR 47 377 x7 h8 fun x9 =>
  lsSize x9 h8 fun x10 =>
  rok x10 h8)
  else none))
  else none))
  else none))
  else none
noncomputable def f_X4_fits (a0 : Nat) (a1 : Int32) (a2 : Int32) (h : HP) : Rs Int32 :=
  if kc h a0 = 5 then
  bd (f_X4_isOpen a0 h) (fun x1 h2 =>
  if x1 = 0 then
  (rok (-13 : Int32) h2)
  else
  (if kc h2 a0 = 5 then
  bd (f_X4_isKind a0 a1 h2) (fun x3 h4 =>
  if x3 = 0 then
  (rok (-14 : Int32) h4)
  else
  (if kc h4 a0 = 5 then
  bd (f_X4_isKind a0 a2 h4) (fun x5 h6 =>
  if x5 = 0 then
  (rok (-14 : Int32) h6)
  else
  (if kc h6 a0 = 5 then
  bd (f_X4_isFitting a0 a1 a2 h6) (fun x7 h8 =>
  if x7 = 0 then
  (rok (0 : Int32) h8)
  else
  (rok (1 : Int32) h8))
  else none))
  else none))
  else none))
  else none
noncomputable def f_X4_found (a0 : Nat) (a1 : Int32) (h : HP) : Rs Int32 :=
  if a1 < 0 then
  (rok (0 : Int32) h)
  else
  (ldI 5 103 a0 h fun x1 =>
  if x1 ≤ a1 then
  (rok (0 : Int32) h)
  else
  (ldR 5 102 a0 h fun x2 =>
  aldI 0 x2 a1 h fun x3 =>
  rok x3 h))
noncomputable def f_X4_isObject (a0 : Nat) (a1 : Nat) (h : HP) : Rs Int32 :=
  ldI 58 430 a1 h fun x1 =>
  if kc h a0 = 5 then
  bd (f_X4_kindAt a0 x1 h) (fun x2 h3 =>
  ldI 47 363 x2 h3 fun x4 =>
  if x4 = (1 : Int32) then
  (rok (1 : Int32) h3)
  else
  (ldI 58 430 a1 h3 fun x5 =>
  if kc h3 a0 = 5 then
  bd (f_X4_kindAt a0 x5 h3) (fun x6 h7 =>
  ldI 47 363 x6 h7 fun x8 =>
  if x8 = (4 : Int32) then
  (rok (1 : Int32) h7)
  else
  (rok (0 : Int32) h7))
  else none))
  else none
noncomputable def f_X4_get_b69 (a0 : Nat) (a2 : Int32) (a3 : Nat) (h : HP) : Rs Int64 :=
  ldI 5 76 a0 h fun x1 =>
  if x1 ≤ 0 then
  (if kc h a0 = 5 then
  bd (f_X4_values a0 a3 h) (fun x2 h3 =>
  aldJ 3 x2 a2 h3 fun x4 =>
  rok x4 h3)
  else none)
  else
  (rok (0 : Int64) h)
noncomputable def f_X4_get_b63 (a0 : Nat) (a2 : Int32) (a3 : Nat) (h : HP) : Rs Int64 :=
  stI 5 76 a0 (14 : Int32) h fun h1 =>
  f_X4_get_b69  a0 a2 a3 h1
noncomputable def f_X4_get (a0 : Nat) (a1 : Int32) (a2 : Int32) (h : HP) : Rs Int64 :=
  if kc h a0 = 5 then
  bd (f_X4_codeOf a0 a1 h) (fun x1 h2 =>
  stI 5 76 a0 x1 h2 fun h3 =>
  ldI 5 76 a0 h3 fun x4 =>
  if x4 ≤ 0 then
  (if kc h3 a0 = 5 then
  bd (f_X4_thingAt a0 (Int32.toInt64 a1) h3) (fun x5 h6 =>
  if kc h6 a0 = 5 then
  bd (f_X4_isObject a0 x5 h6) (fun x7 h8 =>
  if x7 = 0 then
  (stI 5 76 a0 (1 : Int32) h8 fun h14 =>
  f_X4_get_b69  a0 a2 x5 h14)
  else
  (if a2 < 0 then
  (f_X4_get_b63  a0 a2 x5 h8)
  else
  (ldI 58 430 x5 h8 fun x9 =>
  if kc h8 a0 = 5 then
  bd (f_X4_kindAt a0 x9 h8) (fun x10 h11 =>
  ldR 47 377 x10 h11 fun x12 =>
  lsSize x12 h11 fun x13 =>
  if a2 < x13 then
  (f_X4_get_b69  a0 a2 x5 h11)
  else
  (f_X4_get_b63  a0 a2 x5 h11))
  else none)))
  else none)
  else none)
  else
  (rok (0 : Int64) h3))
  else none
noncomputable def f_X4_hasReferences (a0 : Nat) (a1 : Nat) (h : HP) : Rs Int32 :=
  ldR 58 431 a1 h fun x1 =>
  if x1 = 0 then
  (ldI 58 432 a1 h fun x2 =>
  if 0 ≤ x2 then
  (rok (0 : Int32) h)
  else
  (if kc h a0 = 5 then
  bd (f_X4_isArray a0 a1 h) (fun x3 h4 =>
  if x3 = 0 then
  (rok (1 : Int32) h4)
  else
  (ldI 58 430 a1 h4 fun x5 =>
  if kc h4 a0 = 5 then
  bd (f_X4_kindAt a0 x5 h4) (fun x6 h7 =>
  ldI 47 367 x6 h7 fun x8 =>
  if x8 < (8 : Int32) then
  (rok (0 : Int32) h7)
  else
  (rok (1 : Int32) h7))
  else none))
  else none))
  else
  (rok (0 : Int32) h)
noncomputable def f_X4_isOfRead_l2b36 (v0 : Nat) (v1 : Nat) (v2 : Nat) (ih : Int32 → HP → Rs (Unit ⊕ Unit)) (a3 : Int32) (h : HP) : Rs (Unit ⊕ Unit) :=
  lt3 (a3 + 1) fun x1 =>
  ih x1 h
noncomputable def b_X4_isOfRead_l2 (v0 : Nat) (v1 : Nat) (v2 : Nat) (ih : Int32 → HP → Rs (Unit ⊕ Unit)) (a3 : Int32) (h : HP) : Rs (Unit ⊕ Unit) :=
  ldR 5 53 v0 h fun x1 =>
  lsSize x1 h fun x2 =>
  if x2 ≤ a3 then
  (rok (Sum.inr ()) h)
  else
  (ldR 9 144 v2 h fun x3 =>
  aldI 2 x3 a3 h fun x4 =>
  if x4 = 0 then
  (f_X4_isOfRead_l2b36 v0 v1 v2 ih a3 h)
  else
  (ldI 58 430 v1 h fun x5 =>
  if kc h v0 = 5 then
  bd (f_X4_isBelow 100 v0 x5 a3 h) (fun x6 h7 =>
  if x6 = 0 then
  (f_X4_isOfRead_l2b36 v0 v1 v2 ih a3 h7)
  else
  (rok (Sum.inl ()) h7))
  else none))
noncomputable def f_X4_isOfRead_l2 (v0 : Nat) (v1 : Nat) (v2 : Nat) (n : Nat) : Int32 → HP → Rs (Unit ⊕ Unit) := @Nat.rec (fun _ => Int32 → HP → Rs (Unit ⊕ Unit)) (fun _ _ => none) (fun _ ih => b_X4_isOfRead_l2 v0 v1 v2 ih) n
noncomputable def f_X4_isOfRead (a0 : Nat) (a1 : Nat) (a2 : Nat) (h : HP) : Rs Int32 :=
  bd (f_X4_isOfRead_l2 a0 a1 a2 NN (0 : Int32) h) (Sum.elim (fun x1 => fun h2 => rok (1 : Int32) h2) (fun x3 => fun h4 => rok (0 : Int32) h4))
noncomputable def f_X4_reach (a0 : Nat) (a1 : Nat) (h : HP) : Rs Unit :=
  if a1 = 0 then
  (rok () h)
  else
  (ldR 5 127 a0 h fun x1 =>
  ldI 58 429 a1 h fun x2 =>
  aldI 2 x1 x2 h fun x3 =>
  if x3 = 0 then
  (ldR 5 127 a0 h fun x4 =>
  ldI 58 429 a1 h fun x5 =>
  astI 2 x4 x5 (vp_nar .boolean (1 : Int32)) h fun h6 =>
  ldR 5 128 a0 h6 fun x7 =>
  lsAdd x7 a1 h6 fun h8 =>
  rok () h8)
  else
  (rok () h))
noncomputable def b_X4_holds_l2 (v0 : Nat) (v1 : Nat) (ih : Int32 → HP → Rs Unit) (a2 : Int32) (h : HP) : Rs Unit :=
  if (16 : Int32) ≤ a2 then
  (rok () h)
  else
  (ldR 9 145 v1 h fun x1 =>
  aldI 0 x1 a2 h fun x2 =>
  if kc h v0 = 5 then
  bd (f_X4_thingAt v0 (Int32.toInt64 x2) h) (fun x3 h4 =>
  if kc h4 v0 = 5 then
  bd (f_X4_reach v0 x3 h4) (fun _ h5 =>
  lt3 (a2 + 1) fun x6 =>
  ih x6 h5)
  else none)
  else none)
noncomputable def f_X4_holds_l2 (v0 : Nat) (v1 : Nat) (n : Nat) : Int32 → HP → Rs Unit := @Nat.rec (fun _ => Int32 → HP → Rs Unit) (fun _ _ => none) (fun _ ih => b_X4_holds_l2 v0 v1 ih) n
noncomputable def f_X4_holds_l31b88 (v0 : Nat) (v1 : Nat) (ih : Int32 → HP → Rs Unit) (a2 : Int32) (h : HP) : Rs Unit :=
  lt3 (a2 + 1) fun x1 =>
  ih x1 h
noncomputable def f_X4_holds_l31b83 (v0 : Nat) (v1 : Nat) (ih : Int32 → HP → Rs Unit) (a2 : Int32) (a3 : Nat) (h : HP) : Rs Unit :=
  if kc h v0 = 5 then
  bd (f_X4_reach v0 a3 h) (fun _ h1 =>
  f_X4_holds_l31b88 v0 v1 ih a2 h1)
  else none
noncomputable def b_X4_holds_l31 (v0 : Nat) (v1 : Nat) (ih : Int32 → HP → Rs Unit) (a2 : Int32) (h : HP) : Rs Unit :=
  ldI 5 60 v0 h fun x1 =>
  if x1 ≤ a2 then
  (rok () h)
  else
  (ldR 5 59 v0 h fun x2 =>
  aldR 13 x2 a2 h fun x3 =>
  if kc h v0 = 5 then
  bd (f_X4_isAliveIn v0 x3 v1 (0 : Int32) h) (fun x4 h5 =>
  if x4 = 0 then
  (f_X4_holds_l31b88 v0 v1 ih a2 h5)
  else
  (ldR 9 140 v1 h5 fun x6 =>
  aldR 9 x6 a2 h5 fun x7 =>
  if x7 = 0 then
  (ldR 9 143 v1 h5 fun x8 =>
  aldI 2 x8 a2 h5 fun x9 =>
  if x9 = 0 then
  (if kc h5 v0 = 5 then
  bd (f_X4_isOfRead v0 x3 v1 h5) (fun x10 h11 =>
  if x10 = 0 then
  (f_X4_holds_l31b88 v0 v1 ih a2 h11)
  else
  (f_X4_holds_l31b83 v0 v1 ih a2 x3 h11))
  else none)
  else
  (f_X4_holds_l31b83 v0 v1 ih a2 x3 h5))
  else
  (f_X4_holds_l31b83 v0 v1 ih a2 x3 h5)))
  else none)
noncomputable def f_X4_holds_l31 (v0 : Nat) (v1 : Nat) (n : Nat) : Int32 → HP → Rs Unit := @Nat.rec (fun _ => Int32 → HP → Rs Unit) (fun _ _ => none) (fun _ ih => b_X4_holds_l31 v0 v1 ih) n
noncomputable def b_X4_holds_l96 (v0 : Nat) (v1 : Nat) (ih : Int32 → HP → Rs Unit) (a2 : Int32) (h : HP) : Rs Unit :=
  ldR 9 142 v1 h fun x1 =>
  lsSize x1 h fun x2 =>
  if x2 ≤ a2 then
  (rok () h)
  else
  (ldR 9 142 v1 h fun x3 =>
  lsGet x3 a2 h fun x4 =>
  castR [58] x4 h (
  if kc h v0 = 5 then
  bd (f_X4_reach v0 x4 h) (fun _ h5 =>
  lt3 (a2 + 1) fun x6 =>
  ih x6 h5)
  else none))
noncomputable def f_X4_holds_l96 (v0 : Nat) (v1 : Nat) (n : Nat) : Int32 → HP → Rs Unit := @Nat.rec (fun _ => Int32 → HP → Rs Unit) (fun _ _ => none) (fun _ ih => b_X4_holds_l96 v0 v1 ih) n
noncomputable def f_X4_holds (a0 : Nat) (a1 : Nat) (h : HP) : Rs Unit :=
  bd (f_X4_holds_l2 a0 a1 NN (0 : Int32) h) (fun x1 h2 => bd (f_X4_holds_l31 a0 a1 NN (1 : Int32) h2) (fun x3 h4 => bd (f_X4_holds_l96 a0 a1 NN (0 : Int32) h4) (fun x5 h6 => rok () h6)))
noncomputable def f_X5_init (a0 : Nat) (h : HP) : Rs Unit :=
  if a0 = 0 then none else (
  rok () h)
noncomputable def f_X6_init (a0 : Nat) (h : HP) : Rs Unit :=
  if a0 = 0 then none else (
  nwA 1421 (256 : Int32) h fun p1 h2 =>
  stR 7 133 a0 p1 h2 fun h3 =>
  rok () h3)
noncomputable def f_X7_init (a0 : Nat) (h : HP) : Rs Unit :=
  if a0 = 0 then none else (
  nwA 1443 (10000 : Int32) h fun p1 h2 =>
  stR 8 135 a0 p1 h2 fun h3 =>
  rok () h3)
noncomputable def f_X8_init (a0 : Nat) (h : HP) : Rs Unit :=
  if a0 = 0 then none else (
  nwA 1469 (4001 : Int32) h fun p1 h2 =>
  stR 9 140 a0 p1 h2 fun h3 =>
  nwC 171 3 h3 fun p4 h5 =>
  lsInit p4 h5 fun h6 =>
  stR 9 141 a0 p4 h6 fun h7 =>
  nwC 170 3 h7 fun p8 h9 =>
  lsInit p8 h9 fun h10 =>
  stR 9 142 a0 p8 h10 fun h11 =>
  nwA 1482 (4001 : Int32) h11 fun p12 h13 =>
  stR 9 143 a0 p12 h13 fun h14 =>
  nwA 1502 (400 : Int32) h14 fun p15 h16 =>
  stR 9 144 a0 p15 h16 fun h17 =>
  nwA 1520 (16 : Int32) h17 fun p18 h19 =>
  stR 9 145 a0 p18 h19 fun h20 =>
  nwA 1542 (16 : Int32) h20 fun p21 h22 =>
  stR 9 146 a0 p21 h22 fun h23 =>
  nwA 1562 (16 : Int32) h23 fun p24 h25 =>
  stR 9 147 a0 p24 h25 fun h26 =>
  rok () h26)
noncomputable def b_X4_init_l479 (v0 : Nat) (ih : Int32 → HP → Rs Unit) (a1 : Int32) (h : HP) : Rs Unit :=
  if (8 : Int32) ≤ a1 then
  (rok () h)
  else
  (ldR 5 66 v0 h fun x1 =>
  nwO 9 11 h fun p2 h3 =>
  if kc h3 p2 = 9 then
  bd (f_X8_init p2 h3) (fun _ h4 =>
  astO 10 9 x1 a1 p2 h4 fun h5 =>
  lt3 (a1 + 1) fun x6 =>
  ih x6 h5)
  else none)
noncomputable def f_X4_init_l479 (v0 : Nat) (n : Nat) : Int32 → HP → Rs Unit := @Nat.rec (fun _ => Int32 → HP → Rs Unit) (fun _ _ => none) (fun _ ih => b_X4_init_l479 v0 ih) n
noncomputable def f_X4_init (a0 : Nat) (h : HP) : Rs Unit :=
  if a0 = 0 then none else (
  nwA 1581 (65540 : Int32) h fun p1 h2 =>
  stR 5 49 a0 p1 h2 fun h3 =>
  stI 5 51 a0 (-1 : Int32) h3 fun h4 =>
  nwO 6 2 h4 fun p5 h6 =>
  if kc h6 p5 = 6 then
  bd (f_X5_init p5 h6) (fun _ h7 =>
  stR 5 52 a0 p5 h7 fun h8 =>
  nwC 183 3 h8 fun p9 h10 =>
  lsInit p9 h10 fun h11 =>
  stR 5 53 a0 p9 h11 fun h12 =>
  nwC 182 3 h12 fun p13 h14 =>
  lsInit p13 h14 fun h15 =>
  stR 5 57 a0 p13 h15 fun h16 =>
  nwA 1602 (0 : Int32) h16 fun p17 h18 =>
  stR 5 58 a0 p17 h18 fun h19 =>
  nwA 1633 (4001 : Int32) h19 fun p20 h21 =>
  stR 5 59 a0 p20 h21 fun h22 =>
  stI 5 60 a0 (1 : Int32) h22 fun h23 =>
  nwA 1654 (65 : Int32) h23 fun p24 h25 =>
  stR 5 63 a0 p24 h25 fun h26 =>
  nwA 1670 (8 : Int32) h26 fun p27 h28 =>
  stR 5 66 a0 p27 h28 fun h29 =>
  stI 5 69 a0 (-1 : Int32) h29 fun h30 =>
  nwC 181 3 h30 fun p31 h32 =>
  lsInit p31 h32 fun h33 =>
  stR 5 71 a0 p31 h33 fun h34 =>
  stI 5 72 a0 (-1 : Int32) h34 fun h35 =>
  nwA 1680 (40 : Int32) h35 fun p36 h37 =>
  stR 5 73 a0 p36 h37 fun h38 =>
  nwA 1703 (40 : Int32) h38 fun p39 h40 =>
  stR 5 74 a0 p39 h40 fun h41 =>
  nwA 1723 (400 : Int32) h41 fun p42 h43 =>
  stR 5 77 a0 p42 h43 fun h44 =>
  nwA 1751 (31 : Int32) h44 fun p45 h46 =>
  stR 5 78 a0 p45 h46 fun h47 =>
  nwA 1772 (1100 : Int32) h47 fun p48 h49 =>
  stR 5 80 a0 p48 h49 fun h50 =>
  nwA 1783 (256 : Int32) h50 fun p51 h52 =>
  stR 5 81 a0 p51 h52 fun h53 =>
  nwA 1803 (256 : Int32) h53 fun p54 h55 =>
  stR 5 85 a0 p54 h55 fun h56 =>
  nwC 180 3 h56 fun p57 h58 =>
  lsInit p57 h58 fun h59 =>
  stR 5 89 a0 p57 h59 fun h60 =>
  nwA 1823 (1001 : Int32) h60 fun p61 h62 =>
  stR 5 93 a0 p61 h62 fun h63 =>
  nwA 1843 (4004 : Int32) h63 fun p64 h65 =>
  stR 5 94 a0 p64 h65 fun h66 =>
  nwA 1863 (4000 : Int32) h66 fun p67 h68 =>
  stR 5 95 a0 p67 h68 fun h69 =>
  nwA 1880 (1000 : Int32) h69 fun p70 h71 =>
  stR 5 96 a0 p70 h71 fun h72 =>
  nwA 1900 (4 : Int32) h72 fun p73 h74 =>
  stR 5 99 a0 p73 h74 fun h75 =>
  nwA 1920 (4000 : Int32) h75 fun p76 h77 =>
  stR 5 102 a0 p76 h77 fun h78 =>
  nwC 179 3 h78 fun p79 h80 =>
  lsInit p79 h80 fun h81 =>
  stR 5 104 a0 p79 h81 fun h82 =>
  nwA 1940 (4001 : Int32) h82 fun p83 h84 =>
  stR 5 105 a0 p83 h84 fun h85 =>
  nwO 7 2 h85 fun p86 h87 =>
  if kc h87 p86 = 7 then
  bd (f_X6_init p86 h87) (fun _ h88 =>
  stR 5 106 a0 p86 h88 fun h89 =>
  nwO 7 2 h89 fun p90 h91 =>
  if kc h91 p90 = 7 then
  bd (f_X6_init p90 h91) (fun _ h92 =>
  stR 5 107 a0 p90 h92 fun h93 =>
  nwA 1960 (400 : Int32) h93 fun p94 h95 =>
  stR 5 108 a0 p94 h95 fun h96 =>
  nwA 1980 (400 : Int32) h96 fun p97 h98 =>
  stR 5 109 a0 p97 h98 fun h99 =>
  nwA 2000 (4001 : Int32) h99 fun p100 h101 =>
  stR 5 110 a0 p100 h101 fun h102 =>
  nwO 8 2 h102 fun p103 h104 =>
  if kc h104 p103 = 8 then
  bd (f_X7_init p103 h104) (fun _ h105 =>
  stR 5 111 a0 p103 h105 fun h106 =>
  nwO 8 2 h106 fun p107 h108 =>
  if kc h108 p107 = 8 then
  bd (f_X7_init p107 h108) (fun _ h109 =>
  stR 5 112 a0 p107 h109 fun h110 =>
  nwA 2020 (4001 : Int32) h110 fun p111 h112 =>
  stR 5 113 a0 p111 h112 fun h113 =>
  nwA 2040 (4001 : Int32) h113 fun p114 h115 =>
  stR 5 114 a0 p114 h115 fun h116 =>
  nwC 178 3 h116 fun p117 h118 =>
  lsInit p117 h118 fun h119 =>
  stR 5 115 a0 p117 h119 fun h120 =>
  nwC 177 3 h120 fun p121 h122 =>
  lsInit p121 h122 fun h123 =>
  stR 5 116 a0 p121 h123 fun h124 =>
  nwA 2060 (2001 : Int32) h124 fun p125 h126 =>
  stR 5 117 a0 p125 h126 fun h127 =>
  nwA 2093 (2001 : Int32) h127 fun p128 h129 =>
  stR 5 118 a0 p128 h129 fun h130 =>
  nwC 176 3 h130 fun p131 h132 =>
  lsInit p131 h132 fun h133 =>
  stR 5 119 a0 p131 h133 fun h134 =>
  nwA 2101 (40000 : Int32) h134 fun p135 h136 =>
  stR 5 120 a0 p135 h136 fun h137 =>
  nwA 2121 (40000 : Int32) h137 fun p138 h139 =>
  stR 5 121 a0 p138 h139 fun h140 =>
  nwC 175 3 h140 fun p141 h142 =>
  lsInit p141 h142 fun h143 =>
  stR 5 123 a0 p141 h143 fun h144 =>
  nwC 174 3 h144 fun p145 h146 =>
  lsInit p145 h146 fun h147 =>
  stR 5 124 a0 p145 h147 fun h148 =>
  nwO 7 2 h148 fun p149 h150 =>
  if kc h150 p149 = 7 then
  bd (f_X6_init p149 h150) (fun _ h151 =>
  stR 5 126 a0 p149 h151 fun h152 =>
  nwA 2142 (4001 : Int32) h152 fun p153 h154 =>
  stR 5 127 a0 p153 h154 fun h155 =>
  nwC 173 3 h155 fun p156 h157 =>
  lsInit p156 h157 fun h158 =>
  stR 5 128 a0 p156 h158 fun h159 =>
  nwC 172 3 h159 fun p160 h161 =>
  lsInit p160 h161 fun h162 =>
  stR 5 129 a0 p160 h162 fun h163 =>
  bd (f_X4_init_l479 a0 NN (0 : Int32) h163) (fun x164 h165 => rok () h165))
  else none)
  else none)
  else none)
  else none)
  else none)
  else none)
noncomputable def f_X4_isDead (a0 : Nat) (a1 : Int32) (a2 : Int64) (h : HP) : Rs Int32 :=
  if a1 = (8 : Int32) then
  (if (lg_cmp a2 (0 : Int64)) = 0 then
  (rok (0 : Int32) h)
  else
  (if kc h a0 = 5 then
  bd (f_X4_isAlive a0 a2 h) (fun x1 h2 =>
  if x1 = 0 then
  (rok (1 : Int32) h2)
  else
  (rok (0 : Int32) h2))
  else none))
  else
  (rok (0 : Int32) h)
noncomputable def f_X4_isFixed (a0 : Nat) (h : HP) : Rs Int32 :=
  ldR 58 431 a0 h fun x1 =>
  if x1 = 0 then
  (ldI 58 432 a0 h fun x2 =>
  if x2 < 0 then
  (rok (0 : Int32) h)
  else
  (rok (1 : Int32) h))
  else
  (rok (1 : Int32) h)
noncomputable def b_X4_isSame_l6 (v0 : Nat) (v1 : Nat) (v2 : Nat) (ih : Int32 → HP → Rs Unit) (a3 : Int32) (h : HP) : Rs Unit :=
  if (4000 : Int32) < a3 then
  (rok () h)
  else
  (ldR 5 110 v0 h fun x1 =>
  astI 0 x1 a3 (0 : Int32) h fun h2 =>
  lt3 (a3 + 1) fun x3 =>
  ih x3 h2)
noncomputable def f_X4_isSame_l6 (v0 : Nat) (v1 : Nat) (v2 : Nat) (n : Nat) : Int32 → HP → Rs Unit := @Nat.rec (fun _ => Int32 → HP → Rs Unit) (fun _ _ => none) (fun _ ih => b_X4_isSame_l6 v0 v1 v2 ih) n
noncomputable def f_X4_isSame_l39b208 (v0 : Nat) (ih : Int32 → HP → Rs (Unit ⊕ Unit ⊕ Unit)) (a3 : Int32) (h : HP) : Rs (Unit ⊕ Unit ⊕ Unit) :=
  lt3 (a3 + 1) fun x1 =>
  ih x1 h
noncomputable def f_X4_isSame_l118b202 (v0 : Nat) (v3 : Int32) (v4 : Nat) (v6 : Nat) (v7 : Nat) (ih : Int32 → HP → Rs (Unit ⊕ Unit ⊕ Unit)) (a8 : Int32) (h : HP) : Rs (Unit ⊕ Unit ⊕ Unit) :=
  lt3 (a8 + 1) fun x1 =>
  ih x1 h
noncomputable def f_X4_isSame_l118b159 (v0 : Nat) (v3 : Int32) (v4 : Nat) (v6 : Nat) (v7 : Nat) (ih : Int32 → HP → Rs (Unit ⊕ Unit ⊕ Unit)) (a8 : Int32) (h : HP) : Rs (Unit ⊕ Unit ⊕ Unit) :=
  aldJ 3 v6 a8 h fun x1 =>
  aldJ 3 v7 a8 h fun x2 =>
  if (lg_cmp x1 x2) = 0 then
  (f_X4_isSame_l118b202 v0 v3 v4 v6 v7 ih a8 h)
  else
  (rok (Sum.inl ()) h)
noncomputable def b_X4_isSame_l118 (v0 : Nat) (v3 : Int32) (v4 : Nat) (v6 : Nat) (v7 : Nat) (ih : Int32 → HP → Rs (Unit ⊕ Unit ⊕ Unit)) (a8 : Int32) (h : HP) : Rs (Unit ⊕ Unit ⊕ Unit) :=
  alen v6 h fun x1 =>
  if x1 ≤ a8 then
  (rok (Sum.inr (Sum.inr ())) h)
  else
  (if kc h v0 = 5 then
  bd (f_X4_kindOfPlace v0 v4 a8 h) (fun x2 h3 =>
  if x2 < (8 : Int32) then
  (f_X4_isSame_l118b159 v0 v3 v4 v6 v7 ih a8 h3)
  else
  (aldJ 3 v6 a8 h3 fun x4 =>
  if (lg_cmp x4 (0 : Int64)) = 0 then
  (f_X4_isSame_l118b159 v0 v3 v4 v6 v7 ih a8 h3)
  else
  (aldJ 3 v7 a8 h3 fun x5 =>
  if (lg_cmp x5 (0 : Int64)) = 0 then
  (f_X4_isSame_l118b159 v0 v3 v4 v6 v7 ih a8 h3)
  else
  (aldJ 3 v6 a8 h3 fun x6 =>
  if kc h3 v0 = 5 then
  bd (f_X4_thingAt v0 x6 h3) (fun x7 h8 =>
  aldJ 3 v7 a8 h8 fun x9 =>
  if kc h8 v0 = 5 then
  bd (f_X4_thingAt v0 x9 h8) (fun x10 h11 =>
  if kc h11 v0 = 5 then
  bd (f_X4_areMet v0 x7 x10 h11) (fun x12 h13 =>
  if x12 = 0 then
  (rok (Sum.inr (Sum.inl ())) h13)
  else
  (f_X4_isSame_l118b202 v0 v3 v4 v6 v7 ih a8 h13))
  else none)
  else none)
  else none))))
  else none)
noncomputable def f_X4_isSame_l118 (v0 : Nat) (v3 : Int32) (v4 : Nat) (v6 : Nat) (v7 : Nat) (n : Nat) : Int32 → HP → Rs (Unit ⊕ Unit ⊕ Unit) := @Nat.rec (fun _ => Int32 → HP → Rs (Unit ⊕ Unit ⊕ Unit)) (fun _ _ => none) (fun _ ih => b_X4_isSame_l118 v0 v3 v4 v6 v7 ih) n
noncomputable def b_X4_isSame_l39 (v0 : Nat) (ih : Int32 → HP → Rs (Unit ⊕ Unit ⊕ Unit)) (a3 : Int32) (h : HP) : Rs (Unit ⊕ Unit ⊕ Unit) :=
  ldR 5 104 v0 h fun x1 =>
  lsSize x1 h fun x2 =>
  if x2 ≤ a3 then
  (rok (Sum.inr (Sum.inr ())) h)
  else
  (ldR 5 104 v0 h fun x3 =>
  lsGet x3 a3 h fun x4 =>
  castR [58] x4 h (
  ldR 5 59 v0 h fun x5 =>
  ldR 5 110 v0 h fun x6 =>
  ldI 58 429 x4 h fun x7 =>
  aldI 0 x6 x7 h fun x8 =>
  aldR 13 x5 x8 h fun x9 =>
  ldR 58 431 x4 h fun x10 =>
  if x10 = 0 then
  (ldI 58 432 x4 h fun x11 =>
  if x11 < 0 then
  (if kc h v0 = 5 then
  bd (f_X4_values v0 x4 h) (fun x12 h13 =>
  if kc h13 v0 = 5 then
  bd (f_X4_values v0 x9 h13) (fun x14 h15 =>
  bd (f_X4_isSame_l118 v0 a3 x4 x12 x14 NN (0 : Int32) h15) (Sum.elim (fun x16 => fun h17 => rok (Sum.inl ()) h17) (Sum.elim (fun x18 => fun h19 => rok (Sum.inr (Sum.inl ())) h19) (fun x20 => fun h21 => f_X4_isSame_l39b208 v0 ih a3 h21))))
  else none)
  else none)
  else
  (f_X4_isSame_l39b208 v0 ih a3 h))
  else
  (f_X4_isSame_l39b208 v0 ih a3 h)))
noncomputable def f_X4_isSame_l39 (v0 : Nat) (n : Nat) : Int32 → HP → Rs (Unit ⊕ Unit ⊕ Unit) := @Nat.rec (fun _ => Int32 → HP → Rs (Unit ⊕ Unit ⊕ Unit)) (fun _ _ => none) (fun _ ih => b_X4_isSame_l39 v0 ih) n
noncomputable def f_X4_isSame (a0 : Nat) (a1 : Nat) (a2 : Nat) (h : HP) : Rs Int32 :=
  if kc h a0 = 5 then
  bd (f_X4_clearWalk a0 h) (fun _ h1 =>
  bd (f_X4_isSame_l6 a0 a1 a2 NN (0 : Int32) h1) (fun x2 h3 => if kc h3 a0 = 5 then
  bd (f_X4_areMet a0 a1 a2 h3) (fun x4 h5 =>
  if x4 = 0 then
  (rok (0 : Int32) h5)
  else
  (bd (f_X4_isSame_l39 a0 NN (0 : Int32) h5) (Sum.elim (fun x6 => fun h7 => rok (0 : Int32) h7) (Sum.elim (fun x8 => fun h9 => rok (0 : Int32) h9) (fun x10 => fun h11 => rok (1 : Int32) h11)))))
  else none))
  else none
noncomputable def f_X4_isShape (a0 : Nat) (a1 : Nat) (a2 : Nat) (h : HP) : Rs Int32 :=
  ldI 58 430 a1 h fun x1 =>
  ldI 58 430 a2 h fun x2 =>
  if x1 = x2 then
  (if kc h a0 = 5 then
  bd (f_X4_isArray a0 a1 h) (fun x3 h4 =>
  if x3 = 0 then
  (rok (1 : Int32) h4)
  else
  (if kc h4 a0 = 5 then
  bd (f_X4_seen a0 a1 h4) (fun x5 h6 =>
  alen x5 h6 fun x7 =>
  if kc h6 a0 = 5 then
  bd (f_X4_seen a0 a2 h6) (fun x8 h9 =>
  alen x8 h9 fun x10 =>
  if x7 = x10 then
  (rok (1 : Int32) h9)
  else
  (rok (0 : Int32) h9))
  else none)
  else none))
  else none)
  else
  (rok (0 : Int32) h)
noncomputable def f_X4_isVersion (a0 : Nat) (a1 : Int32) (h : HP) : Rs Int32 :=
  if kc h a0 = 5 then
  bd (f_X4_isOpen a0 h) (fun x1 h2 =>
  if x1 = 0 then
  (rok (0 : Int32) h2)
  else
  (ldI 5 65 a0 h2 fun x3 =>
  if a1 < x3 then
  (rok (0 : Int32) h2)
  else
  (ldI 5 64 a0 h2 fun x4 =>
  if x4 < a1 then
  (rok (0 : Int32) h2)
  else
  (rok (1 : Int32) h2))))
  else none
noncomputable def b_X6_word_l2 (v0 : Nat) (v1 : Nat) (ih : Int32 → HP → Rs Unit) (a2 : Int32) (h : HP) : Rs Unit :=
  txLen v1 h fun x1 =>
  if x1 ≤ a2 then
  (rok () h)
  else
  (txAt v1 a2 h fun x2 =>
  if kc h v0 = 7 then
  bd (f_X6_add v0 x2 h) (fun _ h3 =>
  lt3 (a2 + 1) fun x4 =>
  ih x4 h3)
  else none)
noncomputable def f_X6_word_l2 (v0 : Nat) (v1 : Nat) (n : Nat) : Int32 → HP → Rs Unit := @Nat.rec (fun _ => Int32 → HP → Rs Unit) (fun _ _ => none) (fun _ ih => b_X6_word_l2 v0 v1 ih) n
noncomputable def f_X6_word (a0 : Nat) (a1 : Nat) (h : HP) : Rs Unit :=
  bd (f_X6_word_l2 a0 a1 NN (0 : Int32) h) (fun x1 h2 => rok () h2)
noncomputable def b_X4_recorded_l171 (v0 : Nat) (v1 : Nat) (v2 : Nat) (v3 : Nat) (v4 : Int32) (v7 : Nat) (ih : Int32 → HP → Rs Unit) (a8 : Int32) (h : HP) : Rs Unit :=
  alen v7 h fun x1 =>
  if x1 ≤ a8 then
  (rok () h)
  else
  (ldI 7 134 v3 h fun x2 =>
  if (40000 : Int32) < x2 then
  (rok () h)
  else
  (aldJ 3 v7 a8 h fun x3 =>
  if kc h v3 = 7 then
  bd (f_X6_number v3 x3 (8 : Int32) h) (fun _ h4 =>
  lt3 (a8 + 1) fun x5 =>
  ih x5 h4)
  else none))
noncomputable def f_X4_recorded_l171 (v0 : Nat) (v1 : Nat) (v2 : Nat) (v3 : Nat) (v4 : Int32) (v7 : Nat) (n : Nat) : Int32 → HP → Rs Unit := @Nat.rec (fun _ => Int32 → HP → Rs Unit) (fun _ _ => none) (fun _ ih => b_X4_recorded_l171 v0 v1 v2 v3 v4 v7 ih) n
noncomputable def f_X4_recorded_l56b205 (v0 : Nat) (v1 : Nat) (v2 : Nat) (v3 : Nat) (ih : Int32 → HP → Rs (Unit ⊕ Unit)) (a4 : Int32) (h : HP) : Rs (Unit ⊕ Unit) :=
  ldI 7 134 v3 h fun x1 =>
  if x1 ≤ (40000 : Int32) then
  (lt3 (a4 + 1) fun x2 =>
  ih x2 h)
  else
  (rok (Sum.inl ()) h)
noncomputable def b_X4_recorded_l56 (v0 : Nat) (v1 : Nat) (v2 : Nat) (v3 : Nat) (ih : Int32 → HP → Rs (Unit ⊕ Unit)) (a4 : Int32) (h : HP) : Rs (Unit ⊕ Unit) :=
  lsSize v2 h fun x1 =>
  if x1 ≤ a4 then
  (rok (Sum.inr ()) h)
  else
  (lsGet v2 a4 h fun x2 =>
  castR [58] x2 h (
  ldI 58 430 x2 h fun x3 =>
  if kc h v0 = 5 then
  bd (f_X4_descriptor v0 x3 h) (fun x4 h5 =>
  ldI 58 429 x2 h5 fun x6 =>
  if kc h5 v3 = 7 then
  bd (f_X6_number v3 (Int32.toInt64 x6) (4 : Int32) h5) (fun _ h7 =>
  txLen x4 h7 fun x8 =>
  if kc h7 v3 = 7 then
  bd (f_X6_add v3 x8 h7) (fun _ h9 =>
  if kc h9 v3 = 7 then
  bd (f_X6_word v3 x4 h9) (fun _ h10 =>
  ldR 58 431 x2 h10 fun x11 =>
  if x11 = 0 then
  (ldR 9 140 v1 h10 fun x12 =>
  ldI 58 429 x2 h10 fun x13 =>
  aldR 9 x12 x13 h10 fun x14 =>
  alen x14 h10 fun x15 =>
  if kc h10 v3 = 7 then
  bd (f_X6_number v3 (Int32.toInt64 x15) (4 : Int32) h10) (fun _ h16 =>
  bd (f_X4_recorded_l171 v0 v1 v2 v3 a4 x14 NN (0 : Int32) h16) (fun x17 h18 => f_X4_recorded_l56b205 v0 v1 v2 v3 ih a4 h18))
  else none)
  else
  (ldR 58 431 x2 h10 fun x19 =>
  txLen x19 h10 fun x20 =>
  if kc h10 v3 = 7 then
  bd (f_X6_number v3 (Int32.toInt64 x20) (4 : Int32) h10) (fun _ h21 =>
  ldR 58 431 x2 h21 fun x22 =>
  if kc h21 v3 = 7 then
  bd (f_X6_word v3 x22 h21) (fun _ h23 =>
  f_X4_recorded_l56b205 v0 v1 v2 v3 ih a4 h23)
  else none)
  else none))
  else none)
  else none)
  else none)
  else none))
noncomputable def f_X4_recorded_l56 (v0 : Nat) (v1 : Nat) (v2 : Nat) (v3 : Nat) (n : Nat) : Int32 → HP → Rs (Unit ⊕ Unit) := @Nat.rec (fun _ => Int32 → HP → Rs (Unit ⊕ Unit)) (fun _ _ => none) (fun _ ih => b_X4_recorded_l56 v0 v1 v2 v3 ih) n
noncomputable def f_X4_recorded_l228b248 (v0 : Nat) (v1 : Nat) (v3 : Nat) (ih : Int32 → Int32 → HP → Rs Int32) (a4 : Int32) (a5 : Int32) (h : HP) : Rs Int32 :=
  lt3 (a5 + 1) fun x1 =>
  ih a4 x1 h
noncomputable def b_X4_recorded_l228 (v0 : Nat) (v1 : Nat) (v3 : Nat) (ih : Int32 → Int32 → HP → Rs Int32) (a4 : Int32) (a5 : Int32) (h : HP) : Rs Int32 :=
  if (16 : Int32) ≤ a5 then
  (rok a4 h)
  else
  (ldR 9 146 v1 h fun x1 =>
  aldI 2 x1 a5 h fun x2 =>
  if x2 = 0 then
  (f_X4_recorded_l228b248 v0 v1 v3 ih a4 a5 h)
  else
  (lt3 (a4 + 1) fun x3 =>
  f_X4_recorded_l228b248 v0 v1 v3 ih x3 a5 h))
noncomputable def f_X4_recorded_l228 (v0 : Nat) (v1 : Nat) (v3 : Nat) (n : Nat) : Int32 → Int32 → HP → Rs Int32 := @Nat.rec (fun _ => Int32 → Int32 → HP → Rs Int32) (fun _ _ _ => none) (fun _ ih => b_X4_recorded_l228 v0 v1 v3 ih) n
noncomputable def f_X4_recorded_l265b301 (v0 : Nat) (v1 : Nat) (v3 : Nat) (ih : Int32 → HP → Rs Unit) (a5 : Int32) (h : HP) : Rs Unit :=
  lt3 (a5 + 1) fun x1 =>
  ih x1 h
noncomputable def b_X4_recorded_l265 (v0 : Nat) (v1 : Nat) (v3 : Nat) (ih : Int32 → HP → Rs Unit) (a5 : Int32) (h : HP) : Rs Unit :=
  if (16 : Int32) ≤ a5 then
  (rok () h)
  else
  (ldR 9 146 v1 h fun x1 =>
  aldI 2 x1 a5 h fun x2 =>
  if x2 = 0 then
  (f_X4_recorded_l265b301 v0 v1 v3 ih a5 h)
  else
  (if kc h v3 = 7 then
  bd (f_X6_add v3 a5 h) (fun _ h3 =>
  ldR 9 145 v1 h3 fun x4 =>
  aldI 0 x4 a5 h3 fun x5 =>
  if kc h3 v3 = 7 then
  bd (f_X6_number v3 (Int32.toInt64 x5) (4 : Int32) h3) (fun _ h6 =>
  f_X4_recorded_l265b301 v0 v1 v3 ih a5 h6)
  else none)
  else none))
noncomputable def f_X4_recorded_l265 (v0 : Nat) (v1 : Nat) (v3 : Nat) (n : Nat) : Int32 → HP → Rs Unit := @Nat.rec (fun _ => Int32 → HP → Rs Unit) (fun _ _ => none) (fun _ ih => b_X4_recorded_l265 v0 v1 v3 ih) n
noncomputable def f_X4_recorded (a0 : Nat) (a1 : Nat) (a2 : Nat) (h : HP) : Rs Int32 :=
  ldR 5 126 a0 h fun x1 =>
  stI 7 134 x1 (0 : Int32) h fun h2 =>
  if kc h2 x1 = 7 then
  bd (f_X6_number x1 (0 : Int64) (4 : Int32) h2) (fun _ h3 =>
  if kc h3 x1 = 7 then
  bd (f_X6_add x1 (1 : Int32) h3) (fun _ h4 =>
  ldI 5 64 a0 h4 fun x5 =>
  if kc h4 x1 = 7 then
  bd (f_X6_number x1 (Int32.toInt64 (x5 + (1 : Int32))) (4 : Int32) h4) (fun _ h6 =>
  ldI 5 60 a0 h6 fun x7 =>
  if kc h6 x1 = 7 then
  bd (f_X6_number x1 (Int32.toInt64 x7) (4 : Int32) h6) (fun _ h8 =>
  lsSize a2 h8 fun x9 =>
  if kc h8 x1 = 7 then
  bd (f_X6_number x1 (Int32.toInt64 x9) (4 : Int32) h8) (fun _ h10 =>
  bd (f_X4_recorded_l56 a0 a1 a2 x1 NN (0 : Int32) h10) (Sum.elim (fun x11 => fun h12 => rok (0 : Int32) h12) (fun x13 => fun h14 => bd (f_X4_recorded_l228 a0 a1 x1 NN (0 : Int32) (0 : Int32) h14) (fun x15 h16 => if kc h16 x1 = 7 then
  bd (f_X6_number x1 (Int32.toInt64 x15) (4 : Int32) h16) (fun _ h17 =>
  bd (f_X4_recorded_l265 a0 a1 x1 NN (0 : Int32) h17) (fun x18 h19 => if kc h19 a0 = 5 then
  bd (f_X4_appended a0 x1 h19) (fun x20 h21 =>
  rokZ x20 h21)
  else none))
  else none))))
  else none)
  else none)
  else none)
  else none)
  else none
noncomputable def f_X4_kept_l10b86 (v0 : Nat) (v1 : Nat) (v2 : Nat) (ih : Int32 → HP → Rs Unit) (a3 : Int32) (h : HP) : Rs Unit :=
  lt3 (a3 + 1) fun x1 =>
  ih x1 h
noncomputable def f_X4_kept_l10b72 (v0 : Nat) (v1 : Nat) (v2 : Nat) (ih : Int32 → HP → Rs Unit) (a3 : Int32) (a4 : Nat) (s0 : Int32) (h : HP) : Rs Unit :=
  if s0 = 0 then
  (f_X4_kept_l10b86 v0 v1 v2 ih a3 h)
  else
  (lsAdd v2 a4 h fun h1 =>
  f_X4_kept_l10b86 v0 v1 v2 ih a3 h1)
noncomputable def f_X4_kept_l10b71 (v0 : Nat) (v1 : Nat) (v2 : Nat) (ih : Int32 → HP → Rs Unit) (a3 : Int32) (a4 : Nat) (h : HP) : Rs Unit :=
  f_X4_kept_l10b72 v0 v1 v2 ih a3 a4 (0 : Int32) h
noncomputable def f_X4_kept_l10b67 (v0 : Nat) (v1 : Nat) (v2 : Nat) (ih : Int32 → HP → Rs Unit) (a3 : Int32) (a4 : Nat) (h : HP) : Rs Unit :=
  f_X4_kept_l10b72 v0 v1 v2 ih a3 a4 (1 : Int32) h
noncomputable def b_X4_kept_l10 (v0 : Nat) (v1 : Nat) (v2 : Nat) (ih : Int32 → HP → Rs Unit) (a3 : Int32) (h : HP) : Rs Unit :=
  ldI 5 60 v0 h fun x1 =>
  if x1 ≤ a3 then
  (rok () h)
  else
  (ldR 5 59 v0 h fun x2 =>
  aldR 13 x2 a3 h fun x3 =>
  if x3 = 0 then
  (f_X4_kept_l10b71 v0 v1 v2 ih a3 x3 h)
  else
  (ldI 58 436 x3 h fun x4 =>
  if x4 = 0 then
  (ldR 58 431 x3 h fun x5 =>
  if x5 = 0 then
  (ldR 9 140 v1 h fun x6 =>
  aldR 9 x6 a3 h fun x7 =>
  if x7 = 0 then
  (f_X4_kept_l10b71 v0 v1 v2 ih a3 x3 h)
  else
  (f_X4_kept_l10b67 v0 v1 v2 ih a3 x3 h))
  else
  (ldI 58 437 x3 h fun x8 =>
  if x8 = 0 then
  (f_X4_kept_l10b67 v0 v1 v2 ih a3 x3 h)
  else
  (f_X4_kept_l10b71 v0 v1 v2 ih a3 x3 h)))
  else
  (f_X4_kept_l10b71 v0 v1 v2 ih a3 x3 h)))
noncomputable def f_X4_kept_l10 (v0 : Nat) (v1 : Nat) (v2 : Nat) (n : Nat) : Int32 → HP → Rs Unit := @Nat.rec (fun _ => Int32 → HP → Rs Unit) (fun _ _ => none) (fun _ ih => b_X4_kept_l10 v0 v1 v2 ih) n
noncomputable def f_X4_kept_l134b184 (v0 : Nat) (v1 : Nat) (v2 : Nat) (v3 : Nat) (ih : Int32 → HP → Rs Unit) (a4 : Int32) (s0 : Nat) (s1 : Int32) (s2 : Int32) (h : HP) : Rs Unit :=
  astI 0 s0 s1 s2 h fun h1 =>
  ldR 59 440 v3 h1 fun x2 =>
  ldR 9 146 v1 h1 fun x3 =>
  aldI 2 x3 a4 h1 fun x4 =>
  astI 2 x2 a4 (vp_nar .boolean x4) h1 fun h5 =>
  lt3 (a4 + 1) fun x6 =>
  ih x6 h5
noncomputable def b_X4_kept_l134 (v0 : Nat) (v1 : Nat) (v2 : Nat) (v3 : Nat) (ih : Int32 → HP → Rs Unit) (a4 : Int32) (h : HP) : Rs Unit :=
  if (16 : Int32) ≤ a4 then
  (rok () h)
  else
  (ldR 59 439 v3 h fun x1 =>
  ldR 9 146 v1 h fun x2 =>
  aldI 2 x2 a4 h fun x3 =>
  if x3 = 0 then
  (ldR 5 63 v0 h fun x4 =>
  ldI 5 64 v0 h fun x5 =>
  aldR 14 x4 (x5 - (1 : Int32)) h fun x6 =>
  ldR 59 439 x6 h fun x7 =>
  aldI 0 x7 a4 h fun x8 =>
  f_X4_kept_l134b184 v0 v1 v2 v3 ih a4 x1 a4 x8 h)
  else
  (ldR 9 145 v1 h fun x9 =>
  aldI 0 x9 a4 h fun x10 =>
  f_X4_kept_l134b184 v0 v1 v2 v3 ih a4 x1 a4 x10 h))
noncomputable def f_X4_kept_l134 (v0 : Nat) (v1 : Nat) (v2 : Nat) (v3 : Nat) (n : Nat) : Int32 → HP → Rs Unit := @Nat.rec (fun _ => Int32 → HP → Rs Unit) (fun _ _ => none) (fun _ ih => b_X4_kept_l134 v0 v1 v2 v3 ih) n
noncomputable def f_X4_kept_l208b313 (v0 : Nat) (v1 : Nat) (v2 : Nat) (v3 : Nat) (ih : Int32 → HP → Rs Unit) (a4 : Int32) (h : HP) : Rs Unit :=
  lt3 (a4 + 1) fun x1 =>
  ih x1 h
noncomputable def b_X4_kept_l208 (v0 : Nat) (v1 : Nat) (v2 : Nat) (v3 : Nat) (ih : Int32 → HP → Rs Unit) (a4 : Int32) (h : HP) : Rs Unit :=
  lsSize v2 h fun x1 =>
  if x1 ≤ a4 then
  (rok () h)
  else
  (lsGet v2 a4 h fun x2 =>
  castR [58] x2 h (
  stI 58 437 x2 (1 : Int32) h fun h3 =>
  ldR 58 431 x2 h3 fun x4 =>
  if x4 = 0 then
  (nwO 61 3 h3 fun p5 h6 =>
  ldI 5 64 v0 h6 fun x7 =>
  ldR 9 140 v1 h6 fun x8 =>
  ldI 58 429 x2 h6 fun x9 =>
  aldR 9 x8 x9 h6 fun x10 =>
  ldR 58 438 x2 h6 fun x11 =>
  if kc h6 p5 = 61 then
  bd (f_X63_init p5 x7 x10 x11 h6) (fun _ h12 =>
  stR 58 438 x2 p5 h12 fun h13 =>
  ldI 58 434 x2 h13 fun x14 =>
  if 0 ≤ x14 then
  (ldR 59 441 v3 h13 fun x15 =>
  lsAdd x15 x2 h13 fun h16 =>
  f_X4_kept_l208b313 v0 v1 v2 v3 ih a4 h16)
  else
  (ldI 5 64 v0 h13 fun x17 =>
  stI 58 434 x2 x17 h13 fun h18 =>
  ldR 59 442 v3 h18 fun x19 =>
  lsAdd x19 x2 h18 fun h20 =>
  f_X4_kept_l208b313 v0 v1 v2 v3 ih a4 h20))
  else none)
  else
  (f_X4_kept_l208b313 v0 v1 v2 v3 ih a4 h3)))
noncomputable def f_X4_kept_l208 (v0 : Nat) (v1 : Nat) (v2 : Nat) (v3 : Nat) (n : Nat) : Int32 → HP → Rs Unit := @Nat.rec (fun _ => Int32 → HP → Rs Unit) (fun _ _ => none) (fun _ ih => b_X4_kept_l208 v0 v1 v2 v3 ih) n
noncomputable def f_X4_kept (a0 : Nat) (a1 : Nat) (h : HP) : Rs Int32 :=
  nwC 184 3 h fun p1 h2 =>
  lsInit p1 h2 fun h3 =>
  bd (f_X4_kept_l10 a0 a1 p1 NN (1 : Int32) h3) (fun x4 h5 => if kc h5 a0 = 5 then
  bd (f_X4_recorded a0 a1 p1 h5) (fun x6 h7 =>
  if x6 = 0 then
  (rok (0 : Int32) h7)
  else
  (ldI 5 64 a0 h7 fun x8 =>
  stI 5 64 a0 (x8 + (1 : Int32)) h7 fun h9 =>
  nwO 59 4 h9 fun p10 h11 =>
  if kc h11 p10 = 59 then
  bd (f_X61_init p10 h11) (fun _ h12 =>
  ldR 5 63 a0 h12 fun x13 =>
  ldI 5 64 a0 h12 fun x14 =>
  astO 14 59 x13 x14 p10 h12 fun h15 =>
  bd (f_X4_kept_l134 a0 a1 p1 p10 NN (0 : Int32) h15) (fun x16 h17 => bd (f_X4_kept_l208 a0 a1 p1 p10 NN (0 : Int32) h17) (fun x18 h19 => rok (1 : Int32) h19)))
  else none))
  else none)
noncomputable def f_X4_keep (a0 : Nat) (a1 : Int32) (h : HP) : Rs Int32 :=
  if kc h a0 = 5 then
  bd (f_X4_isOpen a0 h) (fun x1 h2 =>
  if x1 = 0 then
  (rok (-13 : Int32) h2)
  else
  (if kc h2 a0 = 5 then
  bd (f_X4_actOf a0 a1 h2) (fun x3 h4 =>
  if x3 = 0 then
  (rok (-14 : Int32) h4)
  else
  (if kc h4 a0 = 5 then
  bd (f_X4_clashOf a0 x3 h4) (fun x5 h6 =>
  if x5 < 0 then
  (ldI 5 64 a0 h6 fun x7 =>
  if x7 = (64 : Int32) then
  (rok (-12 : Int32) h6)
  else
  (if kc h6 a0 = 5 then
  bd (f_X4_kept a0 x3 h6) (fun x8 h9 =>
  if x8 = 0 then
  (rok (-12 : Int32) h9)
  else
  (stI 5 72 a0 (-1 : Int32) h9 fun h10 =>
  if kc h10 a0 = 5 then
  bd (f_X4_over a0 x3 h10) (fun _ h11 =>
  ldI 5 64 a0 h11 fun x12 =>
  rok x12 h11)
  else none))
  else none))
  else
  (stI 5 72 a0 x5 h6 fun h13 =>
  rok (-1 : Int32) h13))
  else none))
  else none))
  else none
noncomputable def f_X4_kind (a0 : Nat) (h : HP) : Rs Int32 :=
  if kc h a0 = 5 then
  bd (f_X4_isOpen a0 h) (fun x1 h2 =>
  if x1 = 0 then
  (rok (-13 : Int32) h2)
  else
  (if kc h2 a0 = 5 then
  bd (f_X4_usedWord a0 h2) (fun x3 h4 =>
  if kc h4 a0 = 5 then
  bd (f_X4_described a0 x3 (1 : Int32) h4) (fun x5 h6 =>
  if x5 = (-1 : Int32) then
  (rok (-14 : Int32) h6)
  else
  (if x5 = (-2 : Int32) then
  (rok (-12 : Int32) h6)
  else
  (rok x5 h6)))
  else none)
  else none))
  else none
noncomputable def f_X4_kindOf (a0 : Nat) (a1 : Int32) (h : HP) : Rs Int32 :=
  if kc h a0 = 5 then
  bd (f_X4_codeOf a0 a1 h) (fun x1 h2 =>
  if x1 ≤ 0 then
  (if kc h2 a0 = 5 then
  bd (f_X4_thingAt a0 (Int32.toInt64 a1) h2) (fun x3 h4 =>
  ldI 58 430 x3 h4 fun x5 =>
  rok x5 h4)
  else none)
  else
  (rok (-x1) h2))
  else none
noncomputable def f_X4_kinds (a0 : Nat) (h : HP) : Rs Int32 :=
  ldI 5 55 a0 h fun x1 =>
  if x1 = 0 then
  (rok (0 : Int32) h)
  else
  (ldR 5 53 a0 h fun x2 =>
  lsSize x2 h fun x3 =>
  rok x3 h)
noncomputable def f_X4_letter (a0 : Nat) (a1 : Int32) (a2 : Int32) (h : HP) : Rs Int32 :=
  if kc h a0 = 5 then
  bd (f_X4_codeOf a0 a1 h) (fun x1 h2 =>
  if x1 ≤ 0 then
  (if kc h2 a0 = 5 then
  bd (f_X4_thingAt a0 (Int32.toInt64 a1) h2) (fun x3 h4 =>
  ldR 58 431 x3 h4 fun x5 =>
  if x5 = 0 then
  (rok (-1 : Int32) h4)
  else
  (if a2 < 0 then
  (rok (-2 : Int32) h4)
  else
  (ldR 58 431 x3 h4 fun x6 =>
  txLen x6 h4 fun x7 =>
  if a2 < x7 then
  (ldR 58 431 x3 h4 fun x8 =>
  txAt x8 a2 h4 fun x9 =>
  rok x9 h4)
  else
  (rok (-2 : Int32) h4))))
  else none)
  else
  (rok (-x1) h2))
  else none
noncomputable def f_X4_pair (a0 : Nat) (a1 : Nat) (a2 : Nat) (h : HP) : Rs Unit :=
  ldR 5 113 a0 h fun x1 =>
  ldI 58 429 a1 h fun x2 =>
  ldI 58 429 a2 h fun x3 =>
  astI 0 x1 x2 x3 h fun h4 =>
  ldR 5 114 a0 h4 fun x5 =>
  ldI 58 429 a2 h4 fun x6 =>
  ldI 58 429 a1 h4 fun x7 =>
  astI 0 x5 x6 x7 h4 fun h8 =>
  ldR 5 115 a0 h8 fun x9 =>
  lsAdd x9 a1 h8 fun h10 =>
  rok () h10
noncomputable def f_X4_linked_b239 (a0 : Nat) (a1 : Int64) (a3 : Int32) (a5 : Nat) (a6 : Int64) (s0 : Nat) (s1 : Int32) (s2 : Int64) (s3 : Int32) (s4 : Int64) (h : HP) : Rs Unit :=
  if kc h s0 = 5 then
  bd (f_X4_addRow s0 s1 s2 s3 s4 (0 : Int64) h) (fun _ h1 =>
  ldR 5 114 a0 h1 fun x2 =>
  ldI 58 429 a5 h1 fun x3 =>
  aldI 0 x2 x3 h1 fun x4 =>
  if kc h1 a0 = 5 then
  bd (f_X4_addRow a0 (1 : Int32) a1 a3 a6 (Int32.toInt64 x4) h1) (fun _ h5 =>
  rok () h5)
  else none)
  else none
noncomputable def f_X4_linked_b174 (a0 : Nat) (a1 : Int64) (a3 : Int32) (a5 : Nat) (a6 : Int64) (h : HP) : Rs Unit :=
  ldR 5 116 a0 h fun x1 =>
  lsAdd x1 a5 h fun h2 =>
  ldR 5 114 a0 h2 fun x3 =>
  ldI 58 429 a5 h2 fun x4 =>
  ldR 5 116 a0 h2 fun x5 =>
  lsSize x5 h2 fun x6 =>
  astI 0 x3 x4 (-x6) h2 fun h7 =>
  ldR 5 116 a0 h7 fun x8 =>
  lsSize x8 h7 fun x9 =>
  ldI 58 430 a5 h7 fun x10 =>
  if kc h7 a0 = 5 then
  bd (f_X4_isArray a0 a5 h7) (fun x11 h12 =>
  if x11 = 0 then
  (f_X4_linked_b239  a0 a1 a3 a5 a6 a0 (2 : Int32) (Int32.toInt64 (-x9)) x10 (0 : Int64) h12)
  else
  (if kc h12 a0 = 5 then
  bd (f_X4_seen a0 a5 h12) (fun x13 h14 =>
  alen x13 h14 fun x15 =>
  f_X4_linked_b239  a0 a1 a3 a5 a6 a0 (2 : Int32) (Int32.toInt64 (-x9)) x10 (Int32.toInt64 x15) h14)
  else none))
  else none
noncomputable def f_X4_linked_b15 (a0 : Nat) (a1 : Int64) (a3 : Int32) (a4 : Nat) (a5 : Nat) (s0 : Int64) (h : HP) : Rs Unit :=
  if a5 = 0 then
  (if a4 = 0 then
  (rok () h)
  else
  (if kc h a0 = 5 then
  bd (f_X4_addRow a0 (1 : Int32) a1 a3 s0 (0 : Int64) h) (fun _ h23 =>
  rok () h23)
  else none))
  else
  (bd (f_X4_isFixed a5 h) (fun x1 h2 =>
  if x1 = 0 then
  (ldR 5 114 a0 h2 fun x3 =>
  ldI 58 429 a5 h2 fun x4 =>
  aldI 0 x3 x4 h2 fun x5 =>
  if x5 = 0 then
  (if a4 = 0 then
  (f_X4_linked_b174  a0 a1 a3 a5 s0 h2)
  else
  (bd (f_X4_isFixed a4 h2) (fun x6 h7 =>
  if x6 = 0 then
  (ldR 5 113 a0 h7 fun x8 =>
  ldI 58 429 a4 h7 fun x9 =>
  aldI 0 x8 x9 h7 fun x10 =>
  if x10 = 0 then
  (if kc h7 a0 = 5 then
  bd (f_X4_isShape a0 a4 a5 h7) (fun x11 h12 =>
  if x11 = 0 then
  (f_X4_linked_b174  a0 a1 a3 a5 s0 h12)
  else
  (if kc h12 a0 = 5 then
  bd (f_X4_pair a0 a4 a5 h12) (fun _ h13 =>
  rok () h13)
  else none))
  else none)
  else
  (f_X4_linked_b174  a0 a1 a3 a5 s0 h7))
  else
  (f_X4_linked_b174  a0 a1 a3 a5 s0 h7))))
  else
  (ldR 5 114 a0 h2 fun x14 =>
  ldI 58 429 a5 h2 fun x15 =>
  aldI 0 x14 x15 h2 fun x16 =>
  if (lg_cmp (Int32.toInt64 x16) s0) = 0 then
  (rok () h2)
  else
  (ldR 5 114 a0 h2 fun x17 =>
  ldI 58 429 a5 h2 fun x18 =>
  aldI 0 x17 x18 h2 fun x19 =>
  if kc h2 a0 = 5 then
  bd (f_X4_addRow a0 (1 : Int32) a1 a3 s0 (Int32.toInt64 x19) h2) (fun _ h20 =>
  rok () h20)
  else none)))
  else
  (eqR h2 a4 a5
  (rok () h2)
  (ldI 58 429 a5 h2 fun x21 =>
  if kc h2 a0 = 5 then
  bd (f_X4_addRow a0 (1 : Int32) a1 a3 s0 (Int32.toInt64 x21) h2) (fun _ h22 =>
  rok () h22)
  else none))))
noncomputable def f_X4_linked (a0 : Nat) (a1 : Int64) (a3 : Int32) (a4 : Nat) (a5 : Nat) (h : HP) : Rs Unit :=
  if a4 = 0 then
  (f_X4_linked_b15  a0 a1 a3 a4 a5 (0 : Int64) h)
  else
  (ldI 58 429 a4 h fun x1 =>
  f_X4_linked_b15  a0 a1 a3 a4 a5 (Int32.toInt64 x1) h)
noncomputable def f_X4_logAt (a0 : Nat) (a1 : Int32) (h : HP) : Rs Int32 :=
  if a1 < 0 then
  (rok (-1 : Int32) h)
  else
  (ldI 5 122 a0 h fun x1 =>
  if x1 ≤ a1 then
  (rok (-1 : Int32) h)
  else
  (ldR 5 120 a0 h fun x2 =>
  aldI 1 x2 a1 h fun x3 =>
  rok (x3 &&& (255 : Int32)) h))
noncomputable def f_X4_logged (a0 : Nat) (h : HP) : Rs Int32 :=
  ldI 5 122 a0 h fun x1 =>
  rok x1 h
noncomputable def f_X4_make (a0 : Nat) (a1 : Int32) (h : HP) : Rs Int32 :=
  if kc h a0 = 5 then
  bd (f_X4_hasAct a0 h) (fun x1 h2 =>
  if x1 = 0 then
  (rok (-13 : Int32) h2)
  else
  (if kc h2 a0 = 5 then
  bd (f_X4_isKind a0 a1 h2) (fun x3 h4 =>
  if x3 = 0 then
  (rok (-14 : Int32) h4)
  else
  (if kc h4 a0 = 5 then
  bd (f_X4_kindAt a0 a1 h4) (fun x5 h6 =>
  ldI 47 363 x5 h6 fun x7 =>
  if x7 = (1 : Int32) then
  (if kc h6 a0 = 5 then
  bd (f_X4_kindAt a0 a1 h6) (fun x8 h9 =>
  ldI 47 364 x8 h9 fun x10 =>
  if x10 = 0 then
  (if kc h9 a0 = 5 then
  bd (f_X4_kindAt a0 a1 h9) (fun x11 h12 =>
  ldR 47 377 x11 h12 fun x13 =>
  lsSize x13 h12 fun x14 =>
  if kc h12 a0 = 5 then
  bd (f_X4_isRoom a0 x14 h12) (fun x15 h16 =>
  if x15 = 0 then
  (rok (-12 : Int32) h16)
  else
  (nwA 2163 x14 h16 fun p17 h18 =>
  if kc h18 a0 = 5 then
  bd (f_X4_made a0 a1 p17 h18) (fun x19 h20 =>
  ldI 58 429 x19 h20 fun x21 =>
  rok x21 h20)
  else none))
  else none)
  else none)
  else
  (rok (-1 : Int32) h9))
  else none)
  else
  (rok (-1 : Int32) h6))
  else none))
  else none))
  else none
noncomputable def f_X4_meet (a0 : Nat) (a1 : Nat) (h : HP) : Rs Unit :=
  if a1 = 0 then
  (rok () h)
  else
  (ldR 5 105 a0 h fun x1 =>
  ldI 58 429 a1 h fun x2 =>
  aldI 0 x1 x2 h fun x3 =>
  if x3 ≤ 0 then
  (ldR 5 104 a0 h fun x4 =>
  lsAdd x4 a1 h fun h5 =>
  ldR 5 105 a0 h5 fun x6 =>
  ldI 58 429 a1 h5 fun x7 =>
  ldR 5 104 a0 h5 fun x8 =>
  lsSize x8 h5 fun x9 =>
  astI 0 x6 x7 x9 h5 fun h10 =>
  rok () h10)
  else
  (rok () h))
noncomputable def f_X4_named_b44 (s0 : Int32) (h : HP) : Rs Int32 :=
  if 0 ≤ s0 then
  (rok s0 h)
  else
  (rok (-14 : Int32) h)
noncomputable def f_X4_named_b43 (h : HP) : Rs Int32 :=
  f_X4_named_b44  (-1 : Int32) h
noncomputable def f_X4_named (a0 : Nat) (a1 : Int32) (h : HP) : Rs Int32 :=
  if kc h a0 = 5 then
  bd (f_X4_isOpen a0 h) (fun x1 h2 =>
  if x1 = 0 then
  (rok (-13 : Int32) h2)
  else
  (if kc h2 a0 = 5 then
  bd (f_X4_usedWord a0 h2) (fun x3 h4 =>
  if kc h4 a0 = 5 then
  bd (f_X4_isKind a0 a1 h4) (fun x5 h6 =>
  if x5 = 0 then
  (f_X4_named_b43  h6)
  else
  (if kc h6 a0 = 5 then
  bd (f_X4_hasFields a0 a1 h6) (fun x7 h8 =>
  if x7 = 0 then
  (f_X4_named_b43  h8)
  else
  (if kc h8 a0 = 5 then
  bd (f_X4_kindAt a0 a1 h8) (fun x9 h10 =>
  bd (f_X55_fieldOf x9 x3 h10) (fun x11 h12 =>
  f_X4_named_b44  x11 h12))
  else none))
  else none))
  else none)
  else none))
  else none
noncomputable def f_X4_newest (a0 : Nat) (h : HP) : Rs Int32 :=
  if kc h a0 = 5 then
  bd (f_X4_isOpen a0 h) (fun x1 h2 =>
  if x1 = 0 then
  (rok (-1 : Int32) h2)
  else
  (ldI 5 64 a0 h2 fun x3 =>
  rok x3 h2))
  else none
noncomputable def f_X4_unlike_l16b100 (v0 : Nat) (v1 : Nat) (v3 : Nat) (v4 : Nat) (ih : Int32 → HP → Rs Unit) (a5 : Int32) (h : HP) : Rs Unit :=
  lt3 (a5 + 1) fun x1 =>
  ih x1 h
noncomputable def b_X4_unlike_l16 (v0 : Nat) (v1 : Nat) (v3 : Nat) (v4 : Nat) (ih : Int32 → HP → Rs Unit) (a5 : Int32) (h : HP) : Rs Unit :=
  alen v3 h fun x1 =>
  if x1 ≤ a5 then
  (rok () h)
  else
  (if kc h v0 = 5 then
  bd (f_X4_kindOfPlace v0 v1 a5 h) (fun x2 h3 =>
  if x2 < (8 : Int32) then
  (aldJ 3 v3 a5 h3 fun x4 =>
  aldJ 3 v4 a5 h3 fun x5 =>
  if (lg_cmp x4 x5) = 0 then
  (f_X4_unlike_l16b100 v0 v1 v3 v4 ih a5 h3)
  else
  (ldI 58 429 v1 h3 fun x6 =>
  aldJ 3 v3 a5 h3 fun x7 =>
  aldJ 3 v4 a5 h3 fun x8 =>
  if kc h3 v0 = 5 then
  bd (f_X4_addRow v0 (1 : Int32) (Int32.toInt64 x6) a5 x7 x8 h3) (fun _ h9 =>
  f_X4_unlike_l16b100 v0 v1 v3 v4 ih a5 h9)
  else none))
  else
  (ldI 58 429 v1 h3 fun x10 =>
  aldJ 3 v3 a5 h3 fun x11 =>
  if kc h3 v0 = 5 then
  bd (f_X4_thingAt v0 x11 h3) (fun x12 h13 =>
  aldJ 3 v4 a5 h13 fun x14 =>
  if kc h13 v0 = 5 then
  bd (f_X4_thingAt v0 x14 h13) (fun x15 h16 =>
  if kc h16 v0 = 5 then
  bd (f_X4_linked v0 (Int32.toInt64 x10) a5 x12 x15 h16) (fun _ h17 =>
  f_X4_unlike_l16b100 v0 v1 v3 v4 ih a5 h17)
  else none)
  else none)
  else none))
  else none)
noncomputable def f_X4_unlike_l16 (v0 : Nat) (v1 : Nat) (v3 : Nat) (v4 : Nat) (n : Nat) : Int32 → HP → Rs Unit := @Nat.rec (fun _ => Int32 → HP → Rs Unit) (fun _ _ => none) (fun _ ih => b_X4_unlike_l16 v0 v1 v3 v4 ih) n
noncomputable def f_X4_unlike (a0 : Nat) (a1 : Nat) (a2 : Nat) (h : HP) : Rs Unit :=
  if kc h a0 = 5 then
  bd (f_X4_seen a0 a1 h) (fun x1 h2 =>
  if kc h2 a0 = 5 then
  bd (f_X4_seen a0 a2 h2) (fun x3 h4 =>
  bd (f_X4_unlike_l16 a0 a1 x1 x3 NN (0 : Int32) h4) (fun x5 h6 => rok () h6))
  else none)
  else none
noncomputable def f_X4_whole_l9b73 (v0 : Nat) (v1 : Nat) (v2 : Int32) (v3 : Nat) (ih : Int32 → HP → Rs Unit) (a4 : Int32) (h : HP) : Rs Unit :=
  lt3 (a4 + 1) fun x1 =>
  ih x1 h
noncomputable def b_X4_whole_l9 (v0 : Nat) (v1 : Nat) (v2 : Int32) (v3 : Nat) (ih : Int32 → HP → Rs Unit) (a4 : Int32) (h : HP) : Rs Unit :=
  alen v3 h fun x1 =>
  if x1 ≤ a4 then
  (rok () h)
  else
  (if kc h v0 = 5 then
  bd (f_X4_kindOfPlace v0 v1 a4 h) (fun x2 h3 =>
  if x2 < (8 : Int32) then
  (aldJ 3 v3 a4 h3 fun x4 =>
  if (lg_cmp x4 (0 : Int64)) = 0 then
  (f_X4_whole_l9b73 v0 v1 v2 v3 ih a4 h3)
  else
  (aldJ 3 v3 a4 h3 fun x5 =>
  if kc h3 v0 = 5 then
  bd (f_X4_addRow v0 (1 : Int32) (Int32.toInt64 (-v2)) a4 (0 : Int64) x5 h3) (fun _ h6 =>
  f_X4_whole_l9b73 v0 v1 v2 v3 ih a4 h6)
  else none))
  else
  (aldJ 3 v3 a4 h3 fun x7 =>
  if kc h3 v0 = 5 then
  bd (f_X4_thingAt v0 x7 h3) (fun x8 h9 =>
  if kc h9 v0 = 5 then
  bd (f_X4_linked v0 (Int32.toInt64 (-v2)) a4 0 x8 h9) (fun _ h10 =>
  f_X4_whole_l9b73 v0 v1 v2 v3 ih a4 h10)
  else none)
  else none))
  else none)
noncomputable def f_X4_whole_l9 (v0 : Nat) (v1 : Nat) (v2 : Int32) (v3 : Nat) (n : Nat) : Int32 → HP → Rs Unit := @Nat.rec (fun _ => Int32 → HP → Rs Unit) (fun _ _ => none) (fun _ ih => b_X4_whole_l9 v0 v1 v2 v3 ih) n
noncomputable def f_X4_whole (a0 : Nat) (a1 : Nat) (a2 : Int32) (h : HP) : Rs Unit :=
  if kc h a0 = 5 then
  bd (f_X4_seen a0 a1 h) (fun x1 h2 =>
  bd (f_X4_whole_l9 a0 a1 a2 x1 NN (0 : Int32) h2) (fun x3 h4 => rok () h4))
  else none
noncomputable def b_X4_patch_l103 (v0 : Nat) (v3 : Nat) (v4 : Nat) (ih : Int32 → HP → Rs Unit) (a5 : Int32) (h : HP) : Rs Unit :=
  if (4000 : Int32) < a5 then
  (rok () h)
  else
  (ldR 5 113 v0 h fun x1 =>
  astI 0 x1 a5 (0 : Int32) h fun h2 =>
  ldR 5 114 v0 h2 fun x3 =>
  astI 0 x3 a5 (0 : Int32) h2 fun h4 =>
  lt3 (a5 + 1) fun x5 =>
  ih x5 h4)
noncomputable def f_X4_patch_l103 (v0 : Nat) (v3 : Nat) (v4 : Nat) (n : Nat) : Int32 → HP → Rs Unit := @Nat.rec (fun _ => Int32 → HP → Rs Unit) (fun _ _ => none) (fun _ ih => b_X4_patch_l103 v0 v3 v4 ih) n
noncomputable def b_X4_patch_l157 (v0 : Nat) (ih : Int32 → HP → Rs (Unit ⊕ Unit)) (a5 : Int32) (h : HP) : Rs (Unit ⊕ Unit) :=
  ldR 5 115 v0 h fun x1 =>
  lsSize x1 h fun x2 =>
  if x2 ≤ a5 then
  (rok (Sum.inl ()) h)
  else
  (ldR 5 59 v0 h fun x3 =>
  ldR 5 113 v0 h fun x4 =>
  ldR 5 115 v0 h fun x5 =>
  lsGet x5 a5 h fun x6 =>
  castR [58] x6 h (
  ldI 58 429 x6 h fun x7 =>
  aldI 0 x4 x7 h fun x8 =>
  aldR 13 x3 x8 h fun x9 =>
  ldR 5 115 v0 h fun x10 =>
  lsGet x10 a5 h fun x11 =>
  castR [58] x11 h (
  if kc h v0 = 5 then
  bdc (f_X4_touch v0 x11 h) (fun _ h12 =>
  if kc h12 v0 = 5 then
  bdc (f_X4_touch v0 x9 h12) (fun _ h14 =>
  ldR 5 115 v0 h14 fun x16 =>
  lsGet x16 a5 h14 fun x17 =>
  castR [58] x17 h14 (
  if kc h14 v0 = 5 then
  bdc (f_X4_unlike v0 x17 x9 h14) (fun _ h18 =>
  lt3 (a5 + 1) fun x20 =>
  ih x20 h18) (fun h19 =>
  rok (Sum.inr ()) h19)
  else none)) (fun h15 =>
  rok (Sum.inr ()) h15)
  else none) (fun h13 =>
  rok (Sum.inr ()) h13)
  else none)))
noncomputable def f_X4_patch_l157 (v0 : Nat) (n : Nat) : Int32 → HP → Rs (Unit ⊕ Unit) := @Nat.rec (fun _ => Int32 → HP → Rs (Unit ⊕ Unit)) (fun _ _ => none) (fun _ ih => b_X4_patch_l157 v0 ih) n
noncomputable def b_X4_patch_l245 (v0 : Nat) (ih : Int32 → HP → Rs (Unit ⊕ Unit)) (a5 : Int32) (h : HP) : Rs (Unit ⊕ Unit) :=
  ldR 5 116 v0 h fun x1 =>
  lsSize x1 h fun x2 =>
  if x2 ≤ a5 then
  (rok (Sum.inl ()) h)
  else
  (ldR 5 116 v0 h fun x3 =>
  lsGet x3 a5 h fun x4 =>
  castR [58] x4 h (
  if kc h v0 = 5 then
  bdc (f_X4_touch v0 x4 h) (fun _ h5 =>
  ldR 5 116 v0 h5 fun x7 =>
  lsGet x7 a5 h5 fun x8 =>
  castR [58] x8 h5 (
  if kc h5 v0 = 5 then
  bdc (f_X4_whole v0 x8 (a5 + (1 : Int32)) h5) (fun _ h9 =>
  lt3 (a5 + 1) fun x11 =>
  ih x11 h9) (fun h10 =>
  rok (Sum.inr ()) h10)
  else none)) (fun h6 =>
  rok (Sum.inr ()) h6)
  else none))
noncomputable def f_X4_patch_l245 (v0 : Nat) (n : Nat) : Int32 → HP → Rs (Unit ⊕ Unit) := @Nat.rec (fun _ => Int32 → HP → Rs (Unit ⊕ Unit)) (fun _ _ => none) (fun _ ih => b_X4_patch_l245 v0 ih) n
noncomputable def f_X4_patch_b39 (a0 : Nat) (a1 : Int32) (a2 : Int32) (h : HP) : Rs Int32 :=
  if a1 = 0 then
  (rok (-3 : Int32) h)
  else
  (if a2 = 0 then
  (rok (-3 : Int32) h)
  else
  (if kc h a0 = 5 then
  bd (f_X4_thingAt a0 (Int32.toInt64 a1) h) (fun x1 h2 =>
  if kc h2 a0 = 5 then
  bd (f_X4_thingAt a0 (Int32.toInt64 a2) h2) (fun x3 h4 =>
  bd (f_X4_isFixed x1 h4) (fun x5 h6 =>
  if x5 = 0 then
  (bd (f_X4_isFixed x3 h6) (fun x7 h8 =>
  if x7 = 0 then
  (if kc h8 a0 = 5 then
  bd (f_X4_isShape a0 x1 x3 h8) (fun x9 h10 =>
  if x9 = 0 then
  (rok (-1 : Int32) h10)
  else
  (ldR 5 112 a0 h10 fun x11 =>
  stI 8 136 x11 (0 : Int32) h10 fun h12 =>
  bd (f_X4_patch_l103 a0 x1 x3 NN (0 : Int32) h12) (fun x13 h14 => ldR 5 115 a0 h14 fun x15 =>
  lsClr x15 h14 fun h16 =>
  ldR 5 116 a0 h16 fun x17 =>
  lsClr x17 h16 fun h18 =>
  if kc h18 a0 = 5 then
  bd (f_X4_pair a0 x1 x3 h18) (fun _ h19 =>
  bd (f_X4_patch_l157 a0 NN (0 : Int32) h19) (Sum.elim (fun x20 => fun h21 => bd (f_X4_patch_l245 a0 NN (0 : Int32) h21) (Sum.elim (fun x22 => fun h23 => ldR 5 111 a0 h23 fun x24 =>
  ldR 5 112 a0 h23 fun x25 =>
  stR 5 111 a0 x25 h23 fun h26 =>
  stR 5 112 a0 x24 h26 fun h27 =>
  ldR 5 111 a0 h27 fun x28 =>
  ldI 8 136 x28 h27 fun x29 =>
  rok x29 h27) (fun x30 => fun h31 => ldR 5 52 a0 h31 fun x32 =>
  ldI 6 131 x32 h31 fun x33 =>
  rok (-x33) h31))) (fun x34 => fun h35 => ldR 5 52 a0 h35 fun x36 =>
  ldI 6 131 x36 h35 fun x37 =>
  rok (-x37) h35)))
  else none)))
  else none)
  else
  (rok (-1 : Int32) h8)))
  else
  (rok (-1 : Int32) h6)))
  else none)
  else none))
noncomputable def f_X4_patch_b23 (a0 : Nat) (a1 : Int32) (a2 : Int32) (h : HP) : Rs Int32 :=
  if a2 = 0 then
  (f_X4_patch_b39  a0 a1 a2 h)
  else
  (if kc h a0 = 5 then
  bd (f_X4_isAlive a0 (Int32.toInt64 a2) h) (fun x1 h2 =>
  if x1 = 0 then
  (rok (-14 : Int32) h2)
  else
  (f_X4_patch_b39  a0 a1 a2 h2))
  else none)
noncomputable def f_X4_patch (a0 : Nat) (a1 : Int32) (a2 : Int32) (h : HP) : Rs Int32 :=
  if kc h a0 = 5 then
  bd (f_X4_hasView a0 h) (fun x1 h2 =>
  if x1 = 0 then
  (rok (-13 : Int32) h2)
  else
  (if a1 = 0 then
  (f_X4_patch_b23  a0 a1 a2 h2)
  else
  (if kc h2 a0 = 5 then
  bd (f_X4_isAlive a0 (Int32.toInt64 a1) h2) (fun x3 h4 =>
  if x3 = 0 then
  (rok (-14 : Int32) h4)
  else
  (f_X4_patch_b23  a0 a1 a2 h4))
  else none)))
  else none
noncomputable def f_X4_place (a0 : Nat) (h : HP) : Rs Int32 :=
  ldI 5 51 a0 h fun x1 =>
  rok x1 h
noncomputable def f_X4_poke (a0 : Nat) (a1 : Int32) (a2 : Int32) (h : HP) : Rs Int32 :=
  ldI 5 70 a0 h fun x1 =>
  if x1 = 0 then
  (rok (0 : Int32) h)
  else
  (if a1 < 0 then
  (rok (0 : Int32) h)
  else
  (ldI 5 122 a0 h fun x2 =>
  if a1 < x2 then
  (ldR 5 120 a0 h fun x3 =>
  ldR 5 120 a0 h fun x4 =>
  aldI 1 x4 a1 h fun x5 =>
  astI 1 x3 a1 (vp_nar .byte (Int8.toInt32 (Int32.toInt8 (x5 ^^^ a2)))) h fun h6 =>
  rok (1 : Int32) h6)
  else
  (rok (0 : Int32) h)))
noncomputable def f_X4_stored (a0 : Nat) (a1 : Nat) (a2 : Int32) (a3 : Int32) (a4 : Int64) (h : HP) : Rs Int32 :=
  if kc h a0 = 5 then
  bd (f_X4_changing a0 a1 h) (fun x1 h2 =>
  if x1 = 0 then
  (rok (-12 : Int32) h2)
  else
  (if kc h2 a0 = 5 then
  bd (f_X4_kindOfPlace a0 a1 a2 h2) (fun x3 h4 =>
  bd (f_X4_widened a4 a3 x3 h4) (fun x5 h6 =>
  astJ 3 x1 a2 x5 h6 fun h7 =>
  rok (0 : Int32) h7))
  else none))
  else none
noncomputable def f_X4_put_b103 (a0 : Nat) (a1 : Int32) (a2 : Int32) (a3 : Int32) (a4 : Int64) (a6 : Nat) (a7 : Int32) (h : HP) : Rs Int32 :=
  if a1 = 0 then
  (rok (-3 : Int32) h)
  else
  (if a7 = 0 then
  (rok (-1 : Int32) h)
  else
  (bd (f_X4_hasBits a3 a4 h) (fun x1 h2 =>
  if x1 = 0 then
  (rok (-1 : Int32) h2)
  else
  (if kc h2 a0 = 5 then
  bd (f_X4_kindOfPlace a0 a6 a2 h2) (fun x3 h4 =>
  if kc h4 a0 = 5 then
  bd (f_X4_isFittingGiven a0 a3 a4 x3 h4) (fun x5 h6 =>
  if x5 = 0 then
  (rok (-1 : Int32) h6)
  else
  (ldI 58 430 a6 h6 fun x7 =>
  if kc h6 a0 = 5 then
  bd (f_X4_kindAt a0 x7 h6) (fun x8 h9 =>
  ldI 47 363 x8 h9 fun x10 =>
  if x10 = (4 : Int32) then
  (rok (-5 : Int32) h9)
  else
  (if kc h9 a0 = 5 then
  bd (f_X4_stored a0 a6 a2 a3 a4 h9) (fun x11 h12 =>
  rok x11 h12)
  else none))
  else none))
  else none)
  else none))))
noncomputable def f_X4_put_b70 (a0 : Nat) (a1 : Int32) (a2 : Int32) (a3 : Int32) (a4 : Int64) (a6 : Nat) (s0 : Int32) (h : HP) : Rs Int32 :=
  if s0 = 0 then
  (f_X4_put_b103  a0 a1 a2 a3 a4 a6 s0 h)
  else
  (if a2 < 0 then
  (rok (-14 : Int32) h)
  else
  (ldI 58 430 a6 h fun x1 =>
  if kc h a0 = 5 then
  bd (f_X4_kindAt a0 x1 h) (fun x2 h3 =>
  ldR 47 377 x2 h3 fun x4 =>
  lsSize x4 h3 fun x5 =>
  if a2 < x5 then
  (f_X4_put_b103  a0 a1 a2 a3 a4 a6 s0 h3)
  else
  (rok (-14 : Int32) h3))
  else none))
noncomputable def f_X4_put_b69 (a0 : Nat) (a1 : Int32) (a2 : Int32) (a3 : Int32) (a4 : Int64) (a6 : Nat) (h : HP) : Rs Int32 :=
  f_X4_put_b70  a0 a1 a2 a3 a4 a6 (0 : Int32) h
noncomputable def f_X4_put_b23 (a0 : Nat) (a1 : Int32) (a2 : Int32) (a3 : Int32) (a4 : Int64) (h : HP) : Rs Int32 :=
  if kc h a0 = 5 then
  bd (f_X4_isKind a0 a3 h) (fun x1 h2 =>
  if x1 = 0 then
  (rok (-14 : Int32) h2)
  else
  (if kc h2 a0 = 5 then
  bd (f_X4_isDead a0 a3 a4 h2) (fun x3 h4 =>
  if x3 = 0 then
  (if kc h4 a0 = 5 then
  bd (f_X4_thingAt a0 (Int32.toInt64 a1) h4) (fun x5 h6 =>
  if a1 = 0 then
  (f_X4_put_b69  a0 a1 a2 a3 a4 x5 h6)
  else
  (if kc h6 a0 = 5 then
  bd (f_X4_isObject a0 x5 h6) (fun x7 h8 =>
  if x7 = 0 then
  (f_X4_put_b69  a0 a1 a2 a3 a4 x5 h8)
  else
  (f_X4_put_b70  a0 a1 a2 a3 a4 x5 (1 : Int32) h8))
  else none))
  else none)
  else
  (rok (-14 : Int32) h4))
  else none))
  else none
noncomputable def f_X4_put (a0 : Nat) (a1 : Int32) (a2 : Int32) (a3 : Int32) (a4 : Int64) (h : HP) : Rs Int32 :=
  if kc h a0 = 5 then
  bd (f_X4_hasAct a0 h) (fun x1 h2 =>
  if x1 = 0 then
  (rok (-13 : Int32) h2)
  else
  (if a1 = 0 then
  (f_X4_put_b23  a0 a1 a2 a3 a4 h2)
  else
  (if kc h2 a0 = 5 then
  bd (f_X4_isAlive a0 (Int32.toInt64 a1) h2) (fun x3 h4 =>
  if x3 = 0 then
  (rok (-14 : Int32) h4)
  else
  (f_X4_put_b23  a0 a1 a2 a3 a4 h4))
  else none)))
  else none
noncomputable def f_X4_range_l156b312 (v0 : Nat) (v1 : Int32) (v2 : Int32) (v8 : Int32) (v9 : Int64) (v11 : Int64) (ih : Int32 → HP → Rs Unit) (a13 : Int32) (h : HP) : Rs Unit :=
  lt3 (a13 + 1) fun x1 =>
  ih x1 h
noncomputable def b_X4_range_l235 (v0 : Nat) (v1 : Int32) (v2 : Int32) (v8 : Int32) (v9 : Int64) (v11 : Int64) (v13 : Int32) (v14 : Int64) (ih : Int32 → HP → Rs Int32) (a16 : Int32) (h : HP) : Rs Int32 :=
  if a16 ≤ 0 then
  (rok a16 h)
  else
  (ldR 5 59 v0 h fun x1 =>
  ldR 5 102 v0 h fun x2 =>
  aldI 0 x2 (a16 - (1 : Int32)) h fun x3 =>
  aldR 13 x1 x3 h fun x4 =>
  if kc h v0 = 5 then
  bd (f_X4_seen v0 x4 h) (fun x5 h6 =>
  aldJ 3 x5 v2 h6 fun x7 =>
  bd (f_X4_comparable v8 x7 h6) (fun x8 h9 =>
  if (lg_cmp x8 v14) ≤ 0 then
  (rok a16 h9)
  else
  (ldR 5 102 v0 h9 fun x10 =>
  ldR 5 102 v0 h9 fun x11 =>
  aldI 0 x11 (a16 - (1 : Int32)) h9 fun x12 =>
  astI 0 x10 a16 x12 h9 fun h13 =>
  lt3 (a16 + (-1)) fun x14 =>
  ih x14 h13)))
  else none)
noncomputable def f_X4_range_l235 (v0 : Nat) (v1 : Int32) (v2 : Int32) (v8 : Int32) (v9 : Int64) (v11 : Int64) (v13 : Int32) (v14 : Int64) (n : Nat) : Int32 → HP → Rs Int32 := @Nat.rec (fun _ => Int32 → HP → Rs Int32) (fun _ _ => none) (fun _ ih => b_X4_range_l235 v0 v1 v2 v8 v9 v11 v13 v14 ih) n
noncomputable def f_X4_range_l156b293 (v0 : Nat) (v1 : Int32) (v2 : Int32) (v8 : Int32) (v9 : Int64) (v11 : Int64) (ih : Int32 → HP → Rs Unit) (a13 : Int32) (a16 : Int32) (h : HP) : Rs Unit :=
  ldR 5 102 v0 h fun x1 =>
  astI 0 x1 a16 a13 h fun h2 =>
  ldI 5 103 v0 h2 fun x3 =>
  stI 5 103 v0 (x3 + (1 : Int32)) h2 fun h4 =>
  f_X4_range_l156b312 v0 v1 v2 v8 v9 v11 ih a13 h4
noncomputable def b_X4_range_l156 (v0 : Nat) (v1 : Int32) (v2 : Int32) (v8 : Int32) (v9 : Int64) (v11 : Int64) (ih : Int32 → HP → Rs Unit) (a13 : Int32) (h : HP) : Rs Unit :=
  ldI 5 60 v0 h fun x1 =>
  if x1 ≤ a13 then
  (rok () h)
  else
  (if kc h v0 = 5 then
  bd (f_X4_isAlive v0 (Int32.toInt64 a13) h) (fun x2 h3 =>
  if x2 = 0 then
  (f_X4_range_l156b312 v0 v1 v2 v8 v9 v11 ih a13 h3)
  else
  (ldR 5 59 v0 h3 fun x4 =>
  aldR 13 x4 a13 h3 fun x5 =>
  ldI 58 430 x5 h3 fun x6 =>
  if kc h3 v0 = 5 then
  bd (f_X4_isBelow 100 v0 x6 v1 h3) (fun x7 h8 =>
  if x7 = 0 then
  (f_X4_range_l156b312 v0 v1 v2 v8 v9 v11 ih a13 h8)
  else
  (ldR 5 59 v0 h8 fun x9 =>
  aldR 13 x9 a13 h8 fun x10 =>
  if kc h8 v0 = 5 then
  bd (f_X4_values v0 x10 h8) (fun x11 h12 =>
  aldJ 3 x11 v2 h12 fun x13 =>
  bd (f_X4_comparable v8 x13 h12) (fun x14 h15 =>
  if (lg_cmp x14 v9) < 0 then
  (f_X4_range_l156b312 v0 v1 v2 v8 v9 v11 ih a13 h15)
  else
  (if 0 < (lg_cmp x14 v11) then
  (f_X4_range_l156b312 v0 v1 v2 v8 v9 v11 ih a13 h15)
  else
  (ldI 5 103 v0 h15 fun x16 =>
  bd (f_X4_range_l235 v0 v1 v2 v8 v9 v11 a13 x14 NN x16 h15) (fun x17 h18 => f_X4_range_l156b293 v0 v1 v2 v8 v9 v11 ih a13 x17 h18)))))
  else none))
  else none))
  else none)
noncomputable def f_X4_range_l156 (v0 : Nat) (v1 : Int32) (v2 : Int32) (v8 : Int32) (v9 : Int64) (v11 : Int64) (n : Nat) : Int32 → HP → Rs Unit := @Nat.rec (fun _ => Int32 → HP → Rs Unit) (fun _ _ => none) (fun _ ih => b_X4_range_l156 v0 v1 v2 v8 v9 v11 ih) n
noncomputable def f_X4_range_b131 (a0 : Nat) (a1 : Int32) (a2 : Int32) (a3 : Int64) (a5 : Int64) (a8 : Int32) (h : HP) : Rs Int32 :=
  bd (f_X4_comparable a8 a3 h) (fun x1 h2 =>
  bd (f_X4_comparable a8 a5 h2) (fun x3 h4 =>
  stI 5 103 a0 (0 : Int32) h4 fun h5 =>
  bd (f_X4_range_l156 a0 a1 a2 a8 x1 x3 NN (1 : Int32) h5) (fun x6 h7 => ldI 5 103 a0 h7 fun x8 =>
  rok x8 h7)))
noncomputable def f_X4_range_b55 (a0 : Nat) (a1 : Int32) (a2 : Int32) (a3 : Int64) (a5 : Int64) (a7 : Int32) (h : HP) : Rs Int32 :=
  if a7 = 0 then
  (rok (-14 : Int32) h)
  else
  (if kc h a0 = 5 then
  bd (f_X4_kindAt a0 a1 h) (fun x1 h2 =>
  ldR 47 377 x1 h2 fun x3 =>
  lsGet x3 a2 h2 fun x4 =>
  castR [49] x4 h2 (
  ldR 49 384 x4 h2 fun x5 =>
  ldI 48 383 x5 h2 fun x6 =>
  if (8 : Int32) ≤ x6 then
  (rok (-1 : Int32) h2)
  else
  (bd (f_X4_hasBits x6 a3 h2) (fun x7 h8 =>
  if x7 = 0 then
  (rok (-1 : Int32) h8)
  else
  (bd (f_X4_hasBits x6 a5 h8) (fun x9 h10 =>
  if x9 = 0 then
  (rok (-1 : Int32) h10)
  else
  (ldR 5 68 a0 h10 fun x11 =>
  if x11 = 0 then
  (f_X4_range_b131  a0 a1 a2 a3 a5 x6 h10)
  else
  (ldR 5 68 a0 h10 fun x12 =>
  ldR 9 144 x12 h10 fun x13 =>
  astI 2 x13 a1 (vp_nar .boolean (1 : Int32)) h10 fun h14 =>
  f_X4_range_b131  a0 a1 a2 a3 a5 x6 h14))))))))
  else none)
noncomputable def f_X4_range (a0 : Nat) (a1 : Int32) (a2 : Int32) (a3 : Int64) (a5 : Int64) (h : HP) : Rs Int32 :=
  if kc h a0 = 5 then
  bd (f_X4_hasView a0 h) (fun x1 h2 =>
  if x1 = 0 then
  (rok (-13 : Int32) h2)
  else
  (if kc h2 a0 = 5 then
  bd (f_X4_isKind a0 a1 h2) (fun x3 h4 =>
  if x3 = 0 then
  (rok (-14 : Int32) h4)
  else
  (if kc h4 a0 = 5 then
  bd (f_X4_hasFields a0 a1 h4) (fun x5 h6 =>
  if x5 = 0 then
  (f_X4_range_b55  a0 a1 a2 a3 a5 x5 h6)
  else
  (if a2 < 0 then
  (rok (-14 : Int32) h6)
  else
  (if kc h6 a0 = 5 then
  bd (f_X4_kindAt a0 a1 h6) (fun x7 h8 =>
  ldR 47 377 x7 h8 fun x9 =>
  lsSize x9 h8 fun x10 =>
  if a2 < x10 then
  (f_X4_range_b55  a0 a1 a2 a3 a5 x5 h8)
  else
  (rok (-14 : Int32) h8))
  else none)))
  else none))
  else none))
  else none
noncomputable def f_X4_read_l60b196 (v0 : Nat) (v2 : Nat) (ih : Int32 → Int32 → Int32 → HP → Rs (Int32 × Int32)) (a3 : Int32) (a4 : Int32) (a5 : Int32) (a6 : Nat) (h : HP) : Rs (Int32 × Int32) :=
  ldR 67 472 a6 h fun x1 =>
  alen x1 h fun x2 =>
  lt3 (a4 + x2) fun x3 =>
  lt3 (a5 + 1) fun x4 =>
  ih a3 x3 x4 h
noncomputable def f_X4_read_l60b188 (v0 : Nat) (v2 : Nat) (ih : Int32 → Int32 → Int32 → HP → Rs (Int32 × Int32)) (a3 : Int32) (a4 : Int32) (a5 : Int32) (a6 : Nat) (a7 : Int32) (h : HP) : Rs (Int32 × Int32) :=
  if a7 = 0 then
  (lt3 (a3 + 1) fun x1 =>
  f_X4_read_l60b196 v0 v2 ih x1 a4 a5 a6 h)
  else
  (f_X4_read_l60b196 v0 v2 ih a3 a4 a5 a6 h)
noncomputable def f_X4_read_l125b180 (v0 : Nat) (v2 : Nat) (v3 : Int32) (v4 : Int32) (v5 : Int32) (v6 : Nat) (ih : Int32 → Int32 → HP → Rs Int32) (a8 : Int32) (s0 : Int32) (h : HP) : Rs Int32 :=
  lt3 (a8 + 1) fun x1 =>
  ih s0 x1 h
noncomputable def f_X4_read_l125b179 (v0 : Nat) (v2 : Nat) (v3 : Int32) (v4 : Int32) (v5 : Int32) (v6 : Nat) (ih : Int32 → Int32 → HP → Rs Int32) (a8 : Int32) (h : HP) : Rs Int32 :=
  f_X4_read_l125b180 v0 v2 v3 v4 v5 v6 ih a8 (0 : Int32) h
noncomputable def b_X4_read_l125 (v0 : Nat) (v2 : Nat) (v3 : Int32) (v4 : Int32) (v5 : Int32) (v6 : Nat) (ih : Int32 → Int32 → HP → Rs Int32) (a7 : Int32) (a8 : Int32) (h : HP) : Rs Int32 :=
  if v5 ≤ a8 then
  (rok a7 h)
  else
  (if a7 = 0 then
  (lsGet v2 a8 h fun x1 =>
  castR [67] x1 h (
  ldR 67 470 x1 h fun x2 =>
  if x2 = 0 then
  (f_X4_read_l125b179 v0 v2 v3 v4 v5 v6 ih a8 h)
  else
  (lsGet v2 a8 h fun x3 =>
  castR [67] x3 h (
  ldR 67 470 x3 h fun x4 =>
  ldR 67 470 v6 h fun x5 =>
  txEq x4 x5 h fun x6 =>
  if x6 = 0 then
  (f_X4_read_l125b179 v0 v2 v3 v4 v5 v6 ih a8 h)
  else
  (f_X4_read_l125b180 v0 v2 v3 v4 v5 v6 ih a8 (1 : Int32) h)))))
  else
  (rok a7 h))
noncomputable def f_X4_read_l125 (v0 : Nat) (v2 : Nat) (v3 : Int32) (v4 : Int32) (v5 : Int32) (v6 : Nat) (n : Nat) : Int32 → Int32 → HP → Rs Int32 := @Nat.rec (fun _ => Int32 → Int32 → HP → Rs Int32) (fun _ _ _ => none) (fun _ ih => b_X4_read_l125 v0 v2 v3 v4 v5 v6 ih) n
noncomputable def f_X4_read_l60b120 (v0 : Nat) (v2 : Nat) (ih : Int32 → Int32 → Int32 → HP → Rs (Int32 × Int32)) (a3 : Int32) (a4 : Int32) (a5 : Int32) (a6 : Nat) (s0 : Int32) (h : HP) : Rs (Int32 × Int32) :=
  bd (f_X4_read_l125 v0 v2 a3 a4 a5 a6 NN s0 (0 : Int32) h) (fun x1 h2 => f_X4_read_l60b188 v0 v2 ih a3 a4 a5 a6 x1 h2)
noncomputable def f_X4_read_l60b93 (v0 : Nat) (v2 : Nat) (ih : Int32 → Int32 → Int32 → HP → Rs (Int32 × Int32)) (a3 : Int32) (a4 : Int32) (a5 : Int32) (a6 : Nat) (s0 : Int32) (h : HP) : Rs (Int32 × Int32) :=
  ldR 67 470 a6 h fun x1 =>
  if x1 = 0 then
  (f_X4_read_l60b188 v0 v2 ih a3 a4 a5 a6 s0 h)
  else
  (ldR 67 470 a6 h fun x2 =>
  if kc h v0 = 5 then
  bd (f_X4_textThere v0 x2 h) (fun x3 h4 =>
  if x3 = 0 then
  (f_X4_read_l60b120 v0 v2 ih a3 a4 a5 a6 (0 : Int32) h4)
  else
  (f_X4_read_l60b120 v0 v2 ih a3 a4 a5 a6 (1 : Int32) h4))
  else none)
noncomputable def b_X4_read_l60 (v0 : Nat) (v2 : Nat) (ih : Int32 → Int32 → Int32 → HP → Rs (Int32 × Int32)) (a3 : Int32) (a4 : Int32) (a5 : Int32) (h : HP) : Rs (Int32 × Int32) :=
  lsSize v2 h fun x1 =>
  if x1 ≤ a5 then
  (rok (a3, a4) h)
  else
  (lsGet v2 a5 h fun x2 =>
  castR [67] x2 h (
  ldI 67 471 x2 h fun x3 =>
  if x3 < 0 then
  (f_X4_read_l60b93 v0 v2 ih a3 a4 a5 x2 (0 : Int32) h)
  else
  (f_X4_read_l60b93 v0 v2 ih a3 a4 a5 x2 (1 : Int32) h)))
noncomputable def f_X4_read_l60 (v0 : Nat) (v2 : Nat) (n : Nat) : Int32 → Int32 → Int32 → HP → Rs (Int32 × Int32) := @Nat.rec (fun _ => Int32 → Int32 → Int32 → HP → Rs (Int32 × Int32)) (fun _ _ _ _ => none) (fun _ ih => b_X4_read_l60 v0 v2 ih) n
noncomputable def f_X4_read_l246b336 (v0 : Nat) (v2 : Nat) (ih : Int32 → HP → Rs Unit) (a5 : Int32) (s0 : Nat) (s1 : Nat) (h : HP) : Rs Unit :=
  stR 67 474 s0 s1 h fun h1 =>
  lt3 (a5 + 1) fun x2 =>
  ih x2 h1
noncomputable def b_X4_read_l246 (v0 : Nat) (v2 : Nat) (ih : Int32 → HP → Rs Unit) (a5 : Int32) (h : HP) : Rs Unit :=
  lsSize v2 h fun x1 =>
  if x1 ≤ a5 then
  (rok () h)
  else
  (lsGet v2 a5 h fun x2 =>
  castR [67] x2 h (
  ldI 67 471 x2 h fun x3 =>
  if x3 < 0 then
  (ldR 67 470 x2 h fun x4 =>
  if x4 = 0 then
  (ldI 67 469 x2 h fun x5 =>
  ldR 67 472 x2 h fun x6 =>
  if kc h v0 = 5 then
  bd (f_X4_made v0 x5 x6 h) (fun x7 h8 =>
  f_X4_read_l246b336 v0 v2 ih a5 x2 x7 h8)
  else none)
  else
  (ldR 67 470 x2 h fun x9 =>
  if kc h v0 = 5 then
  bd (f_X4_textThing v0 x9 h) (fun x10 h11 =>
  f_X4_read_l246b336 v0 v2 ih a5 x2 x10 h11)
  else none))
  else
  (ldR 5 59 v0 h fun x12 =>
  ldI 67 469 x2 h fun x13 =>
  if kc h v0 = 5 then
  bd (f_X4_kindAt v0 x13 h) (fun x14 h15 =>
  ldI 47 378 x14 h15 fun x16 =>
  ldI 67 471 x2 h15 fun x17 =>
  aldR 13 x12 (x16 + x17) h15 fun x18 =>
  f_X4_read_l246b336 v0 v2 ih a5 x2 x18 h15)
  else none)))
noncomputable def f_X4_read_l246 (v0 : Nat) (v2 : Nat) (n : Nat) : Int32 → HP → Rs Unit := @Nat.rec (fun _ => Int32 → HP → Rs Unit) (fun _ _ => none) (fun _ ih => b_X4_read_l246 v0 v2 ih) n
noncomputable def f_X4_read_l371b444 (v0 : Nat) (v2 : Nat) (v5 : Int32) (v6 : Nat) (ih : Int32 → HP → Rs Unit) (a7 : Int32) (h : HP) : Rs Unit :=
  lt3 (a7 + 1) fun x1 =>
  ih x1 h
noncomputable def b_X4_read_l371 (v0 : Nat) (v2 : Nat) (v5 : Int32) (v6 : Nat) (ih : Int32 → HP → Rs Unit) (a7 : Int32) (h : HP) : Rs Unit :=
  ldR 67 472 v6 h fun x1 =>
  alen x1 h fun x2 =>
  if x2 ≤ a7 then
  (rok () h)
  else
  (ldR 67 474 v6 h fun x3 =>
  if kc h v0 = 5 then
  bd (f_X4_kindOfPlace v0 x3 a7 h) (fun x4 h5 =>
  if x4 < (8 : Int32) then
  (f_X4_read_l371b444 v0 v2 v5 v6 ih a7 h5)
  else
  (ldR 67 472 v6 h5 fun x6 =>
  aldJ 3 x6 a7 h5 fun x7 =>
  if (lg_cmp x7 (0 : Int64)) ≤ 0 then
  (f_X4_read_l371b444 v0 v2 v5 v6 ih a7 h5)
  else
  (ldR 67 472 v6 h5 fun x8 =>
  ldR 67 472 v6 h5 fun x9 =>
  aldJ 3 x9 a7 h5 fun x10 =>
  lsGet v2 ((Int64.toInt32 x10) - (1 : Int32)) h5 fun x11 =>
  castR [67] x11 h5 (
  ldR 67 474 x11 h5 fun x12 =>
  ldI 58 429 x12 h5 fun x13 =>
  astJ 3 x8 a7 (Int32.toInt64 x13) h5 fun h14 =>
  f_X4_read_l371b444 v0 v2 v5 v6 ih a7 h14))))
  else none)
noncomputable def f_X4_read_l371 (v0 : Nat) (v2 : Nat) (v5 : Int32) (v6 : Nat) (n : Nat) : Int32 → HP → Rs Unit := @Nat.rec (fun _ => Int32 → HP → Rs Unit) (fun _ _ => none) (fun _ ih => b_X4_read_l371 v0 v2 v5 v6 ih) n
noncomputable def b_X4_read_l348 (v0 : Nat) (v2 : Nat) (ih : Int32 → HP → Rs Unit) (a5 : Int32) (h : HP) : Rs Unit :=
  lsSize v2 h fun x1 =>
  if x1 ≤ a5 then
  (rok () h)
  else
  (lsGet v2 a5 h fun x2 =>
  castR [67] x2 h (
  bd (f_X4_read_l371 v0 v2 a5 x2 NN (0 : Int32) h) (fun x3 h4 => lt3 (a5 + 1) fun x5 =>
  ih x5 h4)))
noncomputable def f_X4_read_l348 (v0 : Nat) (v2 : Nat) (n : Nat) : Int32 → HP → Rs Unit := @Nat.rec (fun _ => Int32 → HP → Rs Unit) (fun _ _ => none) (fun _ ih => b_X4_read_l348 v0 v2 ih) n
noncomputable def f_X4_read (a0 : Nat) (h : HP) : Rs Int32 :=
  stI 5 51 a0 (-1 : Int32) h fun h1 =>
  if kc h1 a0 = 5 then
  bd (f_X4_hasAct a0 h1) (fun x2 h3 =>
  if x2 = 0 then
  (rok (-13 : Int32) h3)
  else
  (if kc h3 a0 = 5 then
  bd (f_X4_used a0 h3) (fun x4 h5 =>
  nwC 185 3 h5 fun p6 h7 =>
  lsInit p6 h7 fun h8 =>
  if kc h8 a0 = 5 then
  bdc (f_X4_drafted a0 x4 p6 h8) (fun _ h9 =>
  bd (f_X4_read_l60 a0 p6 NN (0 : Int32) (0 : Int32) (0 : Int32) h9) (fun x14 h15 => ldI 5 60 a0 h15 fun x16 =>
  if (4000 : Int32) < ((x16 - (1 : Int32)) + x14.1) then
  (rok (-12 : Int32) h15)
  else
  (ldI 5 61 a0 h15 fun x17 =>
  if (x17 + x14.2) ≤ (20000 : Int32) then
  (bd (f_X4_read_l246 a0 p6 NN (0 : Int32) h15) (fun x18 h19 => bd (f_X4_read_l348 a0 p6 NN (0 : Int32) h19) (fun x20 h21 => lsGet p6 (0 : Int32) h21 fun x22 =>
  castR [67] x22 h21 (
  ldR 67 474 x22 h21 fun x23 =>
  ldI 58 429 x23 h21 fun x24 =>
  rok x24 h21))))
  else
  (rok (-12 : Int32) h15)))) (fun h10 =>
  ldR 5 52 a0 h10 fun x11 =>
  ldI 6 132 x11 h10 fun x12 =>
  stI 5 51 a0 x12 h10 fun h13 =>
  rok (-20 : Int32) h13)
  else none)
  else none))
  else none
noncomputable def b_X4_record_l91 (v0 : Nat) (v1 : Int32) (v2 : Int32) (v4 : Nat) (v5 : Nat) (ih : Int32 → HP → Rs (Unit ⊕ Unit)) (a6 : Int32) (h : HP) : Rs (Unit ⊕ Unit) :=
  if v2 ≤ a6 then
  (rok (Sum.inr ()) h)
  else
  (ldR 47 377 v4 h fun x1 =>
  lsGet x1 a6 h fun x2 =>
  castR [49] x2 h (
  ldR 49 384 x2 h fun x3 =>
  ldI 48 383 x3 h fun x4 =>
  ldR 5 73 v0 h fun x5 =>
  aldI 0 x5 a6 h fun x6 =>
  ldR 5 74 v0 h fun x7 =>
  aldJ 3 x7 a6 h fun x8 =>
  if kc h v0 = 5 then
  bd (f_X4_isFittingGiven v0 x6 x8 x4 h) (fun x9 h10 =>
  if x9 = 0 then
  (rok (Sum.inl ()) h10)
  else
  (ldR 5 74 v0 h10 fun x11 =>
  aldJ 3 x11 a6 h10 fun x12 =>
  ldR 5 73 v0 h10 fun x13 =>
  aldI 0 x13 a6 h10 fun x14 =>
  bd (f_X4_widened x12 x14 x4 h10) (fun x15 h16 =>
  astJ 3 v5 a6 x15 h16 fun h17 =>
  lt3 (a6 + 1) fun x18 =>
  ih x18 h17)))
  else none))
noncomputable def f_X4_record_l91 (v0 : Nat) (v1 : Int32) (v2 : Int32) (v4 : Nat) (v5 : Nat) (n : Nat) : Int32 → HP → Rs (Unit ⊕ Unit) := @Nat.rec (fun _ => Int32 → HP → Rs (Unit ⊕ Unit)) (fun _ _ => none) (fun _ ih => b_X4_record_l91 v0 v1 v2 v4 v5 ih) n
noncomputable def f_X4_record (a0 : Nat) (a1 : Int32) (h : HP) : Rs Int32 :=
  if kc h a0 = 5 then
  bd (f_X4_hasAct a0 h) (fun x1 h2 =>
  if x1 = 0 then
  (rok (-13 : Int32) h2)
  else
  (ldI 5 75 a0 h2 fun x3 =>
  stI 5 75 a0 (0 : Int32) h2 fun h4 =>
  if kc h4 a0 = 5 then
  bd (f_X4_isKind a0 a1 h4) (fun x5 h6 =>
  if x5 = 0 then
  (rok (-14 : Int32) h6)
  else
  (stI 5 75 a0 x3 h6 fun h7 =>
  if kc h7 a0 = 5 then
  bd (f_X4_areAlive a0 h7) (fun x8 h9 =>
  stI 5 75 a0 (0 : Int32) h9 fun h10 =>
  if x8 = 0 then
  (rok (-14 : Int32) h10)
  else
  (if kc h10 a0 = 5 then
  bd (f_X4_kindAt a0 a1 h10) (fun x11 h12 =>
  ldI 47 363 x11 h12 fun x13 =>
  if x13 = (4 : Int32) then
  (ldR 47 377 x11 h12 fun x14 =>
  lsSize x14 h12 fun x15 =>
  if x15 = x3 then
  (nwA 2183 x3 h12 fun p16 h17 =>
  bd (f_X4_record_l91 a0 a1 x3 x11 p16 NN (0 : Int32) h17) (Sum.elim (fun x18 => fun h19 => rok (-1 : Int32) h19) (fun x20 => fun h21 => if kc h21 a0 = 5 then
  bd (f_X4_isRoom a0 x3 h21) (fun x22 h23 =>
  if x22 = 0 then
  (rok (-12 : Int32) h23)
  else
  (if kc h23 a0 = 5 then
  bd (f_X4_made a0 a1 p16 h23) (fun x24 h25 =>
  ldI 58 429 x24 h25 fun x26 =>
  rok x26 h25)
  else none))
  else none)))
  else
  (rok (-1 : Int32) h12))
  else
  (rok (-1 : Int32) h12))
  else none))
  else none))
  else none))
  else none
noncomputable def f_X4_refers_l2b30 (v0 : Nat) (v1 : Nat) (v2 : Nat) (ih : Int32 → HP → Rs Unit) (a3 : Int32) (h : HP) : Rs Unit :=
  lt3 (a3 + 1) fun x1 =>
  ih x1 h
noncomputable def b_X4_refers_l2 (v0 : Nat) (v1 : Nat) (v2 : Nat) (ih : Int32 → HP → Rs Unit) (a3 : Int32) (h : HP) : Rs Unit :=
  alen v2 h fun x1 =>
  if x1 ≤ a3 then
  (rok () h)
  else
  (if kc h v0 = 5 then
  bd (f_X4_kindOfPlace v0 v1 a3 h) (fun x2 h3 =>
  if x2 < (8 : Int32) then
  (f_X4_refers_l2b30 v0 v1 v2 ih a3 h3)
  else
  (aldJ 3 v2 a3 h3 fun x4 =>
  if kc h3 v0 = 5 then
  bd (f_X4_thingAt v0 x4 h3) (fun x5 h6 =>
  if kc h6 v0 = 5 then
  bd (f_X4_reach v0 x5 h6) (fun _ h7 =>
  f_X4_refers_l2b30 v0 v1 v2 ih a3 h7)
  else none)
  else none))
  else none)
noncomputable def f_X4_refers_l2 (v0 : Nat) (v1 : Nat) (v2 : Nat) (n : Nat) : Int32 → HP → Rs Unit := @Nat.rec (fun _ => Int32 → HP → Rs Unit) (fun _ _ => none) (fun _ ih => b_X4_refers_l2 v0 v1 v2 ih) n
noncomputable def f_X4_refers (a0 : Nat) (a1 : Nat) (a2 : Nat) (h : HP) : Rs Unit :=
  bd (f_X4_refers_l2 a0 a1 a2 NN (0 : Int32) h) (fun x1 h2 => rok () h2)
noncomputable def f_X4_reopen_l89b124 (v0 : Nat) (v1 : Int32) (v2 : Int32) (v4 : Int32) (ih : Int32 → Int32 → HP → Rs Int32) (a5 : Int32) (s0 : Int32) (h : HP) : Rs Int32 :=
  lt3 (a5 + 1) fun x1 =>
  ih s0 x1 h
noncomputable def b_X4_reopen_l89 (v0 : Nat) (v1 : Int32) (v2 : Int32) (v4 : Int32) (ih : Int32 → Int32 → HP → Rs Int32) (a3 : Int32) (a5 : Int32) (h : HP) : Rs Int32 :=
  if (v2 + v4) ≤ a5 then
  (rok a3 h)
  else
  (if a3 = 0 then
  (rok a3 h)
  else
  (ldR 5 120 v0 h fun x1 =>
  aldI 1 x1 a5 h fun x2 =>
  ldR 5 121 v0 h fun x3 =>
  aldI 1 x3 a5 h fun x4 =>
  if x2 = x4 then
  (f_X4_reopen_l89b124 v0 v1 v2 v4 ih a5 (1 : Int32) h)
  else
  (f_X4_reopen_l89b124 v0 v1 v2 v4 ih a5 (0 : Int32) h)))
noncomputable def f_X4_reopen_l89 (v0 : Nat) (v1 : Int32) (v2 : Int32) (v4 : Int32) (n : Nat) : Int32 → Int32 → HP → Rs Int32 := @Nat.rec (fun _ => Int32 → Int32 → HP → Rs Int32) (fun _ _ _ => none) (fun _ ih => b_X4_reopen_l89 v0 v1 v2 v4 ih) n
noncomputable def f_X4_reopen_l38b143 (v0 : Nat) (ih : Int32 → Int32 → Int32 → HP → Rs (Int32 × Int32)) (a1 : Int32) (a2 : Int32) (a3 : Int32) (h : HP) : Rs (Int32 × Int32) :=
  ih a1 a2 a3 h
noncomputable def f_X4_reopen_l38b131 (v0 : Nat) (ih : Int32 → Int32 → Int32 → HP → Rs (Int32 × Int32)) (a1 : Int32) (a2 : Int32) (a3 : Int32) (a4 : Int32) (h : HP) : Rs (Int32 × Int32) :=
  if a3 = 0 then
  (f_X4_reopen_l38b143 v0 ih a1 a2 a3 h)
  else
  (lt3 (a2 + a4) fun x1 =>
  lt3 (a1 + 1) fun x2 =>
  f_X4_reopen_l38b143 v0 ih x2 x1 a3 h)
noncomputable def f_X4_reopen_l38b85 (v0 : Nat) (ih : Int32 → Int32 → Int32 → HP → Rs (Int32 × Int32)) (a1 : Int32) (a2 : Int32) (a4 : Int32) (s0 : Int32) (h : HP) : Rs (Int32 × Int32) :=
  bd (f_X4_reopen_l89 v0 a1 a2 a4 NN s0 a2 h) (fun x1 h2 => f_X4_reopen_l38b131 v0 ih a1 a2 x1 a4 h2)
noncomputable def b_X4_reopen_l38 (v0 : Nat) (ih : Int32 → Int32 → Int32 → HP → Rs (Int32 × Int32)) (a1 : Int32) (a2 : Int32) (a3 : Int32) (h : HP) : Rs (Int32 × Int32) :=
  if a3 = 0 then
  (rok (a1, a2) h)
  else
  (ldR 5 123 v0 h fun x1 =>
  lsSize x1 h fun x2 =>
  if x2 ≤ a1 then
  (rok (a1, a2) h)
  else
  (ldR 5 124 v0 h fun x3 =>
  lsGet x3 a1 h fun x4 =>
  castR [73] x4 h (
  ivGet x4 h fun x5 =>
  ldI 5 122 v0 h fun x6 =>
  if x6 < (a2 + x5) then
  (f_X4_reopen_l38b85 v0 ih a1 a2 x5 (0 : Int32) h)
  else
  (f_X4_reopen_l38b85 v0 ih a1 a2 x5 (1 : Int32) h))))
noncomputable def f_X4_reopen_l38 (v0 : Nat) (n : Nat) : Int32 → Int32 → Int32 → HP → Rs (Int32 × Int32) := @Nat.rec (fun _ => Int32 → Int32 → Int32 → HP → Rs (Int32 × Int32)) (fun _ _ _ _ => none) (fun _ ih => b_X4_reopen_l38 v0 ih) n
noncomputable def b_X4_reopen_l151 (v0 : Nat) (v1 : Int32) (ih : HP → Rs Unit) (h : HP) : Rs Unit :=
  ldR 5 123 v0 h fun x1 =>
  lsSize x1 h fun x2 =>
  if x2 ≤ v1 then
  (rok () h)
  else
  (ldR 5 123 v0 h fun x3 =>
  ldR 5 123 v0 h fun x4 =>
  lsSize x4 h fun x5 =>
  lsRem x3 (x5 - (1 : Int32)) h fun x6 h7 =>
  castR [73] x6 h7 (
  ivGet x6 h7 fun x8 =>
  ldR 5 124 v0 h7 fun x9 =>
  ldR 5 124 v0 h7 fun x10 =>
  lsSize x10 h7 fun x11 =>
  lsRem x9 (x11 - (1 : Int32)) h7 fun x12 h13 =>
  castR [73] x12 h13 (
  ivGet x12 h13 fun x14 =>
  ih  h13)))
noncomputable def f_X4_reopen_l151 (v0 : Nat) (v1 : Int32) (n : Nat) : HP → Rs Unit := @Nat.rec (fun _ => HP → Rs Unit) (fun _ => none) (fun _ ih => b_X4_reopen_l151 v0 v1 ih) n
noncomputable def b_X4_reopen_l230 (v0 : Nat) (v1 : Int32) (ih : Int32 → HP → Rs Unit) (a4 : Int32) (h : HP) : Rs Unit :=
  if v1 ≤ a4 then
  (rok () h)
  else
  (ldR 5 123 v0 h fun x1 =>
  lsGet x1 a4 h fun x2 =>
  castR [73] x2 h (
  ivGet x2 h fun x3 =>
  if kc h v0 = 5 then
  bd (f_X4_again v0 x3 h) (fun _ h4 =>
  lt3 (a4 + 1) fun x5 =>
  ih x5 h4)
  else none))
noncomputable def f_X4_reopen_l230 (v0 : Nat) (v1 : Int32) (n : Nat) : Int32 → HP → Rs Unit := @Nat.rec (fun _ => Int32 → HP → Rs Unit) (fun _ _ => none) (fun _ ih => b_X4_reopen_l230 v0 v1 ih) n
noncomputable def f_X4_reopen_b146 (a0 : Nat) (a1 : Int32) (a2 : Int32) (h : HP) : Rs Int32 :=
  stI 5 122 a0 a2 h fun h1 =>
  bd (f_X4_reopen_l151 a0 a1 NN h1) (fun x2 h3 => if kc h3 a0 = 5 then
  bd (f_X4_start a0 h3) (fun _ h4 =>
  stI 5 67 a0 (0 : Int32) h4 fun h5 =>
  stI 5 70 a0 (0 : Int32) h5 fun h6 =>
  bd (f_X4_reopen_l230 a0 a1 NN (0 : Int32) h6) (fun x7 h8 => ldI 5 64 a0 h8 fun x9 =>
  stI 5 65 a0 x9 h8 fun h10 =>
  ldI 5 64 a0 h10 fun x11 =>
  rok x11 h10))
  else none)
noncomputable def f_X4_reopen (a0 : Nat) (h : HP) : Rs Int32 :=
  ldI 5 70 a0 h fun x1 =>
  if x1 = 0 then
  (rok (-13 : Int32) h)
  else
  (ldI 5 125 a0 h fun x2 =>
  if x2 = (20 : Int32) then
  (rok (-12 : Int32) h)
  else
  (ldI 5 125 a0 h fun x3 =>
  stI 5 125 a0 (x3 + (1 : Int32)) h fun h4 =>
  bd (f_X4_reopen_l38 a0 NN (0 : Int32) (0 : Int32) (1 : Int32) h4) (fun x5 h6 => f_X4_reopen_b146  a0 x5.1 x5.2 h6)))
noncomputable def f_X4_root_b26 (a0 : Nat) (a1 : Int32) (a2 : Int32) (h : HP) : Rs Int32 :=
  if a1 < 0 then
  (rok (-2 : Int32) h)
  else
  (if a1 < (16 : Int32) then
  (ldR 5 68 a0 h fun x1 =>
  ldR 9 145 x1 h fun x2 =>
  astI 0 x2 a1 a2 h fun h3 =>
  ldR 5 68 a0 h3 fun x4 =>
  ldR 9 146 x4 h3 fun x5 =>
  astI 2 x5 a1 (vp_nar .boolean (1 : Int32)) h3 fun h6 =>
  rok (0 : Int32) h6)
  else
  (rok (-2 : Int32) h))
noncomputable def f_X4_root (a0 : Nat) (a1 : Int32) (a2 : Int32) (h : HP) : Rs Int32 :=
  if kc h a0 = 5 then
  bd (f_X4_hasAct a0 h) (fun x1 h2 =>
  if x1 = 0 then
  (rok (-13 : Int32) h2)
  else
  (if a2 = 0 then
  (f_X4_root_b26  a0 a1 a2 h2)
  else
  (if kc h2 a0 = 5 then
  bd (f_X4_isAlive a0 (Int32.toInt64 a2) h2) (fun x3 h4 =>
  if x3 = 0 then
  (rok (-14 : Int32) h4)
  else
  (f_X4_root_b26  a0 a1 a2 h4))
  else none)))
  else none
noncomputable def f_X4_rootAt (a0 : Nat) (a1 : Int32) (h : HP) : Rs Int32 :=
  if kc h a0 = 5 then
  bd (f_X4_hasView a0 h) (fun x1 h2 =>
  if x1 = 0 then
  (rok (-13 : Int32) h2)
  else
  (if a1 < 0 then
  (rok (-2 : Int32) h2)
  else
  (if a1 < (16 : Int32) then
  (ldR 5 68 a0 h2 fun x3 =>
  if x3 = 0 then
  (ldR 5 63 a0 h2 fun x10 =>
  ldI 5 69 a0 h2 fun x11 =>
  aldR 14 x10 x11 h2 fun x12 =>
  ldR 59 439 x12 h2 fun x13 =>
  aldI 0 x13 a1 h2 fun x14 =>
  rok x14 h2)
  else
  (ldR 5 68 a0 h2 fun x4 =>
  ldR 9 147 x4 h2 fun x5 =>
  astI 2 x5 a1 (vp_nar .boolean (1 : Int32)) h2 fun h6 =>
  ldR 5 68 a0 h6 fun x7 =>
  ldR 9 145 x7 h6 fun x8 =>
  aldI 0 x8 a1 h6 fun x9 =>
  rok x9 h6))
  else
  (rok (-2 : Int32) h2))))
  else none
noncomputable def f_X4_row (a0 : Nat) (a1 : Int32) (a2 : Int32) (h : HP) : Rs Int64 :=
  if a1 < 0 then
  (rok (0 : Int64) h)
  else
  (ldR 5 111 a0 h fun x1 =>
  ldI 8 136 x1 h fun x2 =>
  if x2 ≤ a1 then
  (rok (0 : Int64) h)
  else
  (if a2 < 0 then
  (rok (0 : Int64) h)
  else
  (if (5 : Int32) ≤ a2 then
  (rok (0 : Int64) h)
  else
  (ldR 5 111 a0 h fun x3 =>
  if kc h x3 = 8 then
  bd (f_X7_cell x3 a1 a2 h) (fun x4 h5 =>
  rok x4 h5)
  else none))))
noncomputable def f_X4_same_b39 (a0 : Nat) (a1 : Int32) (a2 : Int32) (h : HP) : Rs Int32 :=
  if a1 = 0 then
  (rok (-3 : Int32) h)
  else
  (if a2 = 0 then
  (rok (-3 : Int32) h)
  else
  (if kc h a0 = 5 then
  bd (f_X4_thingAt a0 (Int32.toInt64 a1) h) (fun x1 h2 =>
  if kc h2 a0 = 5 then
  bd (f_X4_thingAt a0 (Int32.toInt64 a2) h2) (fun x3 h4 =>
  if kc h4 a0 = 5 then
  bd (f_X4_isSame a0 x1 x3 h4) (fun x5 h6 =>
  if x5 = 0 then
  (rok (0 : Int32) h6)
  else
  (rok (1 : Int32) h6))
  else none)
  else none)
  else none))
noncomputable def f_X4_same_b23 (a0 : Nat) (a1 : Int32) (a2 : Int32) (h : HP) : Rs Int32 :=
  if a2 = 0 then
  (f_X4_same_b39  a0 a1 a2 h)
  else
  (if kc h a0 = 5 then
  bd (f_X4_isAlive a0 (Int32.toInt64 a2) h) (fun x1 h2 =>
  if x1 = 0 then
  (rok (-14 : Int32) h2)
  else
  (f_X4_same_b39  a0 a1 a2 h2))
  else none)
noncomputable def f_X4_same (a0 : Nat) (a1 : Int32) (a2 : Int32) (h : HP) : Rs Int32 :=
  if kc h a0 = 5 then
  bd (f_X4_hasView a0 h) (fun x1 h2 =>
  if x1 = 0 then
  (rok (-13 : Int32) h2)
  else
  (if a1 = 0 then
  (f_X4_same_b23  a0 a1 a2 h2)
  else
  (if kc h2 a0 = 5 then
  bd (f_X4_isAlive a0 (Int32.toInt64 a1) h2) (fun x3 h4 =>
  if x3 = 0 then
  (rok (-14 : Int32) h4)
  else
  (f_X4_same_b23  a0 a1 a2 h4))
  else none)))
  else none
noncomputable def f_X4_set_b23 (a0 : Nat) (a1 : Int32) (a2 : Int32) (a3 : Int32) (a4 : Int64) (h : HP) : Rs Int32 :=
  if kc h a0 = 5 then
  bd (f_X4_isKind a0 a3 h) (fun x1 h2 =>
  if x1 = 0 then
  (rok (-14 : Int32) h2)
  else
  (if kc h2 a0 = 5 then
  bd (f_X4_isDead a0 a3 a4 h2) (fun x3 h4 =>
  if x3 = 0 then
  (if a1 = 0 then
  (rok (-3 : Int32) h4)
  else
  (if kc h4 a0 = 5 then
  bd (f_X4_thingAt a0 (Int32.toInt64 a1) h4) (fun x5 h6 =>
  if kc h6 a0 = 5 then
  bd (f_X4_isArray a0 x5 h6) (fun x7 h8 =>
  if x7 = 0 then
  (rok (-1 : Int32) h8)
  else
  (bd (f_X4_hasBits a3 a4 h8) (fun x9 h10 =>
  if x9 = 0 then
  (rok (-1 : Int32) h10)
  else
  (ldI 58 430 x5 h10 fun x11 =>
  if kc h10 a0 = 5 then
  bd (f_X4_kindAt a0 x11 h10) (fun x12 h13 =>
  ldI 47 367 x12 h13 fun x14 =>
  if kc h13 a0 = 5 then
  bd (f_X4_isFittingGiven a0 a3 a4 x14 h13) (fun x15 h16 =>
  if x15 = 0 then
  (rok (-1 : Int32) h16)
  else
  (if a2 < 0 then
  (rok (-2 : Int32) h16)
  else
  (if kc h16 a0 = 5 then
  bd (f_X4_seen a0 x5 h16) (fun x17 h18 =>
  alen x17 h18 fun x19 =>
  if a2 < x19 then
  (if kc h18 a0 = 5 then
  bd (f_X4_stored a0 x5 a2 a3 a4 h18) (fun x20 h21 =>
  rok x20 h21)
  else none)
  else
  (rok (-2 : Int32) h18))
  else none)))
  else none)
  else none))))
  else none)
  else none))
  else
  (rok (-14 : Int32) h4))
  else none))
  else none
noncomputable def f_X4_set (a0 : Nat) (a1 : Int32) (a2 : Int32) (a3 : Int32) (a4 : Int64) (h : HP) : Rs Int32 :=
  if kc h a0 = 5 then
  bd (f_X4_hasAct a0 h) (fun x1 h2 =>
  if x1 = 0 then
  (rok (-13 : Int32) h2)
  else
  (if a1 = 0 then
  (f_X4_set_b23  a0 a1 a2 a3 a4 h2)
  else
  (if kc h2 a0 = 5 then
  bd (f_X4_isAlive a0 (Int32.toInt64 a1) h2) (fun x3 h4 =>
  if x3 = 0 then
  (rok (-14 : Int32) h4)
  else
  (f_X4_set_b23  a0 a1 a2 a3 a4 h4))
  else none)))
  else none
noncomputable def f_X4_size (a0 : Nat) (a1 : Int32) (h : HP) : Rs Int32 :=
  if kc h a0 = 5 then
  bd (f_X4_codeOf a0 a1 h) (fun x1 h2 =>
  if x1 ≤ 0 then
  (if kc h2 a0 = 5 then
  bd (f_X4_thingAt a0 (Int32.toInt64 a1) h2) (fun x3 h4 =>
  ldR 58 431 x3 h4 fun x5 =>
  if x5 = 0 then
  (if kc h4 a0 = 5 then
  bd (f_X4_isArray a0 x3 h4) (fun x8 h9 =>
  if x8 = 0 then
  (rok (-1 : Int32) h9)
  else
  (if kc h9 a0 = 5 then
  bd (f_X4_sizeOf a0 x3 h9) (fun x10 h11 =>
  rok x10 h11)
  else none))
  else none)
  else
  (if kc h4 a0 = 5 then
  bd (f_X4_sizeOf a0 x3 h4) (fun x6 h7 =>
  rok x6 h7)
  else none))
  else none)
  else
  (rok (-x1) h2))
  else none
noncomputable def b_X4_stay_l9 (v0 : Nat) (v1 : Int32) (ih : Int32 → HP → Rs Unit) (a2 : Int32) (h : HP) : Rs Unit :=
  if (4000 : Int32) < a2 then
  (rok () h)
  else
  (ldR 5 127 v0 h fun x1 =>
  astI 2 x1 a2 (vp_nar .boolean (0 : Int32)) h fun h2 =>
  lt3 (a2 + 1) fun x3 =>
  ih x3 h2)
noncomputable def f_X4_stay_l9 (v0 : Nat) (v1 : Int32) (n : Nat) : Int32 → HP → Rs Unit := @Nat.rec (fun _ => Int32 → HP → Rs Unit) (fun _ _ => none) (fun _ ih => b_X4_stay_l9 v0 v1 ih) n
noncomputable def b_X4_stay_l41 (v0 : Nat) (v1 : Int32) (v2 : Int32) (ih : Int32 → HP → Rs Unit) (a3 : Int32) (h : HP) : Rs Unit :=
  if (16 : Int32) ≤ a3 then
  (rok () h)
  else
  (ldR 5 63 v0 h fun x1 =>
  aldR 14 x1 v2 h fun x2 =>
  ldR 59 439 x2 h fun x3 =>
  aldI 0 x3 a3 h fun x4 =>
  if kc h v0 = 5 then
  bd (f_X4_thingAt v0 (Int32.toInt64 x4) h) (fun x5 h6 =>
  if kc h6 v0 = 5 then
  bd (f_X4_reach v0 x5 h6) (fun _ h7 =>
  lt3 (a3 + 1) fun x8 =>
  ih x8 h7)
  else none)
  else none)
noncomputable def f_X4_stay_l41 (v0 : Nat) (v1 : Int32) (v2 : Int32) (n : Nat) : Int32 → HP → Rs Unit := @Nat.rec (fun _ => Int32 → HP → Rs Unit) (fun _ _ => none) (fun _ ih => b_X4_stay_l41 v0 v1 v2 ih) n
noncomputable def b_X4_stay_l31 (v0 : Nat) (v1 : Int32) (ih : Int32 → HP → Rs Unit) (a2 : Int32) (h : HP) : Rs Unit :=
  ldI 5 64 v0 h fun x1 =>
  if x1 < a2 then
  (rok () h)
  else
  (bd (f_X4_stay_l41 v0 v1 a2 NN (0 : Int32) h) (fun x2 h3 => lt3 (a2 + 1) fun x4 =>
  ih x4 h3))
noncomputable def f_X4_stay_l31 (v0 : Nat) (v1 : Int32) (n : Nat) : Int32 → HP → Rs Unit := @Nat.rec (fun _ => Int32 → HP → Rs Unit) (fun _ _ => none) (fun _ ih => b_X4_stay_l31 v0 v1 ih) n
noncomputable def f_X4_stay_l81b109 (v0 : Nat) (v1 : Int32) (ih : Int32 → HP → Rs Unit) (a2 : Int32) (h : HP) : Rs Unit :=
  lt3 (a2 + 1) fun x1 =>
  ih x1 h
noncomputable def b_X4_stay_l81 (v0 : Nat) (v1 : Int32) (ih : Int32 → HP → Rs Unit) (a2 : Int32) (h : HP) : Rs Unit :=
  if (8 : Int32) ≤ a2 then
  (rok () h)
  else
  (ldR 5 66 v0 h fun x1 =>
  aldR 10 x1 a2 h fun x2 =>
  ldI 9 137 x2 h fun x3 =>
  if x3 = 0 then
  (f_X4_stay_l81b109 v0 v1 ih a2 h)
  else
  (ldR 5 66 v0 h fun x4 =>
  aldR 10 x4 a2 h fun x5 =>
  if kc h v0 = 5 then
  bd (f_X4_holds v0 x5 h) (fun _ h6 =>
  f_X4_stay_l81b109 v0 v1 ih a2 h6)
  else none))
noncomputable def f_X4_stay_l81 (v0 : Nat) (v1 : Int32) (n : Nat) : Int32 → HP → Rs Unit := @Nat.rec (fun _ => Int32 → HP → Rs Unit) (fun _ _ => none) (fun _ ih => b_X4_stay_l81 v0 v1 ih) n
noncomputable def f_X4_stay_l154b186 (v0 : Nat) (v1 : Int32) (v2 : Int32) (v3 : Nat) (ih : Int32 → HP → Rs Unit) (a4 : Int32) (h : HP) : Rs Unit :=
  lt3 (a4 + 1) fun x1 =>
  ih x1 h
noncomputable def b_X4_stay_l154 (v0 : Nat) (v1 : Int32) (v2 : Int32) (v3 : Nat) (ih : Int32 → HP → Rs Unit) (a4 : Int32) (h : HP) : Rs Unit :=
  ldI 5 64 v0 h fun x1 =>
  if x1 < a4 then
  (rok () h)
  else
  (if kc h v0 = 5 then
  bd (f_X4_isAliveIn v0 v3 0 a4 h) (fun x2 h3 =>
  if x2 = 0 then
  (f_X4_stay_l154b186 v0 v1 v2 v3 ih a4 h3)
  else
  (bd (f_X4_valuesIn v3 0 a4 h3) (fun x4 h5 =>
  if kc h5 v0 = 5 then
  bd (f_X4_refers v0 v3 x4 h5) (fun _ h6 =>
  f_X4_stay_l154b186 v0 v1 v2 v3 ih a4 h6)
  else none)))
  else none)
noncomputable def f_X4_stay_l154 (v0 : Nat) (v1 : Int32) (v2 : Int32) (v3 : Nat) (n : Nat) : Int32 → HP → Rs Unit := @Nat.rec (fun _ => Int32 → HP → Rs Unit) (fun _ _ => none) (fun _ ih => b_X4_stay_l154 v0 v1 v2 v3 ih) n
noncomputable def f_X4_stay_l195b248 (v0 : Nat) (v1 : Int32) (v2 : Int32) (v3 : Nat) (ih : Int32 → HP → Rs Unit) (a4 : Int32) (h : HP) : Rs Unit :=
  lt3 (a4 + 1) fun x1 =>
  ih x1 h
noncomputable def b_X4_stay_l195 (v0 : Nat) (v1 : Int32) (v2 : Int32) (v3 : Nat) (ih : Int32 → HP → Rs Unit) (a4 : Int32) (h : HP) : Rs Unit :=
  if (8 : Int32) ≤ a4 then
  (rok () h)
  else
  (ldR 5 66 v0 h fun x1 =>
  aldR 10 x1 a4 h fun x2 =>
  ldI 9 137 x2 h fun x3 =>
  if x3 = 0 then
  (f_X4_stay_l195b248 v0 v1 v2 v3 ih a4 h)
  else
  (ldR 5 66 v0 h fun x4 =>
  aldR 10 x4 a4 h fun x5 =>
  if kc h v0 = 5 then
  bd (f_X4_isAliveIn v0 v3 x5 (0 : Int32) h) (fun x6 h7 =>
  if x6 = 0 then
  (f_X4_stay_l195b248 v0 v1 v2 v3 ih a4 h7)
  else
  (ldR 5 66 v0 h7 fun x8 =>
  aldR 10 x8 a4 h7 fun x9 =>
  bd (f_X4_valuesIn v3 x9 (0 : Int32) h7) (fun x10 h11 =>
  if kc h11 v0 = 5 then
  bd (f_X4_refers v0 v3 x10 h11) (fun _ h12 =>
  f_X4_stay_l195b248 v0 v1 v2 v3 ih a4 h12)
  else none)))
  else none))
noncomputable def f_X4_stay_l195 (v0 : Nat) (v1 : Int32) (v2 : Int32) (v3 : Nat) (n : Nat) : Int32 → HP → Rs Unit := @Nat.rec (fun _ => Int32 → HP → Rs Unit) (fun _ _ => none) (fun _ ih => b_X4_stay_l195 v0 v1 v2 v3 ih) n
noncomputable def f_X4_stay_l117b254 (v0 : Nat) (v1 : Int32) (ih : Int32 → HP → Rs Unit) (a2 : Int32) (h : HP) : Rs Unit :=
  lt3 (a2 + 1) fun x1 =>
  ih x1 h
noncomputable def b_X4_stay_l117 (v0 : Nat) (v1 : Int32) (ih : Int32 → HP → Rs Unit) (a2 : Int32) (h : HP) : Rs Unit :=
  ldR 5 128 v0 h fun x1 =>
  lsSize x1 h fun x2 =>
  if x2 ≤ a2 then
  (rok () h)
  else
  (ldR 5 128 v0 h fun x3 =>
  lsGet x3 a2 h fun x4 =>
  castR [58] x4 h (
  if kc h v0 = 5 then
  bd (f_X4_hasReferences v0 x4 h) (fun x5 h6 =>
  if x5 = 0 then
  (f_X4_stay_l117b254 v0 v1 ih a2 h6)
  else
  (bd (f_X4_stay_l154 v0 v1 a2 x4 NN v1 h6) (fun x7 h8 => bd (f_X4_stay_l195 v0 v1 a2 x4 NN (0 : Int32) h8) (fun x9 h10 => f_X4_stay_l117b254 v0 v1 ih a2 h10))))
  else none))
noncomputable def f_X4_stay_l117 (v0 : Nat) (v1 : Int32) (n : Nat) : Int32 → HP → Rs Unit := @Nat.rec (fun _ => Int32 → HP → Rs Unit) (fun _ _ => none) (fun _ ih => b_X4_stay_l117 v0 v1 ih) n
noncomputable def f_X4_stay (a0 : Nat) (a1 : Int32) (h : HP) : Rs Unit :=
  ldR 5 128 a0 h fun x1 =>
  lsClr x1 h fun h2 =>
  bd (f_X4_stay_l9 a0 a1 NN (0 : Int32) h2) (fun x3 h4 => bd (f_X4_stay_l31 a0 a1 NN a1 h4) (fun x5 h6 => bd (f_X4_stay_l81 a0 a1 NN (0 : Int32) h6) (fun x7 h8 => bd (f_X4_stay_l117 a0 a1 NN (0 : Int32) h8) (fun x9 h10 => rok () h10))))
noncomputable def f_X4_steps (a0 : Nat) (h : HP) : Rs Int32 :=
  ldI 5 88 a0 h fun x1 =>
  rok x1 h
noncomputable def f_X4_sweep_l51b91 (v0 : Nat) (v1 : Int32) (ih : Int32 → Int32 → HP → Rs Int32) (a3 : Int32) (s0 : Int32) (h : HP) : Rs Int32 :=
  lt3 (a3 + 1) fun x1 =>
  ih s0 x1 h
noncomputable def f_X4_sweep_l51b86 (v0 : Nat) (v1 : Int32) (ih : Int32 → Int32 → HP → Rs Int32) (a3 : Int32) (h : HP) : Rs Int32 :=
  f_X4_sweep_l51b91 v0 v1 ih a3 (1 : Int32) h
noncomputable def f_X4_sweep_l51b90 (v0 : Nat) (v1 : Int32) (ih : Int32 → Int32 → HP → Rs Int32) (a3 : Int32) (h : HP) : Rs Int32 :=
  f_X4_sweep_l51b91 v0 v1 ih a3 (0 : Int32) h
noncomputable def b_X4_sweep_l51 (v0 : Nat) (v1 : Int32) (ih : Int32 → Int32 → HP → Rs Int32) (a2 : Int32) (a3 : Int32) (h : HP) : Rs Int32 :=
  if (8 : Int32) ≤ a3 then
  (rok a2 h)
  else
  (if a2 = 0 then
  (ldR 5 66 v0 h fun x1 =>
  aldR 10 x1 a3 h fun x2 =>
  ldI 9 137 x2 h fun x3 =>
  if x3 = 0 then
  (f_X4_sweep_l51b90 v0 v1 ih a3 h)
  else
  (ldR 5 66 v0 h fun x4 =>
  aldR 10 x4 a3 h fun x5 =>
  ldI 9 139 x5 h fun x6 =>
  if v1 ≤ x6 then
  (f_X4_sweep_l51b90 v0 v1 ih a3 h)
  else
  (f_X4_sweep_l51b86 v0 v1 ih a3 h)))
  else
  (f_X4_sweep_l51b86 v0 v1 ih a3 h))
noncomputable def f_X4_sweep_l51 (v0 : Nat) (v1 : Int32) (n : Nat) : Int32 → Int32 → HP → Rs Int32 := @Nat.rec (fun _ => Int32 → Int32 → HP → Rs Int32) (fun _ _ _ => none) (fun _ ih => b_X4_sweep_l51 v0 v1 ih) n
noncomputable def f_X4_sweep_l118b182 (v0 : Nat) (v1 : Int32) (ih : Int32 → HP → Rs Unit) (a3 : Int32) (h : HP) : Rs Unit :=
  lt3 (a3 + 1) fun x1 =>
  ih x1 h
noncomputable def b_X4_sweep_l118 (v0 : Nat) (v1 : Int32) (ih : Int32 → HP → Rs Unit) (a3 : Int32) (h : HP) : Rs Unit :=
  ldI 5 60 v0 h fun x1 =>
  if x1 ≤ a3 then
  (rok () h)
  else
  (ldR 5 59 v0 h fun x2 =>
  aldR 13 x2 a3 h fun x3 =>
  if x3 = 0 then
  (f_X4_sweep_l118b182 v0 v1 ih a3 h)
  else
  (ldI 58 436 x3 h fun x4 =>
  if x4 = 0 then
  (ldI 58 432 x3 h fun x5 =>
  if 0 ≤ x5 then
  (f_X4_sweep_l118b182 v0 v1 ih a3 h)
  else
  (ldI 58 433 x3 h fun x6 =>
  if x6 = 0 then
  (ldR 5 127 v0 h fun x7 =>
  aldI 2 x7 a3 h fun x8 =>
  if x8 = 0 then
  (ldR 5 129 v0 h fun x9 =>
  lsAdd x9 x3 h fun h10 =>
  f_X4_sweep_l118b182 v0 v1 ih a3 h10)
  else
  (f_X4_sweep_l118b182 v0 v1 ih a3 h))
  else
  (f_X4_sweep_l118b182 v0 v1 ih a3 h)))
  else
  (f_X4_sweep_l118b182 v0 v1 ih a3 h)))
noncomputable def f_X4_sweep_l118 (v0 : Nat) (v1 : Int32) (n : Nat) : Int32 → HP → Rs Unit := @Nat.rec (fun _ => Int32 → HP → Rs Unit) (fun _ _ => none) (fun _ ih => b_X4_sweep_l118 v0 v1 ih) n
noncomputable def b_X4_sweep_l232 (v0 : Nat) (v1 : Int32) (v3 : Nat) (ih : Int32 → HP → Rs Unit) (a4 : Int32) (h : HP) : Rs Unit :=
  ldR 5 129 v0 h fun x1 =>
  lsSize x1 h fun x2 =>
  if x2 ≤ a4 then
  (rok () h)
  else
  (ldR 5 129 v0 h fun x3 =>
  lsGet x3 a4 h fun x4 =>
  castR [58] x4 h (
  ldI 58 429 x4 h fun x5 =>
  if kc h v3 = 7 then
  bd (f_X6_number v3 (Int32.toInt64 x5) (4 : Int32) h) (fun _ h6 =>
  lt3 (a4 + 1) fun x7 =>
  ih x7 h6)
  else none))
noncomputable def f_X4_sweep_l232 (v0 : Nat) (v1 : Int32) (v3 : Nat) (n : Nat) : Int32 → HP → Rs Unit := @Nat.rec (fun _ => Int32 → HP → Rs Unit) (fun _ _ => none) (fun _ ih => b_X4_sweep_l232 v0 v1 v3 ih) n
noncomputable def b_X4_sweep_l285 (v0 : Nat) (v1 : Int32) (ih : Int32 → HP → Rs Unit) (a4 : Int32) (h : HP) : Rs Unit :=
  ldR 5 129 v0 h fun x1 =>
  lsSize x1 h fun x2 =>
  if x2 ≤ a4 then
  (rok () h)
  else
  (ldR 5 129 v0 h fun x3 =>
  lsGet x3 a4 h fun x4 =>
  castR [58] x4 h (
  stI 58 436 x4 (1 : Int32) h fun h5 =>
  lt3 (a4 + 1) fun x6 =>
  ih x6 h5))
noncomputable def f_X4_sweep_l285 (v0 : Nat) (v1 : Int32) (n : Nat) : Int32 → HP → Rs Unit := @Nat.rec (fun _ => Int32 → HP → Rs Unit) (fun _ _ => none) (fun _ ih => b_X4_sweep_l285 v0 v1 ih) n
noncomputable def f_X4_sweep_b48 (a0 : Nat) (a1 : Int32) (s0 : Int32) (h : HP) : Rs Int32 :=
  bd (f_X4_sweep_l51 a0 a1 NN s0 (0 : Int32) h) (fun x1 h2 => if x1 = 0 then
  (if kc h2 a0 = 5 then
  bd (f_X4_stay a0 a1 h2) (fun _ h3 =>
  ldR 5 129 a0 h3 fun x4 =>
  lsClr x4 h3 fun h5 =>
  bd (f_X4_sweep_l118 a0 a1 NN (1 : Int32) h5) (fun x6 h7 => ldR 5 126 a0 h7 fun x8 =>
  stI 7 134 x8 (0 : Int32) h7 fun h9 =>
  if kc h9 x8 = 7 then
  bd (f_X6_number x8 (0 : Int64) (4 : Int32) h9) (fun _ h10 =>
  if kc h10 x8 = 7 then
  bd (f_X6_add x8 (2 : Int32) h10) (fun _ h11 =>
  if kc h11 x8 = 7 then
  bd (f_X6_number x8 (Int32.toInt64 a1) (4 : Int32) h11) (fun _ h12 =>
  ldR 5 129 a0 h12 fun x13 =>
  lsSize x13 h12 fun x14 =>
  if kc h12 x8 = 7 then
  bd (f_X6_number x8 (Int32.toInt64 x14) (4 : Int32) h12) (fun _ h15 =>
  bd (f_X4_sweep_l232 a0 a1 x8 NN (0 : Int32) h15) (fun x16 h17 => if kc h17 a0 = 5 then
  bd (f_X4_appended a0 x8 h17) (fun x18 h19 =>
  if x18 = 0 then
  (rok (-12 : Int32) h19)
  else
  (bd (f_X4_sweep_l285 a0 a1 NN (0 : Int32) h19) (fun x20 h21 => stI 5 65 a0 a1 h21 fun h22 =>
  ldR 5 129 a0 h22 fun x23 =>
  lsSize x23 h22 fun x24 =>
  rok x24 h22)))
  else none))
  else none)
  else none)
  else none)
  else none))
  else none)
  else
  (rok (-1 : Int32) h2))
noncomputable def f_X4_sweep_b47 (a0 : Nat) (a1 : Int32) (h : HP) : Rs Int32 :=
  f_X4_sweep_b48  a0 a1 (0 : Int32) h
noncomputable def f_X4_sweep (a0 : Nat) (a1 : Int32) (h : HP) : Rs Int32 :=
  if kc h a0 = 5 then
  bd (f_X4_isOpen a0 h) (fun x1 h2 =>
  if x1 = 0 then
  (rok (-13 : Int32) h2)
  else
  (if kc h2 a0 = 5 then
  bd (f_X4_isVersion a0 a1 h2) (fun x3 h4 =>
  if x3 = 0 then
  (rok (-14 : Int32) h4)
  else
  (ldI 5 69 a0 h4 fun x5 =>
  if x5 < 0 then
  (f_X4_sweep_b47  a0 a1 h4)
  else
  (ldR 5 68 a0 h4 fun x6 =>
  if x6 = 0 then
  (ldI 5 69 a0 h4 fun x7 =>
  if a1 ≤ x7 then
  (f_X4_sweep_b47  a0 a1 h4)
  else
  (f_X4_sweep_b48  a0 a1 (1 : Int32) h4))
  else
  (f_X4_sweep_b47  a0 a1 h4))))
  else none))
  else none
noncomputable def f_X4_text_l28b67 (v0 : Nat) (ih : Int32 → Int32 → HP → Rs Int32) (a2 : Int32) (s0 : Int32) (h : HP) : Rs Int32 :=
  lt3 (a2 + 1) fun x1 =>
  ih s0 x1 h
noncomputable def f_X4_text_l28b66 (v0 : Nat) (ih : Int32 → Int32 → HP → Rs Int32) (a2 : Int32) (h : HP) : Rs Int32 :=
  f_X4_text_l28b67 v0 ih a2 (0 : Int32) h
noncomputable def b_X4_text_l28 (v0 : Nat) (ih : Int32 → Int32 → HP → Rs Int32) (a1 : Int32) (a2 : Int32) (h : HP) : Rs Int32 :=
  ldI 5 50 v0 h fun x1 =>
  if x1 ≤ a2 then
  (rok a1 h)
  else
  (if a1 = 0 then
  (rok a1 h)
  else
  (ldR 5 49 v0 h fun x2 =>
  aldI 1 x2 a2 h fun x3 =>
  if x3 < (32 : Int32) then
  (f_X4_text_l28b66 v0 ih a2 h)
  else
  (ldR 5 49 v0 h fun x4 =>
  aldI 1 x4 a2 h fun x5 =>
  if (126 : Int32) < x5 then
  (f_X4_text_l28b66 v0 ih a2 h)
  else
  (f_X4_text_l28b67 v0 ih a2 (1 : Int32) h))))
noncomputable def f_X4_text_l28 (v0 : Nat) (n : Nat) : Int32 → Int32 → HP → Rs Int32 := @Nat.rec (fun _ => Int32 → Int32 → HP → Rs Int32) (fun _ _ _ => none) (fun _ ih => b_X4_text_l28 v0 ih) n
noncomputable def f_X4_text_b74 (a0 : Nat) (a1 : Int32) (h : HP) : Rs Int32 :=
  if a1 = 0 then
  (stI 5 50 a0 (0 : Int32) h fun h12 =>
  rok (-1 : Int32) h12)
  else
  (if kc h a0 = 5 then
  bd (f_X4_usedWord a0 h) (fun x1 h2 =>
  if kc h2 a0 = 5 then
  bd (f_X4_textThere a0 x1 h2) (fun x3 h4 =>
  if x3 = 0 then
  (ldI 5 60 a0 h4 fun x8 =>
  if x8 ≤ (4000 : Int32) then
  (if kc h4 a0 = 5 then
  bd (f_X4_textThing a0 x1 h4) (fun x9 h10 =>
  ldI 58 429 x9 h10 fun x11 =>
  rok x11 h10)
  else none)
  else
  (rok (-12 : Int32) h4))
  else
  (if kc h4 a0 = 5 then
  bd (f_X4_textThing a0 x1 h4) (fun x5 h6 =>
  ldI 58 429 x5 h6 fun x7 =>
  rok x7 h6)
  else none))
  else none)
  else none)
noncomputable def f_X4_text_b25 (a0 : Nat) (s0 : Int32) (h : HP) : Rs Int32 :=
  bd (f_X4_text_l28 a0 NN s0 (0 : Int32) h) (fun x1 h2 => f_X4_text_b74  a0 x1 h2)
noncomputable def f_X4_text (a0 : Nat) (h : HP) : Rs Int32 :=
  if kc h a0 = 5 then
  bd (f_X4_isOpen a0 h) (fun x1 h2 =>
  if x1 = 0 then
  (rok (-13 : Int32) h2)
  else
  (ldI 5 50 a0 h2 fun x3 =>
  if (1000 : Int32) < x3 then
  (f_X4_text_b25  a0 (0 : Int32) h2)
  else
  (f_X4_text_b25  a0 (1 : Int32) h2)))
  else none
noncomputable def b_X6_small_l2 (v0 : Nat) (ih : Int32 → HP → Rs Int32) (a2 : Int32) (h : HP) : Rs Int32 :=
  if a2 ≤ (127 : Int32) then
  (rok a2 h)
  else
  (if kc h v0 = 7 then
  bd (f_X6_add v0 ((a2 &&& (127 : Int32)) ||| (128 : Int32)) h) (fun _ h1 =>
  lt3 (a2 >>> ((7 : Int32) &&& 31)) fun x2 =>
  ih x2 h1)
  else none)
noncomputable def f_X6_small_l2 (v0 : Nat) (n : Nat) : Int32 → HP → Rs Int32 := @Nat.rec (fun _ => Int32 → HP → Rs Int32) (fun _ _ => none) (fun _ ih => b_X6_small_l2 v0 ih) n
noncomputable def f_X6_small (a0 : Nat) (a1 : Int32) (h : HP) : Rs Unit :=
  bd (f_X6_small_l2 a0 NN a1 h) (fun x1 h2 => if kc h2 a0 = 7 then
  bd (f_X6_add a0 x1 h2) (fun _ h3 =>
  rok () h3)
  else none)
noncomputable def f_X4_thingOut_l66b132 (v0 : Nat) (v1 : Nat) (v2 : Nat) (v3 : Nat) (ih : Int32 → HP → Rs Unit) (a4 : Int32) (h : HP) : Rs Unit :=
  lt3 (a4 + 1) fun x1 =>
  ih x1 h
noncomputable def f_X4_thingOut_l66b113 (v0 : Nat) (v1 : Nat) (v2 : Nat) (v3 : Nat) (ih : Int32 → HP → Rs Unit) (a4 : Int32) (s0 : Nat) (s1 : Int32) (h : HP) : Rs Unit :=
  if kc h s0 = 7 then
  bd (f_X6_small s0 s1 h) (fun _ h1 =>
  f_X4_thingOut_l66b132 v0 v1 v2 v3 ih a4 h1)
  else none
noncomputable def b_X4_thingOut_l66 (v0 : Nat) (v1 : Nat) (v2 : Nat) (v3 : Nat) (ih : Int32 → HP → Rs Unit) (a4 : Int32) (h : HP) : Rs Unit :=
  alen v3 h fun x1 =>
  if x1 ≤ a4 then
  (rok () h)
  else
  (if kc h v0 = 5 then
  bd (f_X4_kindOfPlace v0 v2 a4 h) (fun x2 h3 =>
  if x2 < (8 : Int32) then
  (aldJ 3 v3 a4 h3 fun x4 =>
  bd (f_X4_bytesOf x2 h3) (fun x5 h6 =>
  if kc h6 v1 = 7 then
  bd (f_X6_number v1 x4 x5 h6) (fun _ h7 =>
  f_X4_thingOut_l66b132 v0 v1 v2 v3 ih a4 h7)
  else none))
  else
  (aldJ 3 v3 a4 h3 fun x8 =>
  if (lg_cmp x8 (0 : Int64)) = 0 then
  (f_X4_thingOut_l66b113 v0 v1 v2 v3 ih a4 v1 (0 : Int32) h3)
  else
  (ldR 5 105 v0 h3 fun x9 =>
  aldJ 3 v3 a4 h3 fun x10 =>
  aldI 0 x9 (Int64.toInt32 x10) h3 fun x11 =>
  f_X4_thingOut_l66b113 v0 v1 v2 v3 ih a4 v1 x11 h3)))
  else none)
noncomputable def f_X4_thingOut_l66 (v0 : Nat) (v1 : Nat) (v2 : Nat) (v3 : Nat) (n : Nat) : Int32 → HP → Rs Unit := @Nat.rec (fun _ => Int32 → HP → Rs Unit) (fun _ _ => none) (fun _ ih => b_X4_thingOut_l66 v0 v1 v2 v3 ih) n
noncomputable def f_X4_thingOut_b63 (a0 : Nat) (a1 : Nat) (a2 : Nat) (a3 : Nat) (h : HP) : Rs Unit :=
  bd (f_X4_thingOut_l66 a0 a1 a2 a3 NN (0 : Int32) h) (fun x1 h2 => rok () h2)
noncomputable def f_X4_thingOut (a0 : Nat) (a1 : Nat) (a2 : Nat) (h : HP) : Rs Unit :=
  ldI 58 432 a2 h fun x1 =>
  if x1 < 0 then
  (ldR 58 431 a2 h fun x2 =>
  if x2 = 0 then
  (if kc h a0 = 5 then
  bd (f_X4_seen a0 a2 h) (fun x3 h4 =>
  if kc h4 a0 = 5 then
  bd (f_X4_isArray a0 a2 h4) (fun x5 h6 =>
  if x5 = 0 then
  (f_X4_thingOut_b63  a0 a1 a2 x3 h6)
  else
  (alen x3 h6 fun x7 =>
  if kc h6 a1 = 7 then
  bd (f_X6_small a1 x7 h6) (fun _ h8 =>
  f_X4_thingOut_b63  a0 a1 a2 x3 h8)
  else none))
  else none)
  else none)
  else
  (ldR 58 431 a2 h fun x9 =>
  txLen x9 h fun x10 =>
  if kc h a1 = 7 then
  bd (f_X6_small a1 x10 h) (fun _ h11 =>
  ldR 58 431 a2 h11 fun x12 =>
  if kc h11 a1 = 7 then
  bd (f_X6_word a1 x12 h11) (fun _ h13 =>
  rok () h13)
  else none)
  else none))
  else
  (ldI 58 432 a2 h fun x14 =>
  if kc h a1 = 7 then
  bd (f_X6_small a1 x14 h) (fun _ h15 =>
  rok () h15)
  else none)
noncomputable def f_X4_use_b16 (a0 : Nat) (s0 : Nat) (h : HP) : Rs Int32 :=
  if s0 = 0 then
  (rok (0 : Int32) h)
  else
  (stR 5 68 a0 s0 h fun h1 =>
  stI 5 69 a0 (-1 : Int32) h1 fun h2 =>
  rok (1 : Int32) h2)
noncomputable def f_X4_use (a0 : Nat) (a1 : Int32) (h : HP) : Rs Int32 :=
  if kc h a0 = 5 then
  bd (f_X4_isOpen a0 h) (fun x1 h2 =>
  if x1 = 0 then
  (f_X4_use_b16  a0 0 h2)
  else
  (if kc h2 a0 = 5 then
  bd (f_X4_actOf a0 a1 h2) (fun x3 h4 =>
  f_X4_use_b16  a0 x3 h4)
  else none))
  else none
noncomputable def f_X4_view (a0 : Nat) (a1 : Int32) (h : HP) : Rs Int32 :=
  if kc h a0 = 5 then
  bd (f_X4_isVersion a0 a1 h) (fun x1 h2 =>
  if x1 = 0 then
  (rok (0 : Int32) h2)
  else
  (stR 5 68 a0 0 h2 fun h3 =>
  stI 5 69 a0 a1 h3 fun h4 =>
  rok (1 : Int32) h4))
  else none
noncomputable def f_X4_walkFrom_l55b88 (v0 : Nat) (v2 : Int32) (v3 : Nat) (v4 : Nat) (ih : Int32 → HP → Rs Unit) (a5 : Int32) (h : HP) : Rs Unit :=
  lt3 (a5 + 1) fun x1 =>
  ih x1 h
noncomputable def b_X4_walkFrom_l55 (v0 : Nat) (v2 : Int32) (v3 : Nat) (v4 : Nat) (ih : Int32 → HP → Rs Unit) (a5 : Int32) (h : HP) : Rs Unit :=
  alen v4 h fun x1 =>
  if x1 ≤ a5 then
  (rok () h)
  else
  (if kc h v0 = 5 then
  bd (f_X4_kindOfPlace v0 v3 a5 h) (fun x2 h3 =>
  if x2 < (8 : Int32) then
  (f_X4_walkFrom_l55b88 v0 v2 v3 v4 ih a5 h3)
  else
  (aldJ 3 v4 a5 h3 fun x4 =>
  if kc h3 v0 = 5 then
  bd (f_X4_thingAt v0 x4 h3) (fun x5 h6 =>
  if kc h6 v0 = 5 then
  bd (f_X4_meet v0 x5 h6) (fun _ h7 =>
  f_X4_walkFrom_l55b88 v0 v2 v3 v4 ih a5 h7)
  else none)
  else none))
  else none)
noncomputable def f_X4_walkFrom_l55 (v0 : Nat) (v2 : Int32) (v3 : Nat) (v4 : Nat) (n : Nat) : Int32 → HP → Rs Unit := @Nat.rec (fun _ => Int32 → HP → Rs Unit) (fun _ _ => none) (fun _ ih => b_X4_walkFrom_l55 v0 v2 v3 v4 ih) n
noncomputable def f_X4_walkFrom_l11b94 (v0 : Nat) (ih : Int32 → HP → Rs Unit) (a2 : Int32) (h : HP) : Rs Unit :=
  lt3 (a2 + 1) fun x1 =>
  ih x1 h
noncomputable def b_X4_walkFrom_l11 (v0 : Nat) (ih : Int32 → HP → Rs Unit) (a2 : Int32) (h : HP) : Rs Unit :=
  ldR 5 104 v0 h fun x1 =>
  lsSize x1 h fun x2 =>
  if x2 ≤ a2 then
  (rok () h)
  else
  (ldR 5 104 v0 h fun x3 =>
  lsGet x3 a2 h fun x4 =>
  castR [58] x4 h (
  if kc h v0 = 5 then
  bd (f_X4_hasReferences v0 x4 h) (fun x5 h6 =>
  if x5 = 0 then
  (f_X4_walkFrom_l11b94 v0 ih a2 h6)
  else
  (if kc h6 v0 = 5 then
  bd (f_X4_seen v0 x4 h6) (fun x7 h8 =>
  bd (f_X4_walkFrom_l55 v0 a2 x4 x7 NN (0 : Int32) h8) (fun x9 h10 => f_X4_walkFrom_l11b94 v0 ih a2 h10))
  else none))
  else none))
noncomputable def f_X4_walkFrom_l11 (v0 : Nat) (n : Nat) : Int32 → HP → Rs Unit := @Nat.rec (fun _ => Int32 → HP → Rs Unit) (fun _ _ => none) (fun _ ih => b_X4_walkFrom_l11 v0 ih) n
noncomputable def f_X4_walkFrom (a0 : Nat) (a1 : Nat) (h : HP) : Rs Unit :=
  if kc h a0 = 5 then
  bd (f_X4_clearWalk a0 h) (fun _ h1 =>
  if kc h1 a0 = 5 then
  bd (f_X4_meet a0 a1 h1) (fun _ h2 =>
  bd (f_X4_walkFrom_l11 a0 NN (0 : Int32) h2) (fun x3 h4 => rok () h4))
  else none)
  else none
noncomputable def b_X4_write_l25 (v0 : Nat) (ih : Int32 → HP → Rs Unit) (a3 : Int32) (h : HP) : Rs Unit :=
  ldR 5 104 v0 h fun x1 =>
  lsSize x1 h fun x2 =>
  if x2 ≤ a3 then
  (rok () h)
  else
  (ldR 5 104 v0 h fun x3 =>
  lsGet x3 a3 h fun x4 =>
  castR [58] x4 h (
  if kc h v0 = 5 then
  bd (f_X4_touch v0 x4 h) (fun _ h5 =>
  lt3 (a3 + 1) fun x6 =>
  ih x6 h5)
  else none))
noncomputable def f_X4_write_l25 (v0 : Nat) (n : Nat) : Int32 → HP → Rs Unit := @Nat.rec (fun _ => Int32 → HP → Rs Unit) (fun _ _ => none) (fun _ ih => b_X4_write_l25 v0 ih) n
noncomputable def b_X4_write_l65 (v0 : Nat) (v3 : Nat) (ih : Int32 → HP → Rs Unit) (a4 : Int32) (h : HP) : Rs Unit :=
  if (400 : Int32) ≤ a4 then
  (rok () h)
  else
  (astI 0 v3 a4 (0 : Int32) h fun h1 =>
  lt3 (a4 + 1) fun x2 =>
  ih x2 h1)
noncomputable def f_X4_write_l65 (v0 : Nat) (v3 : Nat) (n : Nat) : Int32 → HP → Rs Unit := @Nat.rec (fun _ => Int32 → HP → Rs Unit) (fun _ _ => none) (fun _ ih => b_X4_write_l65 v0 v3 ih) n
noncomputable def f_X4_write_l90b144 (v0 : Nat) (v3 : Nat) (ih : Int32 → Int32 → HP → Rs Int32) (a4 : Int32) (a5 : Int32) (h : HP) : Rs Int32 :=
  lt3 (a5 + 1) fun x1 =>
  ih a4 x1 h
noncomputable def b_X4_write_l90 (v0 : Nat) (v3 : Nat) (ih : Int32 → Int32 → HP → Rs Int32) (a4 : Int32) (a5 : Int32) (h : HP) : Rs Int32 :=
  ldR 5 104 v0 h fun x1 =>
  lsSize x1 h fun x2 =>
  if x2 ≤ a5 then
  (rok a4 h)
  else
  (ldR 5 104 v0 h fun x3 =>
  lsGet x3 a5 h fun x4 =>
  castR [58] x4 h (
  ldI 58 430 x4 h fun x5 =>
  aldI 0 v3 x5 h fun x6 =>
  if x6 = 0 then
  (ldR 5 108 v0 h fun x7 =>
  astI 0 x7 a4 x5 h fun h8 =>
  lt3 (a4 + 1) fun x9 =>
  astI 0 v3 x5 x9 h8 fun h10 =>
  f_X4_write_l90b144 v0 v3 ih x9 a5 h10)
  else
  (f_X4_write_l90b144 v0 v3 ih a4 a5 h)))
noncomputable def f_X4_write_l90 (v0 : Nat) (v3 : Nat) (n : Nat) : Int32 → Int32 → HP → Rs Int32 := @Nat.rec (fun _ => Int32 → Int32 → HP → Rs Int32) (fun _ _ _ => none) (fun _ ih => b_X4_write_l90 v0 v3 ih) n
noncomputable def b_X4_write_l196 (v0 : Nat) (v3 : Nat) (v4 : Int32) (v5 : Nat) (ih : Int32 → HP → Rs Unit) (a6 : Int32) (h : HP) : Rs Unit :=
  if v4 ≤ a6 then
  (rok () h)
  else
  (ldR 5 108 v0 h fun x1 =>
  aldI 0 x1 a6 h fun x2 =>
  if kc h v0 = 5 then
  bd (f_X4_descriptor v0 x2 h) (fun x3 h4 =>
  txLen x3 h4 fun x5 =>
  if kc h4 v5 = 7 then
  bd (f_X6_add v5 x5 h4) (fun _ h6 =>
  if kc h6 v5 = 7 then
  bd (f_X6_word v5 x3 h6) (fun _ h7 =>
  lt3 (a6 + 1) fun x8 =>
  ih x8 h7)
  else none)
  else none)
  else none)
noncomputable def f_X4_write_l196 (v0 : Nat) (v3 : Nat) (v4 : Int32) (v5 : Nat) (n : Nat) : Int32 → HP → Rs Unit := @Nat.rec (fun _ => Int32 → HP → Rs Unit) (fun _ _ => none) (fun _ ih => b_X4_write_l196 v0 v3 v4 v5 ih) n
noncomputable def b_X4_write_l254 (v0 : Nat) (v3 : Nat) (v5 : Nat) (ih : Int32 → HP → Rs Unit) (a6 : Int32) (h : HP) : Rs Unit :=
  ldR 5 104 v0 h fun x1 =>
  lsSize x1 h fun x2 =>
  if x2 ≤ a6 then
  (rok () h)
  else
  (ldI 7 134 v5 h fun x3 =>
  if (20000 : Int32) < x3 then
  (rok () h)
  else
  (ldR 5 104 v0 h fun x4 =>
  lsGet x4 a6 h fun x5 =>
  castR [58] x5 h (
  ldI 58 430 x5 h fun x6 =>
  aldI 0 v3 x6 h fun x7 =>
  if kc h v5 = 7 then
  bd (f_X6_small v5 (x7 - (1 : Int32)) h) (fun _ h8 =>
  ldR 5 104 v0 h8 fun x9 =>
  lsGet x9 a6 h8 fun x10 =>
  castR [58] x10 h8 (
  if kc h8 v0 = 5 then
  bd (f_X4_thingOut v0 v5 x10 h8) (fun _ h11 =>
  lt3 (a6 + 1) fun x12 =>
  ih x12 h11)
  else none))
  else none)))
noncomputable def f_X4_write_l254 (v0 : Nat) (v3 : Nat) (v5 : Nat) (n : Nat) : Int32 → HP → Rs Unit := @Nat.rec (fun _ => Int32 → HP → Rs Unit) (fun _ _ => none) (fun _ ih => b_X4_write_l254 v0 v3 v5 ih) n
noncomputable def f_X4_write_b325 (a0 : Nat) (a5 : Nat) (h : HP) : Rs Int32 :=
  ldI 7 134 a5 h fun x1 =>
  if (x1 + (4 : Int32)) ≤ (20000 : Int32) then
  (ldR 7 133 a5 h fun x2 =>
  ldI 7 134 a5 h fun x3 =>
  bd (f_X4_crc x2 x3 h) (fun x4 h5 =>
  if kc h5 a5 = 7 then
  bd (f_X6_number a5 (Int32.toInt64 x4) (4 : Int32) h5) (fun _ h6 =>
  ldR 5 106 a0 h6 fun x7 =>
  stR 5 107 a0 x7 h6 fun h8 =>
  stR 5 106 a0 a5 h8 fun h9 =>
  ldI 7 134 a5 h9 fun x10 =>
  rok x10 h9)
  else none))
  else
  (rok (-12 : Int32) h)
noncomputable def f_X4_write (a0 : Nat) (a1 : Int32) (h : HP) : Rs Int32 :=
  if kc h a0 = 5 then
  bd (f_X4_codeOf a0 a1 h) (fun x1 h2 =>
  if x1 ≤ 0 then
  (if kc h2 a0 = 5 then
  bd (f_X4_thingAt a0 (Int32.toInt64 a1) h2) (fun x3 h4 =>
  if kc h4 a0 = 5 then
  bd (f_X4_walkFrom a0 x3 h4) (fun _ h5 =>
  bd (f_X4_write_l25 a0 NN (0 : Int32) h5) (fun x6 h7 => ldR 5 109 a0 h7 fun x8 =>
  bd (f_X4_write_l65 a0 x8 NN (0 : Int32) h7) (fun x9 h10 => bd (f_X4_write_l90 a0 x8 NN (0 : Int32) (0 : Int32) h10) (fun x11 h12 => if x11 ≤ (100 : Int32) then
  (ldR 5 107 a0 h12 fun x13 =>
  stI 7 134 x13 (0 : Int32) h12 fun h14 =>
  if kc h14 x13 = 7 then
  bd (f_X6_add x13 (79 : Int32) h14) (fun _ h15 =>
  if kc h15 x13 = 7 then
  bd (f_X6_add x13 (71 : Int32) h15) (fun _ h16 =>
  if kc h16 x13 = 7 then
  bd (f_X6_small x13 x11 h16) (fun _ h17 =>
  bd (f_X4_write_l196 a0 x8 x11 x13 NN (0 : Int32) h17) (fun x18 h19 => ldR 5 104 a0 h19 fun x20 =>
  lsSize x20 h19 fun x21 =>
  if kc h19 x13 = 7 then
  bd (f_X6_small x13 x21 h19) (fun _ h22 =>
  bd (f_X4_write_l254 a0 x8 x13 NN (0 : Int32) h22) (fun x23 h24 => f_X4_write_b325  a0 x13 h24))
  else none))
  else none)
  else none)
  else none)
  else
  (rok (-12 : Int32) h12)))))
  else none)
  else none)
  else
  (rok (-x1) h2))
  else none
