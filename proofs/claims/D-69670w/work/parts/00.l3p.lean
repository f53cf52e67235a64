/-! LAYER 3: what is pure: the heap of numbers, and what the printed functions are made of -/
set_option maxRecDepth 100000
def hashL : List Nat → Int32 → Int32
  | [], a => a
  | c :: l, a => hashL l (31 * a + nI c)
def codes (s : String) : List Nat := s.toList.map Char.toNat
def rotl (x : Int64) (n : Int32) : Int64 := (x <<< (Int32.toInt64 n &&& 63)) ||| (UInt64.toInt64 (Int64.toUInt64 x >>> (Int64.toUInt64 (Int32.toInt64 (-n)) &&& Int64.toUInt64 63)))
def ncap (k : Nat) : Nat := if k = 0 then 10 else k + max 1 (k / 2)
def acap (n k : Nat) : Nat := if k < n then n else ncap k
def acc (n k : Nat) : Nat := if k < n then 0 else 1
def acs (n k : Nat) : Nat := if k < n then 0 else ncap k
abbrev HP : Type := (Nat → Nat) × (Nat → Nat → Int32) × (Nat → Nat → Int64) × (Nat → Nat → Nat) × (Nat → Nat → Int32) × (Nat → Nat → Int64) × (Nat → Nat → Nat) × (Nat → Nat) × (Nat → List Nat) × (Nat → List Nat) × (Nat → Nat) × Nat × Nat × Nat
def kc (h : HP) := h.1
def fi (h : HP) := h.2.1
def fj (h : HP) := h.2.2.1
def fr (h : HP) := h.2.2.2.1
def xi (h : HP) := h.2.2.2.2.1
def xj (h : HP) := h.2.2.2.2.2.1
def xr (h : HP) := h.2.2.2.2.2.2.1
def xl (h : HP) := h.2.2.2.2.2.2.2.1
def ls (h : HP) := h.2.2.2.2.2.2.2.2.1
def tx (h : HP) := h.2.2.2.2.2.2.2.2.2.1
def cp (h : HP) := h.2.2.2.2.2.2.2.2.2.2.1
def nx (h : HP) := h.2.2.2.2.2.2.2.2.2.2.2.1
def cc (h : HP) := h.2.2.2.2.2.2.2.2.2.2.2.2.1
def cs (h : HP) := h.2.2.2.2.2.2.2.2.2.2.2.2.2
abbrev RAW : Nat := 1099511627776
def sI (h : HP) (f p : Nat) (v : Int32) : HP := (h.1, (fun g q => if g = f ∧ q = p then v else h.2.1 g q), h.2.2.1, h.2.2.2.1, h.2.2.2.2.1, h.2.2.2.2.2.1, h.2.2.2.2.2.2.1, h.2.2.2.2.2.2.2.1, h.2.2.2.2.2.2.2.2.1, h.2.2.2.2.2.2.2.2.2.1, h.2.2.2.2.2.2.2.2.2.2.1, h.2.2.2.2.2.2.2.2.2.2.2.1, h.2.2.2.2.2.2.2.2.2.2.2.2.1, h.2.2.2.2.2.2.2.2.2.2.2.2.2)
def sJ (h : HP) (f p : Nat) (v : Int64) : HP := (h.1, h.2.1, (fun g q => if g = f ∧ q = p then v else h.2.2.1 g q), h.2.2.2.1, h.2.2.2.2.1, h.2.2.2.2.2.1, h.2.2.2.2.2.2.1, h.2.2.2.2.2.2.2.1, h.2.2.2.2.2.2.2.2.1, h.2.2.2.2.2.2.2.2.2.1, h.2.2.2.2.2.2.2.2.2.2.1, h.2.2.2.2.2.2.2.2.2.2.2.1, h.2.2.2.2.2.2.2.2.2.2.2.2.1, h.2.2.2.2.2.2.2.2.2.2.2.2.2)
def sR (h : HP) (f p : Nat) (v : Nat) : HP := (h.1, h.2.1, h.2.2.1, (fun g q => if g = f ∧ q = p then v else h.2.2.2.1 g q), h.2.2.2.2.1, h.2.2.2.2.2.1, h.2.2.2.2.2.2.1, h.2.2.2.2.2.2.2.1, h.2.2.2.2.2.2.2.2.1, h.2.2.2.2.2.2.2.2.2.1, h.2.2.2.2.2.2.2.2.2.2.1, h.2.2.2.2.2.2.2.2.2.2.2.1, h.2.2.2.2.2.2.2.2.2.2.2.2.1, h.2.2.2.2.2.2.2.2.2.2.2.2.2)
def sXi (h : HP) (p j : Nat) (v : Int32) : HP := (h.1, h.2.1, h.2.2.1, h.2.2.2.1, (fun q i => if q = p ∧ i = j then v else h.2.2.2.2.1 q i), h.2.2.2.2.2.1, h.2.2.2.2.2.2.1, h.2.2.2.2.2.2.2.1, h.2.2.2.2.2.2.2.2.1, h.2.2.2.2.2.2.2.2.2.1, h.2.2.2.2.2.2.2.2.2.2.1, h.2.2.2.2.2.2.2.2.2.2.2.1, h.2.2.2.2.2.2.2.2.2.2.2.2.1, h.2.2.2.2.2.2.2.2.2.2.2.2.2)
def sXj (h : HP) (p j : Nat) (v : Int64) : HP := (h.1, h.2.1, h.2.2.1, h.2.2.2.1, h.2.2.2.2.1, (fun q i => if q = p ∧ i = j then v else h.2.2.2.2.2.1 q i), h.2.2.2.2.2.2.1, h.2.2.2.2.2.2.2.1, h.2.2.2.2.2.2.2.2.1, h.2.2.2.2.2.2.2.2.2.1, h.2.2.2.2.2.2.2.2.2.2.1, h.2.2.2.2.2.2.2.2.2.2.2.1, h.2.2.2.2.2.2.2.2.2.2.2.2.1, h.2.2.2.2.2.2.2.2.2.2.2.2.2)
def sXr (h : HP) (p j : Nat) (v : Nat) : HP := (h.1, h.2.1, h.2.2.1, h.2.2.2.1, h.2.2.2.2.1, h.2.2.2.2.2.1, (fun q i => if q = p ∧ i = j then v else h.2.2.2.2.2.2.1 q i), h.2.2.2.2.2.2.2.1, h.2.2.2.2.2.2.2.2.1, h.2.2.2.2.2.2.2.2.2.1, h.2.2.2.2.2.2.2.2.2.2.1, h.2.2.2.2.2.2.2.2.2.2.2.1, h.2.2.2.2.2.2.2.2.2.2.2.2.1, h.2.2.2.2.2.2.2.2.2.2.2.2.2)
def sL (h : HP) (p : Nat) (v : List Nat) : HP := (h.1, h.2.1, h.2.2.1, h.2.2.2.1, h.2.2.2.2.1, h.2.2.2.2.2.1, h.2.2.2.2.2.2.1, h.2.2.2.2.2.2.2.1, (fun q => if q = p then v else h.2.2.2.2.2.2.2.2.1 q), h.2.2.2.2.2.2.2.2.2.1, h.2.2.2.2.2.2.2.2.2.2.1, h.2.2.2.2.2.2.2.2.2.2.2.1, h.2.2.2.2.2.2.2.2.2.2.2.2.1, h.2.2.2.2.2.2.2.2.2.2.2.2.2)
def sLc (h : HP) (p : Nat) (v : List Nat) (n c s : Nat) : HP := (h.1, h.2.1, h.2.2.1, h.2.2.2.1, h.2.2.2.2.1, h.2.2.2.2.2.1, h.2.2.2.2.2.2.1, h.2.2.2.2.2.2.2.1, (fun q => if q = p then v else h.2.2.2.2.2.2.2.2.1 q), h.2.2.2.2.2.2.2.2.2.1, (fun q => if q = p then n else h.2.2.2.2.2.2.2.2.2.2.1 q), h.2.2.2.2.2.2.2.2.2.2.2.1, h.2.2.2.2.2.2.2.2.2.2.2.2.1 + c, h.2.2.2.2.2.2.2.2.2.2.2.2.2 + s)
def sTc (h : HP) (p : Nat) (v : List Nat) (n c s : Nat) : HP := (h.1, h.2.1, h.2.2.1, h.2.2.2.1, h.2.2.2.2.1, h.2.2.2.2.2.1, h.2.2.2.2.2.2.1, h.2.2.2.2.2.2.2.1, h.2.2.2.2.2.2.2.2.1, (fun q => if q = p then v else h.2.2.2.2.2.2.2.2.2.1 q), (fun q => if q = p then n else h.2.2.2.2.2.2.2.2.2.2.1 q), h.2.2.2.2.2.2.2.2.2.2.2.1, h.2.2.2.2.2.2.2.2.2.2.2.2.1 + c, h.2.2.2.2.2.2.2.2.2.2.2.2.2 + s)
def nO (h : HP) (k n : Nat) : HP := ((fun q => if q = h.2.2.2.2.2.2.2.2.2.2.2.1 then k else h.1 q), h.2.1, h.2.2.1, h.2.2.2.1, h.2.2.2.2.1, h.2.2.2.2.2.1, h.2.2.2.2.2.2.1, h.2.2.2.2.2.2.2.1, h.2.2.2.2.2.2.2.2.1, h.2.2.2.2.2.2.2.2.2.1, h.2.2.2.2.2.2.2.2.2.2.1, h.2.2.2.2.2.2.2.2.2.2.2.1 + 1, h.2.2.2.2.2.2.2.2.2.2.2.2.1 + 1, h.2.2.2.2.2.2.2.2.2.2.2.2.2 + n)
def nA (h : HP) (k n : Nat) : HP := ((fun q => if q = h.2.2.2.2.2.2.2.2.2.2.2.1 then k else h.1 q), h.2.1, h.2.2.1, h.2.2.2.1, h.2.2.2.2.1, h.2.2.2.2.2.1, h.2.2.2.2.2.2.1, (fun q => if q = h.2.2.2.2.2.2.2.2.2.2.2.1 then n else h.2.2.2.2.2.2.2.1 q), h.2.2.2.2.2.2.2.2.1, h.2.2.2.2.2.2.2.2.2.1, h.2.2.2.2.2.2.2.2.2.2.1, h.2.2.2.2.2.2.2.2.2.2.2.1 + 1, h.2.2.2.2.2.2.2.2.2.2.2.2.1 + 1, h.2.2.2.2.2.2.2.2.2.2.2.2.2 + n)
def nC (h : HP) (k n : Nat) : HP := ((fun q => if q = h.2.2.2.2.2.2.2.2.2.2.2.1 then k else h.1 q), h.2.1, h.2.2.1, h.2.2.2.1, h.2.2.2.2.1, h.2.2.2.2.2.1, h.2.2.2.2.2.2.1, h.2.2.2.2.2.2.2.1, h.2.2.2.2.2.2.2.2.1, h.2.2.2.2.2.2.2.2.2.1, (fun q => if q = h.2.2.2.2.2.2.2.2.2.2.2.1 then RAW else h.2.2.2.2.2.2.2.2.2.2.1 q), h.2.2.2.2.2.2.2.2.2.2.2.1 + 1, h.2.2.2.2.2.2.2.2.2.2.2.2.1 + 1, h.2.2.2.2.2.2.2.2.2.2.2.2.2 + n)
def nS (h : HP) (l : List Nat) : HP := ((fun q => if q = h.2.2.2.2.2.2.2.2.2.2.2.1 then 71 else h.1 q), h.2.1, h.2.2.1, h.2.2.2.1, h.2.2.2.2.1, h.2.2.2.2.2.1, h.2.2.2.2.2.2.1, h.2.2.2.2.2.2.2.1, h.2.2.2.2.2.2.2.2.1, (fun q => if q = h.2.2.2.2.2.2.2.2.2.2.2.1 then l else h.2.2.2.2.2.2.2.2.2.1 q), h.2.2.2.2.2.2.2.2.2.2.1, h.2.2.2.2.2.2.2.2.2.2.2.1 + 1, h.2.2.2.2.2.2.2.2.2.2.2.2.1 + 2, h.2.2.2.2.2.2.2.2.2.2.2.2.2 + (4 + l.length))
def nI3 (h : HP) (v : Int32) : HP := ((fun q => if q = h.2.2.2.2.2.2.2.2.2.2.2.1 then 73 else h.1 q), (fun g q => if g = 491 ∧ q = h.2.2.2.2.2.2.2.2.2.2.2.1 then v else h.2.1 g q), h.2.2.1, h.2.2.2.1, h.2.2.2.2.1, h.2.2.2.2.2.1, h.2.2.2.2.2.2.1, h.2.2.2.2.2.2.2.1, h.2.2.2.2.2.2.2.2.1, h.2.2.2.2.2.2.2.2.2.1, h.2.2.2.2.2.2.2.2.2.2.1, h.2.2.2.2.2.2.2.2.2.2.2.1 + 1, h.2.2.2.2.2.2.2.2.2.2.2.2.1 + 1, h.2.2.2.2.2.2.2.2.2.2.2.2.2 + 1)
theorem kc_sI (h : HP) (f p : Nat) (v : Int32) : kc (sI h f p v) = kc h := rfl
theorem fi_sI (h : HP) (f p : Nat) (v : Int32) (g q : Nat) : fi (sI h f p v) g q = if g = f ∧ q = p then v else fi h g q := rfl
theorem fj_sI (h : HP) (f p : Nat) (v : Int32) : fj (sI h f p v) = fj h := rfl
theorem fr_sI (h : HP) (f p : Nat) (v : Int32) : fr (sI h f p v) = fr h := rfl
theorem xi_sI (h : HP) (f p : Nat) (v : Int32) : xi (sI h f p v) = xi h := rfl
theorem xj_sI (h : HP) (f p : Nat) (v : Int32) : xj (sI h f p v) = xj h := rfl
theorem xr_sI (h : HP) (f p : Nat) (v : Int32) : xr (sI h f p v) = xr h := rfl
theorem xl_sI (h : HP) (f p : Nat) (v : Int32) : xl (sI h f p v) = xl h := rfl
theorem ls_sI (h : HP) (f p : Nat) (v : Int32) : ls (sI h f p v) = ls h := rfl
theorem tx_sI (h : HP) (f p : Nat) (v : Int32) : tx (sI h f p v) = tx h := rfl
theorem cp_sI (h : HP) (f p : Nat) (v : Int32) : cp (sI h f p v) = cp h := rfl
theorem nx_sI (h : HP) (f p : Nat) (v : Int32) : nx (sI h f p v) = nx h := rfl
theorem cc_sI (h : HP) (f p : Nat) (v : Int32) : cc (sI h f p v) = cc h := rfl
theorem cs_sI (h : HP) (f p : Nat) (v : Int32) : cs (sI h f p v) = cs h := rfl
theorem kc_sJ (h : HP) (f p : Nat) (v : Int64) : kc (sJ h f p v) = kc h := rfl
theorem fi_sJ (h : HP) (f p : Nat) (v : Int64) : fi (sJ h f p v) = fi h := rfl
theorem fj_sJ (h : HP) (f p : Nat) (v : Int64) (g q : Nat) : fj (sJ h f p v) g q = if g = f ∧ q = p then v else fj h g q := rfl
theorem fr_sJ (h : HP) (f p : Nat) (v : Int64) : fr (sJ h f p v) = fr h := rfl
theorem xi_sJ (h : HP) (f p : Nat) (v : Int64) : xi (sJ h f p v) = xi h := rfl
theorem xj_sJ (h : HP) (f p : Nat) (v : Int64) : xj (sJ h f p v) = xj h := rfl
theorem xr_sJ (h : HP) (f p : Nat) (v : Int64) : xr (sJ h f p v) = xr h := rfl
theorem xl_sJ (h : HP) (f p : Nat) (v : Int64) : xl (sJ h f p v) = xl h := rfl
theorem ls_sJ (h : HP) (f p : Nat) (v : Int64) : ls (sJ h f p v) = ls h := rfl
theorem tx_sJ (h : HP) (f p : Nat) (v : Int64) : tx (sJ h f p v) = tx h := rfl
theorem cp_sJ (h : HP) (f p : Nat) (v : Int64) : cp (sJ h f p v) = cp h := rfl
theorem nx_sJ (h : HP) (f p : Nat) (v : Int64) : nx (sJ h f p v) = nx h := rfl
theorem cc_sJ (h : HP) (f p : Nat) (v : Int64) : cc (sJ h f p v) = cc h := rfl
theorem cs_sJ (h : HP) (f p : Nat) (v : Int64) : cs (sJ h f p v) = cs h := rfl
theorem kc_sR (h : HP) (f p : Nat) (v : Nat) : kc (sR h f p v) = kc h := rfl
theorem fi_sR (h : HP) (f p : Nat) (v : Nat) : fi (sR h f p v) = fi h := rfl
theorem fj_sR (h : HP) (f p : Nat) (v : Nat) : fj (sR h f p v) = fj h := rfl
theorem fr_sR (h : HP) (f p : Nat) (v : Nat) (g q : Nat) : fr (sR h f p v) g q = if g = f ∧ q = p then v else fr h g q := rfl
theorem xi_sR (h : HP) (f p : Nat) (v : Nat) : xi (sR h f p v) = xi h := rfl
theorem xj_sR (h : HP) (f p : Nat) (v : Nat) : xj (sR h f p v) = xj h := rfl
theorem xr_sR (h : HP) (f p : Nat) (v : Nat) : xr (sR h f p v) = xr h := rfl
theorem xl_sR (h : HP) (f p : Nat) (v : Nat) : xl (sR h f p v) = xl h := rfl
theorem ls_sR (h : HP) (f p : Nat) (v : Nat) : ls (sR h f p v) = ls h := rfl
theorem tx_sR (h : HP) (f p : Nat) (v : Nat) : tx (sR h f p v) = tx h := rfl
theorem cp_sR (h : HP) (f p : Nat) (v : Nat) : cp (sR h f p v) = cp h := rfl
theorem nx_sR (h : HP) (f p : Nat) (v : Nat) : nx (sR h f p v) = nx h := rfl
theorem cc_sR (h : HP) (f p : Nat) (v : Nat) : cc (sR h f p v) = cc h := rfl
theorem cs_sR (h : HP) (f p : Nat) (v : Nat) : cs (sR h f p v) = cs h := rfl
theorem kc_sXi (h : HP) (p j : Nat) (v : Int32) : kc (sXi h p j v) = kc h := rfl
theorem fi_sXi (h : HP) (p j : Nat) (v : Int32) : fi (sXi h p j v) = fi h := rfl
theorem fj_sXi (h : HP) (p j : Nat) (v : Int32) : fj (sXi h p j v) = fj h := rfl
theorem fr_sXi (h : HP) (p j : Nat) (v : Int32) : fr (sXi h p j v) = fr h := rfl
theorem xi_sXi (h : HP) (p j : Nat) (v : Int32) (q i : Nat) : xi (sXi h p j v) q i = if q = p ∧ i = j then v else xi h q i := rfl
theorem xj_sXi (h : HP) (p j : Nat) (v : Int32) : xj (sXi h p j v) = xj h := rfl
theorem xr_sXi (h : HP) (p j : Nat) (v : Int32) : xr (sXi h p j v) = xr h := rfl
theorem xl_sXi (h : HP) (p j : Nat) (v : Int32) : xl (sXi h p j v) = xl h := rfl
theorem ls_sXi (h : HP) (p j : Nat) (v : Int32) : ls (sXi h p j v) = ls h := rfl
theorem tx_sXi (h : HP) (p j : Nat) (v : Int32) : tx (sXi h p j v) = tx h := rfl
theorem cp_sXi (h : HP) (p j : Nat) (v : Int32) : cp (sXi h p j v) = cp h := rfl
theorem nx_sXi (h : HP) (p j : Nat) (v : Int32) : nx (sXi h p j v) = nx h := rfl
theorem cc_sXi (h : HP) (p j : Nat) (v : Int32) : cc (sXi h p j v) = cc h := rfl
theorem cs_sXi (h : HP) (p j : Nat) (v : Int32) : cs (sXi h p j v) = cs h := rfl
theorem kc_sXj (h : HP) (p j : Nat) (v : Int64) : kc (sXj h p j v) = kc h := rfl
theorem fi_sXj (h : HP) (p j : Nat) (v : Int64) : fi (sXj h p j v) = fi h := rfl
theorem fj_sXj (h : HP) (p j : Nat) (v : Int64) : fj (sXj h p j v) = fj h := rfl
theorem fr_sXj (h : HP) (p j : Nat) (v : Int64) : fr (sXj h p j v) = fr h := rfl
theorem xi_sXj (h : HP) (p j : Nat) (v : Int64) : xi (sXj h p j v) = xi h := rfl
theorem xj_sXj (h : HP) (p j : Nat) (v : Int64) (q i : Nat) : xj (sXj h p j v) q i = if q = p ∧ i = j then v else xj h q i := rfl
theorem xr_sXj (h : HP) (p j : Nat) (v : Int64) : xr (sXj h p j v) = xr h := rfl
theorem xl_sXj (h : HP) (p j : Nat) (v : Int64) : xl (sXj h p j v) = xl h := rfl
theorem ls_sXj (h : HP) (p j : Nat) (v : Int64) : ls (sXj h p j v) = ls h := rfl
theorem tx_sXj (h : HP) (p j : Nat) (v : Int64) : tx (sXj h p j v) = tx h := rfl
theorem cp_sXj (h : HP) (p j : Nat) (v : Int64) : cp (sXj h p j v) = cp h := rfl
theorem nx_sXj (h : HP) (p j : Nat) (v : Int64) : nx (sXj h p j v) = nx h := rfl
theorem cc_sXj (h : HP) (p j : Nat) (v : Int64) : cc (sXj h p j v) = cc h := rfl
theorem cs_sXj (h : HP) (p j : Nat) (v : Int64) : cs (sXj h p j v) = cs h := rfl
theorem kc_sXr (h : HP) (p j : Nat) (v : Nat) : kc (sXr h p j v) = kc h := rfl
theorem fi_sXr (h : HP) (p j : Nat) (v : Nat) : fi (sXr h p j v) = fi h := rfl
theorem fj_sXr (h : HP) (p j : Nat) (v : Nat) : fj (sXr h p j v) = fj h := rfl
theorem fr_sXr (h : HP) (p j : Nat) (v : Nat) : fr (sXr h p j v) = fr h := rfl
theorem xi_sXr (h : HP) (p j : Nat) (v : Nat) : xi (sXr h p j v) = xi h := rfl
theorem xj_sXr (h : HP) (p j : Nat) (v : Nat) : xj (sXr h p j v) = xj h := rfl
theorem xr_sXr (h : HP) (p j : Nat) (v : Nat) (q i : Nat) : xr (sXr h p j v) q i = if q = p ∧ i = j then v else xr h q i := rfl
theorem xl_sXr (h : HP) (p j : Nat) (v : Nat) : xl (sXr h p j v) = xl h := rfl
theorem ls_sXr (h : HP) (p j : Nat) (v : Nat) : ls (sXr h p j v) = ls h := rfl
theorem tx_sXr (h : HP) (p j : Nat) (v : Nat) : tx (sXr h p j v) = tx h := rfl
theorem cp_sXr (h : HP) (p j : Nat) (v : Nat) : cp (sXr h p j v) = cp h := rfl
theorem nx_sXr (h : HP) (p j : Nat) (v : Nat) : nx (sXr h p j v) = nx h := rfl
theorem cc_sXr (h : HP) (p j : Nat) (v : Nat) : cc (sXr h p j v) = cc h := rfl
theorem cs_sXr (h : HP) (p j : Nat) (v : Nat) : cs (sXr h p j v) = cs h := rfl
theorem kc_sL (h : HP) (p : Nat) (v : List Nat) : kc (sL h p v) = kc h := rfl
theorem fi_sL (h : HP) (p : Nat) (v : List Nat) : fi (sL h p v) = fi h := rfl
theorem fj_sL (h : HP) (p : Nat) (v : List Nat) : fj (sL h p v) = fj h := rfl
theorem fr_sL (h : HP) (p : Nat) (v : List Nat) : fr (sL h p v) = fr h := rfl
theorem xi_sL (h : HP) (p : Nat) (v : List Nat) : xi (sL h p v) = xi h := rfl
theorem xj_sL (h : HP) (p : Nat) (v : List Nat) : xj (sL h p v) = xj h := rfl
theorem xr_sL (h : HP) (p : Nat) (v : List Nat) : xr (sL h p v) = xr h := rfl
theorem xl_sL (h : HP) (p : Nat) (v : List Nat) : xl (sL h p v) = xl h := rfl
theorem ls_sL (h : HP) (p : Nat) (v : List Nat) (q : Nat) : ls (sL h p v) q = if q = p then v else ls h q := rfl
theorem tx_sL (h : HP) (p : Nat) (v : List Nat) : tx (sL h p v) = tx h := rfl
theorem cp_sL (h : HP) (p : Nat) (v : List Nat) : cp (sL h p v) = cp h := rfl
theorem nx_sL (h : HP) (p : Nat) (v : List Nat) : nx (sL h p v) = nx h := rfl
theorem cc_sL (h : HP) (p : Nat) (v : List Nat) : cc (sL h p v) = cc h := rfl
theorem cs_sL (h : HP) (p : Nat) (v : List Nat) : cs (sL h p v) = cs h := rfl
theorem kc_sLc (h : HP) (p : Nat) (v : List Nat) (n c s : Nat) : kc (sLc h p v n c s) = kc h := rfl
theorem fi_sLc (h : HP) (p : Nat) (v : List Nat) (n c s : Nat) : fi (sLc h p v n c s) = fi h := rfl
theorem fj_sLc (h : HP) (p : Nat) (v : List Nat) (n c s : Nat) : fj (sLc h p v n c s) = fj h := rfl
theorem fr_sLc (h : HP) (p : Nat) (v : List Nat) (n c s : Nat) : fr (sLc h p v n c s) = fr h := rfl
theorem xi_sLc (h : HP) (p : Nat) (v : List Nat) (n c s : Nat) : xi (sLc h p v n c s) = xi h := rfl
theorem xj_sLc (h : HP) (p : Nat) (v : List Nat) (n c s : Nat) : xj (sLc h p v n c s) = xj h := rfl
theorem xr_sLc (h : HP) (p : Nat) (v : List Nat) (n c s : Nat) : xr (sLc h p v n c s) = xr h := rfl
theorem xl_sLc (h : HP) (p : Nat) (v : List Nat) (n c s : Nat) : xl (sLc h p v n c s) = xl h := rfl
theorem ls_sLc (h : HP) (p : Nat) (v : List Nat) (n c s : Nat) (q : Nat) : ls (sLc h p v n c s) q = if q = p then v else ls h q := rfl
theorem tx_sLc (h : HP) (p : Nat) (v : List Nat) (n c s : Nat) : tx (sLc h p v n c s) = tx h := rfl
theorem cp_sLc (h : HP) (p : Nat) (v : List Nat) (n c s : Nat) (q : Nat) : cp (sLc h p v n c s) q = if q = p then n else cp h q := rfl
theorem nx_sLc (h : HP) (p : Nat) (v : List Nat) (n c s : Nat) : nx (sLc h p v n c s) = nx h := rfl
theorem cc_sLc (h : HP) (p : Nat) (v : List Nat) (n c s : Nat) : cc (sLc h p v n c s) = cc h + c := rfl
theorem cs_sLc (h : HP) (p : Nat) (v : List Nat) (n c s : Nat) : cs (sLc h p v n c s) = cs h + s := rfl
theorem kc_sTc (h : HP) (p : Nat) (v : List Nat) (n c s : Nat) : kc (sTc h p v n c s) = kc h := rfl
theorem fi_sTc (h : HP) (p : Nat) (v : List Nat) (n c s : Nat) : fi (sTc h p v n c s) = fi h := rfl
theorem fj_sTc (h : HP) (p : Nat) (v : List Nat) (n c s : Nat) : fj (sTc h p v n c s) = fj h := rfl
theorem fr_sTc (h : HP) (p : Nat) (v : List Nat) (n c s : Nat) : fr (sTc h p v n c s) = fr h := rfl
theorem xi_sTc (h : HP) (p : Nat) (v : List Nat) (n c s : Nat) : xi (sTc h p v n c s) = xi h := rfl
theorem xj_sTc (h : HP) (p : Nat) (v : List Nat) (n c s : Nat) : xj (sTc h p v n c s) = xj h := rfl
theorem xr_sTc (h : HP) (p : Nat) (v : List Nat) (n c s : Nat) : xr (sTc h p v n c s) = xr h := rfl
theorem xl_sTc (h : HP) (p : Nat) (v : List Nat) (n c s : Nat) : xl (sTc h p v n c s) = xl h := rfl
theorem ls_sTc (h : HP) (p : Nat) (v : List Nat) (n c s : Nat) : ls (sTc h p v n c s) = ls h := rfl
theorem tx_sTc (h : HP) (p : Nat) (v : List Nat) (n c s : Nat) (q : Nat) : tx (sTc h p v n c s) q = if q = p then v else tx h q := rfl
theorem cp_sTc (h : HP) (p : Nat) (v : List Nat) (n c s : Nat) (q : Nat) : cp (sTc h p v n c s) q = if q = p then n else cp h q := rfl
theorem nx_sTc (h : HP) (p : Nat) (v : List Nat) (n c s : Nat) : nx (sTc h p v n c s) = nx h := rfl
theorem cc_sTc (h : HP) (p : Nat) (v : List Nat) (n c s : Nat) : cc (sTc h p v n c s) = cc h + c := rfl
theorem cs_sTc (h : HP) (p : Nat) (v : List Nat) (n c s : Nat) : cs (sTc h p v n c s) = cs h + s := rfl
theorem kc_nO (h : HP) (k n : Nat) (q : Nat) : kc (nO h k n) q = if q = nx h then k else kc h q := rfl
theorem fi_nO (h : HP) (k n : Nat) : fi (nO h k n) = fi h := rfl
theorem fj_nO (h : HP) (k n : Nat) : fj (nO h k n) = fj h := rfl
theorem fr_nO (h : HP) (k n : Nat) : fr (nO h k n) = fr h := rfl
theorem xi_nO (h : HP) (k n : Nat) : xi (nO h k n) = xi h := rfl
theorem xj_nO (h : HP) (k n : Nat) : xj (nO h k n) = xj h := rfl
theorem xr_nO (h : HP) (k n : Nat) : xr (nO h k n) = xr h := rfl
theorem xl_nO (h : HP) (k n : Nat) : xl (nO h k n) = xl h := rfl
theorem ls_nO (h : HP) (k n : Nat) : ls (nO h k n) = ls h := rfl
theorem tx_nO (h : HP) (k n : Nat) : tx (nO h k n) = tx h := rfl
theorem cp_nO (h : HP) (k n : Nat) : cp (nO h k n) = cp h := rfl
theorem nx_nO (h : HP) (k n : Nat) : nx (nO h k n) = nx h + 1 := rfl
theorem cc_nO (h : HP) (k n : Nat) : cc (nO h k n) = cc h + 1 := rfl
theorem cs_nO (h : HP) (k n : Nat) : cs (nO h k n) = cs h + n := rfl
theorem kc_nA (h : HP) (k n : Nat) (q : Nat) : kc (nA h k n) q = if q = nx h then k else kc h q := rfl
theorem fi_nA (h : HP) (k n : Nat) : fi (nA h k n) = fi h := rfl
theorem fj_nA (h : HP) (k n : Nat) : fj (nA h k n) = fj h := rfl
theorem fr_nA (h : HP) (k n : Nat) : fr (nA h k n) = fr h := rfl
theorem xi_nA (h : HP) (k n : Nat) : xi (nA h k n) = xi h := rfl
theorem xj_nA (h : HP) (k n : Nat) : xj (nA h k n) = xj h := rfl
theorem xr_nA (h : HP) (k n : Nat) : xr (nA h k n) = xr h := rfl
theorem xl_nA (h : HP) (k n : Nat) (q : Nat) : xl (nA h k n) q = if q = nx h then n else xl h q := rfl
theorem ls_nA (h : HP) (k n : Nat) : ls (nA h k n) = ls h := rfl
theorem tx_nA (h : HP) (k n : Nat) : tx (nA h k n) = tx h := rfl
theorem cp_nA (h : HP) (k n : Nat) : cp (nA h k n) = cp h := rfl
theorem nx_nA (h : HP) (k n : Nat) : nx (nA h k n) = nx h + 1 := rfl
theorem cc_nA (h : HP) (k n : Nat) : cc (nA h k n) = cc h + 1 := rfl
theorem cs_nA (h : HP) (k n : Nat) : cs (nA h k n) = cs h + n := rfl
theorem kc_nC (h : HP) (k n : Nat) (q : Nat) : kc (nC h k n) q = if q = nx h then k else kc h q := rfl
theorem fi_nC (h : HP) (k n : Nat) : fi (nC h k n) = fi h := rfl
theorem fj_nC (h : HP) (k n : Nat) : fj (nC h k n) = fj h := rfl
theorem fr_nC (h : HP) (k n : Nat) : fr (nC h k n) = fr h := rfl
theorem xi_nC (h : HP) (k n : Nat) : xi (nC h k n) = xi h := rfl
theorem xj_nC (h : HP) (k n : Nat) : xj (nC h k n) = xj h := rfl
theorem xr_nC (h : HP) (k n : Nat) : xr (nC h k n) = xr h := rfl
theorem xl_nC (h : HP) (k n : Nat) : xl (nC h k n) = xl h := rfl
theorem ls_nC (h : HP) (k n : Nat) : ls (nC h k n) = ls h := rfl
theorem tx_nC (h : HP) (k n : Nat) : tx (nC h k n) = tx h := rfl
theorem cp_nC (h : HP) (k n : Nat) (q : Nat) : cp (nC h k n) q = if q = nx h then RAW else cp h q := rfl
theorem nx_nC (h : HP) (k n : Nat) : nx (nC h k n) = nx h + 1 := rfl
theorem cc_nC (h : HP) (k n : Nat) : cc (nC h k n) = cc h + 1 := rfl
theorem cs_nC (h : HP) (k n : Nat) : cs (nC h k n) = cs h + n := rfl
theorem kc_nS (h : HP) (l : List Nat) (q : Nat) : kc (nS h l) q = if q = nx h then 71 else kc h q := rfl
theorem fi_nS (h : HP) (l : List Nat) : fi (nS h l) = fi h := rfl
theorem fj_nS (h : HP) (l : List Nat) : fj (nS h l) = fj h := rfl
theorem fr_nS (h : HP) (l : List Nat) : fr (nS h l) = fr h := rfl
theorem xi_nS (h : HP) (l : List Nat) : xi (nS h l) = xi h := rfl
theorem xj_nS (h : HP) (l : List Nat) : xj (nS h l) = xj h := rfl
theorem xr_nS (h : HP) (l : List Nat) : xr (nS h l) = xr h := rfl
theorem xl_nS (h : HP) (l : List Nat) : xl (nS h l) = xl h := rfl
theorem ls_nS (h : HP) (l : List Nat) : ls (nS h l) = ls h := rfl
theorem tx_nS (h : HP) (l : List Nat) (q : Nat) : tx (nS h l) q = if q = nx h then l else tx h q := rfl
theorem cp_nS (h : HP) (l : List Nat) : cp (nS h l) = cp h := rfl
theorem nx_nS (h : HP) (l : List Nat) : nx (nS h l) = nx h + 1 := rfl
theorem cc_nS (h : HP) (l : List Nat) : cc (nS h l) = cc h + 2 := rfl
theorem cs_nS (h : HP) (l : List Nat) : cs (nS h l) = cs h + (4 + l.length) := rfl
theorem kc_nI3 (h : HP) (v : Int32) (q : Nat) : kc (nI3 h v) q = if q = nx h then 73 else kc h q := rfl
theorem fi_nI3 (h : HP) (v : Int32) (g q : Nat) : fi (nI3 h v) g q = if g = 491 ∧ q = nx h then v else fi h g q := rfl
theorem fj_nI3 (h : HP) (v : Int32) : fj (nI3 h v) = fj h := rfl
theorem fr_nI3 (h : HP) (v : Int32) : fr (nI3 h v) = fr h := rfl
theorem xi_nI3 (h : HP) (v : Int32) : xi (nI3 h v) = xi h := rfl
theorem xj_nI3 (h : HP) (v : Int32) : xj (nI3 h v) = xj h := rfl
theorem xr_nI3 (h : HP) (v : Int32) : xr (nI3 h v) = xr h := rfl
theorem xl_nI3 (h : HP) (v : Int32) : xl (nI3 h v) = xl h := rfl
theorem ls_nI3 (h : HP) (v : Int32) : ls (nI3 h v) = ls h := rfl
theorem tx_nI3 (h : HP) (v : Int32) : tx (nI3 h v) = tx h := rfl
theorem cp_nI3 (h : HP) (v : Int32) : cp (nI3 h v) = cp h := rfl
theorem nx_nI3 (h : HP) (v : Int32) : nx (nI3 h v) = nx h + 1 := rfl
theorem cc_nI3 (h : HP) (v : Int32) : cc (nI3 h v) = cc h + 1 := rfl
theorem cs_nI3 (h : HP) (v : Int32) : cs (nI3 h v) = cs h + 1 := rfl
def cStr : List String := ["", " abstract class extends implements interface default enum record return boolean byte short char int long float double true false null this instanceof in from where order down give exists all count sum ", " boolean byte short char int long float double ", "!", "!=", "%", "&", "&&", "(", ")", "*", "+", ",", "-", ".", "/", ":", ";", "<", "<<", "<=", "=", "==", ">", ">=", ">>", ">>>", "?", "L", "Object", "Text", "ZBSCIJFD", "[", "]", "^", "abstract", "all", "at", "boolean", "boolean byte short char int long float double", "byte", "char", "class", "count", "default", "double", "down", "enum", "exists", "extends", "false", "float", "from", "give", "implements", "in", "instanceof", "int", "interface", "length", "long", "null", "number", "order", "record", "return", "short", "sum", "this", "true", "where", "{", "{}()[],;.?:=+-*/%<>!~&^|", "|", "||", "}", "~"]
abbrev nStr : Nat := 77
def kc0 (p : Nat) : Nat := if 1 ≤ p ∧ p ≤ nStr then 71 else if 300 ≤ p ∧ p < 556 then 73 else if 900 ≤ p ∧ p < 908 then 99 else 0
def tx0 (p : Nat) : List Nat := if 1 ≤ p ∧ p ≤ nStr then codes (cStr.getD (p - 1) "") else []
def fi0 (g p : Nat) : Int32 := if g = 491 ∧ 300 ≤ p ∧ p < 556 then nI (p - 300) - 128 else 0
def WF (h : HP) : Prop :=
  1000 ≤ nx h ∧
  (∀ p, nx h ≤ p → kc h p = 0 ∧ (∀ f, fi h f p = 0 ∧ fj h f p = 0 ∧ fr h f p = 0) ∧ (∀ j, xi h p j = 0 ∧ xj h p j = 0 ∧ xr h p j = 0) ∧ ls h p = [] ∧ tx h p = [] ∧ cp h p = 0 ∧ xl h p = 0) ∧
  (∀ p, (∀ f, fr h f p < nx h) ∧ (∀ j, xr h p j < nx h) ∧ (∀ q ∈ ls h p, q < nx h)) ∧
  (∀ p, p < 1000 → kc h p = kc0 p ∧ tx h p = tx0 p ∧ ∀ g, fi h g p = fi0 g p) ∧
  (∀ p, 1000 ≤ p → p < nx h → kc h p ≠ 0)
def le3 (h h' : HP) : Prop := nx h ≤ nx h' ∧ cc h ≤ cc h' ∧ cs h ≤ cs h' ∧ ∀ p, p < nx h → kc h' p = kc h p ∧ xl h' p = xl h p ∧ (kc h p = 71 → tx h' p = tx h p) ∧ (kc h p = 73 → ∀ g, fi h' g p = fi h g p)
def lim (h : HP) : Prop := cc h ≤ 90582 ∧ cs h ≤ 8830360
abbrev Rs (β : Type) : Type := Option (HP ⊕ (β × HP))
def rok {β : Type} (b : β) (h : HP) : Rs β := some (.inr (b, h))
def rex {β : Type} (h : HP) : Rs β := some (.inl h)
def bdc {α β : Type} (r : Rs α) (k : α → HP → Rs β) (c : HP → Rs β) : Rs β := match r with
  | some (.inr x) => k x.1 x.2
  | some (.inl h) => c h
  | none => none
abbrev bd {α β : Type} (r : Rs α) (k : α → HP → Rs β) : Rs β := bdc r k (fun h1 => rex h1)
theorem bd_ok {α β : Type} (a : α) (h : HP) (k : α → HP → Rs β) : bd (rok a h) k = k a h := rfl
theorem bd_ex {α β : Type} (h : HP) (k : α → HP → Rs β) : bd (rex h) k = rex h := rfl
theorem bdc_ok {α β : Type} (a : α) (h : HP) (k : α → HP → Rs β) (c : HP → Rs β) : bdc (rok a h) k c = k a h := rfl
theorem bdc_ex {α β : Type} (h : HP) (k : α → HP → Rs β) (c : HP → Rs β) : bdc (rex h) k c = c h := rfl
def Mo {β : Type} (vf : β → Nat → Prop) (t : Rs β) (h : HP) : Prop := match t with
  | some (.inr x) => le3 h x.2 ∧ WF x.2 ∧ vf x.1 (nx x.2)
  | some (.inl h') => le3 h h' ∧ WF h'
  | none => True
def obK (c : Nat) : Bool := decide (0 < c ∧ c < 74 ∧ c ≠ 70 ∧ c ≠ 71 ∧ c ≠ 72 ∧ c ≠ 73)
def dvJ {β : Type} (y : Int64) (t : Rs β) : Rs β := if y = 0 then none else t
def eqR {β : Type} (h : HP) (p r : Nat) (t1 t2 : Rs β) : Rs β := if p = 0 ∨ r = 0 ∨ obK (kc h p) = true ∨ obK (kc h r) = true ∨ 100 ≤ kc h p then (if p = r then t1 else t2) else none
def eqS {β : Type} (p r : Nat) (t1 t2 : Rs β) : Rs β := if (900 ≤ p ∧ p < 908) ∧ 900 ≤ r ∧ r < 908 then (if p = r then t1 else t2) else none
def ldI {β : Type} (c f p : Nat) (h : HP) (K : Int32 → Rs β) : Rs β := if kc h p = c then K (fi h f p) else none
def stI {β : Type} (c f p : Nat) (v : Int32) (h : HP) (K : HP → Rs β) : Rs β := if kc h p = c then K (sI h f p v) else none
def ldJ {β : Type} (c f p : Nat) (h : HP) (K : Int64 → Rs β) : Rs β := if kc h p = c then K (fj h f p) else none
def stJ {β : Type} (c f p : Nat) (v : Int64) (h : HP) (K : HP → Rs β) : Rs β := if kc h p = c then K (sJ h f p v) else none
def ldR {β : Type} (c f p : Nat) (h : HP) (K : Nat → Rs β) : Rs β := if kc h p = c then K (fr h f p) else none
def stR {β : Type} (c f p : Nat) (v : Nat) (h : HP) (K : HP → Rs β) : Rs β := if kc h p = c then K (sR h f p v) else none
def tiK (k : Nat) : Nat := if k < 200 then 99 else (k - 200) % 20
abbrev inA (i : Int32) (n : Nat) : Prop := ¬ (i < 0 ∨ n ≤ i.toNatClampNeg)
def alen {β : Type} (p : Nat) (h : HP) (K : Int32 → Rs β) : Rs β := if tiK (kc h p) < 17 then K (Int32.ofNat (xl h p)) else none
def aldI {β : Type} (ti p : Nat) (i : Int32) (h : HP) (K : Int32 → Rs β) : Rs β := if tiK (kc h p) = ti ∧ inA i (xl h p) then K (xi h p i.toNatClampNeg) else none
def astI {β : Type} (ti p : Nat) (i : Int32) (v : Int32) (h : HP) (K : HP → Rs β) : Rs β := if tiK (kc h p) = ti ∧ inA i (xl h p) then K (sXi h p i.toNatClampNeg v) else none
def aldJ {β : Type} (ti p : Nat) (i : Int32) (h : HP) (K : Int64 → Rs β) : Rs β := if tiK (kc h p) = ti ∧ inA i (xl h p) then K (xj h p i.toNatClampNeg) else none
def astJ {β : Type} (ti p : Nat) (i : Int32) (v : Int64) (h : HP) (K : HP → Rs β) : Rs β := if tiK (kc h p) = ti ∧ inA i (xl h p) then K (sXj h p i.toNatClampNeg v) else none
def aldR {β : Type} (ti p : Nat) (i : Int32) (h : HP) (K : Nat → Rs β) : Rs β := if tiK (kc h p) = ti ∧ inA i (xl h p) then K (xr h p i.toNatClampNeg) else none
def nwO {β : Type} (c n : Nat) (h : HP) (K : Nat → HP → Rs β) : Rs β := K (nx h) (nO h c n)
def nwC {β : Type} (c n : Nat) (h : HP) (K : Nat → HP → Rs β) : Rs β := K (nx h) (nC h c n)
def nwA {β : Type} (c : Nat) (n : Int32) (h : HP) (K : Nat → HP → Rs β) : Rs β := if n < 0 then none else K (nx h) (nA h c n.toNatClampNeg)
abbrev lsK (h : HP) (p : Nat) : Prop := 100 ≤ kc h p ∧ kc h p < 200 ∧ cp h p ≠ RAW
abbrev lrK (h : HP) (p : Nat) : Prop := 100 ≤ kc h p ∧ kc h p < 200 ∧ cp h p = RAW
def castR {β : Type} (cs : List Nat) (p : Nat) (h : HP) (t : Rs β) : Rs β := if p = 0 ∨ kc h p ∈ cs then t else none
def NN : Nat := 2 ^ 62
def lt3 {α β : Type} (v : α) (K : α → β) : β := K v
def rokZ (v : Int32) (h : HP) : Rs Int32 := if v = 0 ∨ v = 1 then rok v h else none
def stZ {β : Type} (c f p : Nat) (v : Int32) (h : HP) (K : HP → Rs β) : Rs β := if v = 0 ∨ v = 1 then stI c f p v h K else none
def stC {β : Type} (c f p : Nat) (v : Int32) (h : HP) (K : HP → Rs β) : Rs β := if 0 ≤ v ∧ v < 65536 then stI c f p v h K else none
def ldMI {β : Type} (cs : List Nat) (f p : Nat) (h : HP) (K : Int32 → Rs β) : Rs β := if kc h p ∈ cs then K (fi h f p) else none
def stMI {β : Type} (cs : List Nat) (f p : Nat) (v : Int32) (h : HP) (K : HP → Rs β) : Rs β := if kc h p ∈ cs then K (sI h f p v) else none
def ldMR {β : Type} (cs : List Nat) (f p : Nat) (h : HP) (K : Nat → Rs β) : Rs β := if kc h p ∈ cs then K (fr h f p) else none
def stMR {β : Type} (cs : List Nat) (f p : Nat) (v : Nat) (h : HP) (K : HP → Rs β) : Rs β := if kc h p ∈ cs then K (sR h f p v) else none
abbrev ksNode : List Nat := [16, 17, 18, 19, 20, 21, 22, 23, 24, 25, 27, 28, 29]
abbrev ksParser : List Nat := [11, 12]
abbrev elK (h : HP) (v : Nat) : Prop := v = 0 ∨ kc h v = 71 ∨ kc h v = 73 ∨ obK (kc h v) = true
def lsSize {β : Type} (p : Nat) (h : HP) (K : Int32 → Rs β) : Rs β := if lsK h p then K (nI (ls h p).length) else none
def lsEmp {β : Type} (p : Nat) (h : HP) (K : Int32 → Rs β) : Rs β := if lsK h p then K (if (ls h p).length = 0 then 1 else 0) else none
def lsGet {β : Type} (p : Nat) (i : Int32) (h : HP) (K : Nat → Rs β) : Rs β := if lsK h p ∧ inA i (ls h p).length then K ((ls h p).getD i.toNatClampNeg 0) else none
def lsAdd {β : Type} (p v : Nat) (h : HP) (K : HP → Rs β) : Rs β := if lsK h p ∧ elK h v ∧ (ls h p).length ≤ 100000 then K (sLc h p (ls h p ++ [v]) (acap (cp h p) (ls h p).length) (acc (cp h p) (ls h p).length) (acs (cp h p) (ls h p).length)) else none
def lsClr {β : Type} (p : Nat) (h : HP) (K : HP → Rs β) : Rs β := if lsK h p then K (sL h p []) else none
def lsRem {β : Type} (p : Nat) (i : Int32) (h : HP) (K : Nat → HP → Rs β) : Rs β := if lsK h p ∧ i = nI ((ls h p).length - 1) ∧ 0 < (ls h p).length ∧ (ls h p).length < 2 ^ 31 then K ((ls h p).getD ((ls h p).length - 1) 0) (sL h p (ls h p).dropLast) else none
def lsInit {β : Type} (p : Nat) (h : HP) (K : HP → Rs β) : Rs β := if lrK h p then K (sLc h p [] 0 0 0) else none
def lsInitN {β : Type} (p : Nat) (i : Int32) (h : HP) (K : HP → Rs β) : Rs β := if lrK h p ∧ 0 < i ∧ i ≤ 1000 then K (sLc h p [] i.toNatClampNeg 1 i.toNatClampNeg) else none
def txLen {β : Type} (p : Nat) (h : HP) (K : Int32 → Rs β) : Rs β := if kc h p = 71 then K (nI (tx h p).length) else none
def txAt {β : Type} (p : Nat) (i : Int32) (h : HP) (K : Int32 → Rs β) : Rs β := if kc h p = 71 ∧ inA i (tx h p).length then K (nI ((tx h p).getD i.toNatClampNeg 0)) else none
def txEq {β : Type} (p r : Nat) (h : HP) (K : Int32 → Rs β) : Rs β := if kc h p = 71 ∧ kc h r = 71 then K (if tx h p = tx h r then 1 else 0) else none
def txHash {β : Type} (p : Nat) (h : HP) (K : Int32 → Rs β) : Rs β := if kc h p = 71 then K (hashL (tx h p) 0) else none
def ivGet {β : Type} (p : Nat) (h : HP) (K : Int32 → Rs β) : Rs β := if kc h p = 73 then K (fi h 491 p) else none
def mxI (x y : Int32) : Int32 := if x < y then y else x
def mnI (x y : Int32) : Int32 := if y < x then y else x
def mnJ (x y : Int64) : Int64 := if y < x then y else x
def astO {β : Type} (ti c p : Nat) (i : Int32) (v : Nat) (h : HP) (K : HP → Rs β) : Rs β := if tiK (kc h p) = ti ∧ inA i (xl h p) ∧ (v = 0 ∨ kc h v = c) then K (sXr h p i.toNatClampNeg v) else none
def astA {β : Type} (p : Nat) (i : Int32) (v : Nat) (h : HP) (K : HP → Rs β) : Rs β := if tiK (kc h p) = 9 ∧ inA i (xl h p) ∧ (v = 0 ∨ tiK (kc h v) = 3) then K (sXr h p i.toNatClampNeg v) else none
def nwE {β : Type} (h : HP) (K : Nat → HP → Rs β) : Rs β := K (nx h) (nO h 69 6)
def isInit {β : Type} (p : Nat) (h : HP) (K : HP → Rs β) : Rs β := if kc h p = 69 then K h else none
def bcap (k n : Nat) : Nat := if n ≤ k then k else k + max (n - k) (k + 2)
abbrev sbK (h : HP) (p : Nat) : Prop := kc h p = 72 ∧ cp h p ≠ RAW
abbrev sbR (h : HP) (p : Nat) : Prop := kc h p = 72 ∧ cp h p = RAW
def sbPut (h : HP) (p : Nat) (l : List Nat) : HP := if (tx h p).length + l.length ≤ cp h p then sTc h p (tx h p ++ l) (cp h p) 0 0 else sTc h p (tx h p ++ l) (bcap (cp h p) ((tx h p).length + l.length)) 1 (bcap (cp h p) ((tx h p).length + l.length))
def sbInit {β : Type} (p : Nat) (h : HP) (K : HP → Rs β) : Rs β := if sbR h p then K (sTc h p [] 16 1 16) else none
def sbInitN {β : Type} (p : Nat) (i : Int32) (h : HP) (K : HP → Rs β) : Rs β := if sbR h p ∧ 0 ≤ i ∧ i ≤ 1000000 then K (sTc h p [] i.toNatClampNeg 1 i.toNatClampNeg) else none
def sbApC {β : Type} (p : Nat) (c : Int32) (h : HP) (K : HP → Rs β) : Rs β := if sbK h p ∧ 0 ≤ c ∧ c < 256 ∧ (tx h p).length ≤ 1000000 ∧ cp h p ≤ 3000000 then K (sbPut h p [c.toNatClampNeg]) else none
def sbApS {β : Type} (p r : Nat) (h : HP) (K : HP → Rs β) : Rs β := if sbK h p ∧ kc h r = 71 ∧ (tx h p).length ≤ 1000000 ∧ cp h p ≤ 3000000 ∧ (tx h r).length ≤ 1000000 then K (sbPut h p (tx h r)) else none
def sbStr {β : Type} (p : Nat) (h : HP) (K : Nat → HP → Rs β) : Rs β := if sbK h p then K (nx h) (nS h (tx h p)) else none
def txSub {β : Type} (p : Nat) (i j : Int32) (h : HP) (K : Nat → HP → Rs β) : Rs β :=
  if kc h p = 71 ∧ 0 ≤ i ∧ i ≤ j ∧ j ≤ nI (tx h p).length then
    (if i = 0 ∧ j = nI (tx h p).length then K p h else if i = j then K 1 h else K (nx h) (nS h (((tx h p).drop i.toNatClampNeg).take (j.toNatClampNeg - i.toNatClampNeg))))
  else none
def idxL (c : Nat) : List Nat → Nat → Int32
  | [], _ => -1
  | x :: l, n => if x = c then nI n else idxL c l (n + 1)
def txIdx {β : Type} (p : Nat) (c : Int32) (h : HP) (K : Int32 → Rs β) : Rs β := if kc h p = 71 then K (if 0 ≤ c then idxL c.toNatClampNeg (tx h p) 0 else -1) else none
def ivOf {β : Type} (i : Int32) (h : HP) (K : Nat → HP → Rs β) : Rs β := if -128 ≤ i ∧ i ≤ 127 then K (i + 428).toNatClampNeg h else K (nx h) (nI3 h i)
def dsp {α : Type} (c : Nat) : List (Nat × (HP → Rs α)) → HP → Rs α
  | [], _ => none
  | z :: l, h => if c = z.1 then z.2 h else dsp c l h
def instN {β : Type} (p : Nat) (h : HP) (K : Int32 → Rs β) : Rs β := if kc h p = 21 then K 1 else if kc h p ∈ [17, 18, 19, 23, 20, 22, 24, 27, 16, 28, 29, 25] then K 0 else none
def nD {β : Type} (r : UInt64) (t : Rs β) : Rs β := if r &&& 0x7fffffffffffffff ≤ 0x7ff0000000000000 then t else none
def nF {β : Type} (r : UInt32) (t : Rs β) : Rs β := if r &&& 0x7fffffff ≤ 0x7f800000 then t else none
def fOfI (x : Int32) : UInt32 := x.toUInt32
def iOfF (x : UInt32) : Int32 := x.toInt32
def dOfJ (x : Int64) : UInt64 := x.toUInt64
def jOfD (x : UInt64) : Int64 := x.toInt64
