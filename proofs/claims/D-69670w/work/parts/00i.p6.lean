/-! PHASE B: switches over texts -/
set_option maxRecDepth 100000
theorem txHash_e {β : Type} {p : Nat} {h : HP} {K : Int32 → Rs β} (hk : kc h p = 71) : txHash p h K = K (hashL (tx h p) 0) := if_pos hk
theorem m_rankOf {h : HP} (w : WG h) {a : Nat} {l : List Nat} (ka : kc h a = 71) (ta : tx h a = l) : f_X4_rankOf a h = rok (if l = codes "%" then (9 : Int32) else if l = codes "&" then (4 : Int32) else if l = codes "*" then (9 : Int32) else if l = codes "+" then (8 : Int32) else if l = codes "-" then (8 : Int32) else if l = codes "/" then (9 : Int32) else if l = codes "<" then (6 : Int32) else if l = codes ">" then (6 : Int32) else if l = codes "^" then (3 : Int32) else if l = codes "|" then (2 : Int32) else if l = codes "!=" then (5 : Int32) else if l = codes "&&" then (1 : Int32) else if l = codes "<<" then (7 : Int32) else if l = codes "<=" then (6 : Int32) else if l = codes "==" then (5 : Int32) else if l = codes ">=" then (6 : Int32) else if l = codes ">>" then (7 : Int32) else if l = codes "||" then (0 : Int32) else if l = codes ">>>" then (7 : Int32) else (-1 : Int32)) h := by
  by_cases c0 : l = codes "%"
  · rw [if_pos c0]
    unfold f_X4_rankOf
    rw [txHash_e ka, ta, c0]
    rw [if_pos (by decide), txEq_c w ka (ta.trans c0) (by decide) (by decide) (show codes (cStr.getD (6 - 1) "") = codes "%" by decide), if_pos rfl, if_neg (by decide)]
    rfl
  by_cases c1 : l = codes "&"
  · rw [if_neg (show ¬ l = codes "%" from fun z => absurd (z.symm.trans c1) (by decide)), if_pos c1]
    unfold f_X4_rankOf
    rw [txHash_e ka, ta, c1]
    rw [if_neg (by decide), if_pos (by decide), txEq_c w ka (ta.trans c1) (by decide) (by decide) (show codes (cStr.getD (7 - 1) "") = codes "&" by decide), if_pos rfl, if_neg (by decide)]
    rfl
  by_cases c2 : l = codes "*"
  · rw [if_neg (show ¬ l = codes "%" from fun z => absurd (z.symm.trans c2) (by decide)), if_neg (show ¬ l = codes "&" from fun z => absurd (z.symm.trans c2) (by decide)), if_pos c2]
    unfold f_X4_rankOf
    rw [txHash_e ka, ta, c2]
    rw [if_neg (by decide), if_neg (by decide), if_pos (by decide), txEq_c w ka (ta.trans c2) (by decide) (by decide) (show codes (cStr.getD (11 - 1) "") = codes "*" by decide), if_pos rfl, if_neg (by decide)]
    rfl
  by_cases c3 : l = codes "+"
  · rw [if_neg (show ¬ l = codes "%" from fun z => absurd (z.symm.trans c3) (by decide)), if_neg (show ¬ l = codes "&" from fun z => absurd (z.symm.trans c3) (by decide)), if_neg (show ¬ l = codes "*" from fun z => absurd (z.symm.trans c3) (by decide)), if_pos c3]
    unfold f_X4_rankOf
    rw [txHash_e ka, ta, c3]
    rw [if_neg (by decide), if_neg (by decide), if_neg (by decide), if_pos (by decide), txEq_c w ka (ta.trans c3) (by decide) (by decide) (show codes (cStr.getD (12 - 1) "") = codes "+" by decide), if_pos rfl, if_neg (by decide)]
    rfl
  by_cases c4 : l = codes "-"
  · rw [if_neg (show ¬ l = codes "%" from fun z => absurd (z.symm.trans c4) (by decide)), if_neg (show ¬ l = codes "&" from fun z => absurd (z.symm.trans c4) (by decide)), if_neg (show ¬ l = codes "*" from fun z => absurd (z.symm.trans c4) (by decide)), if_neg (show ¬ l = codes "+" from fun z => absurd (z.symm.trans c4) (by decide)), if_pos c4]
    unfold f_X4_rankOf
    rw [txHash_e ka, ta, c4]
    rw [if_neg (by decide), if_neg (by decide), if_neg (by decide), if_neg (by decide), if_pos (by decide), txEq_c w ka (ta.trans c4) (by decide) (by decide) (show codes (cStr.getD (14 - 1) "") = codes "-" by decide), if_pos rfl, if_neg (by decide)]
    rfl
  by_cases c5 : l = codes "/"
  · rw [if_neg (show ¬ l = codes "%" from fun z => absurd (z.symm.trans c5) (by decide)), if_neg (show ¬ l = codes "&" from fun z => absurd (z.symm.trans c5) (by decide)), if_neg (show ¬ l = codes "*" from fun z => absurd (z.symm.trans c5) (by decide)), if_neg (show ¬ l = codes "+" from fun z => absurd (z.symm.trans c5) (by decide)), if_neg (show ¬ l = codes "-" from fun z => absurd (z.symm.trans c5) (by decide)), if_pos c5]
    unfold f_X4_rankOf
    rw [txHash_e ka, ta, c5]
    rw [if_neg (by decide), if_neg (by decide), if_neg (by decide), if_neg (by decide), if_neg (by decide), if_pos (by decide), txEq_c w ka (ta.trans c5) (by decide) (by decide) (show codes (cStr.getD (16 - 1) "") = codes "/" by decide), if_pos rfl, if_neg (by decide)]
    rfl
  by_cases c6 : l = codes "<"
  · rw [if_neg (show ¬ l = codes "%" from fun z => absurd (z.symm.trans c6) (by decide)), if_neg (show ¬ l = codes "&" from fun z => absurd (z.symm.trans c6) (by decide)), if_neg (show ¬ l = codes "*" from fun z => absurd (z.symm.trans c6) (by decide)), if_neg (show ¬ l = codes "+" from fun z => absurd (z.symm.trans c6) (by decide)), if_neg (show ¬ l = codes "-" from fun z => absurd (z.symm.trans c6) (by decide)), if_neg (show ¬ l = codes "/" from fun z => absurd (z.symm.trans c6) (by decide)), if_pos c6]
    unfold f_X4_rankOf
    rw [txHash_e ka, ta, c6]
    rw [if_neg (by decide), if_neg (by decide), if_neg (by decide), if_neg (by decide), if_neg (by decide), if_neg (by decide), if_pos (by decide), txEq_c w ka (ta.trans c6) (by decide) (by decide) (show codes (cStr.getD (19 - 1) "") = codes "<" by decide), if_pos rfl, if_neg (by decide)]
    rfl
  by_cases c7 : l = codes ">"
  · rw [if_neg (show ¬ l = codes "%" from fun z => absurd (z.symm.trans c7) (by decide)), if_neg (show ¬ l = codes "&" from fun z => absurd (z.symm.trans c7) (by decide)), if_neg (show ¬ l = codes "*" from fun z => absurd (z.symm.trans c7) (by decide)), if_neg (show ¬ l = codes "+" from fun z => absurd (z.symm.trans c7) (by decide)), if_neg (show ¬ l = codes "-" from fun z => absurd (z.symm.trans c7) (by decide)), if_neg (show ¬ l = codes "/" from fun z => absurd (z.symm.trans c7) (by decide)), if_neg (show ¬ l = codes "<" from fun z => absurd (z.symm.trans c7) (by decide)), if_pos c7]
    unfold f_X4_rankOf
    rw [txHash_e ka, ta, c7]
    rw [if_neg (by decide), if_neg (by decide), if_neg (by decide), if_neg (by decide), if_neg (by decide), if_neg (by decide), if_neg (by decide), if_pos (by decide), txEq_c w ka (ta.trans c7) (by decide) (by decide) (show codes (cStr.getD (24 - 1) "") = codes ">" by decide), if_pos rfl, if_neg (by decide)]
    rfl
  by_cases c8 : l = codes "^"
  · rw [if_neg (show ¬ l = codes "%" from fun z => absurd (z.symm.trans c8) (by decide)), if_neg (show ¬ l = codes "&" from fun z => absurd (z.symm.trans c8) (by decide)), if_neg (show ¬ l = codes "*" from fun z => absurd (z.symm.trans c8) (by decide)), if_neg (show ¬ l = codes "+" from fun z => absurd (z.symm.trans c8) (by decide)), if_neg (show ¬ l = codes "-" from fun z => absurd (z.symm.trans c8) (by decide)), if_neg (show ¬ l = codes "/" from fun z => absurd (z.symm.trans c8) (by decide)), if_neg (show ¬ l = codes "<" from fun z => absurd (z.symm.trans c8) (by decide)), if_neg (show ¬ l = codes ">" from fun z => absurd (z.symm.trans c8) (by decide)), if_pos c8]
    unfold f_X4_rankOf
    rw [txHash_e ka, ta, c8]
    rw [if_neg (by decide), if_neg (by decide), if_neg (by decide), if_neg (by decide), if_neg (by decide), if_neg (by decide), if_neg (by decide), if_neg (by decide), if_pos (by decide), txEq_c w ka (ta.trans c8) (by decide) (by decide) (show codes (cStr.getD (35 - 1) "") = codes "^" by decide), if_pos rfl, if_neg (by decide)]
    rfl
  by_cases c9 : l = codes "|"
  · rw [if_neg (show ¬ l = codes "%" from fun z => absurd (z.symm.trans c9) (by decide)), if_neg (show ¬ l = codes "&" from fun z => absurd (z.symm.trans c9) (by decide)), if_neg (show ¬ l = codes "*" from fun z => absurd (z.symm.trans c9) (by decide)), if_neg (show ¬ l = codes "+" from fun z => absurd (z.symm.trans c9) (by decide)), if_neg (show ¬ l = codes "-" from fun z => absurd (z.symm.trans c9) (by decide)), if_neg (show ¬ l = codes "/" from fun z => absurd (z.symm.trans c9) (by decide)), if_neg (show ¬ l = codes "<" from fun z => absurd (z.symm.trans c9) (by decide)), if_neg (show ¬ l = codes ">" from fun z => absurd (z.symm.trans c9) (by decide)), if_neg (show ¬ l = codes "^" from fun z => absurd (z.symm.trans c9) (by decide)), if_pos c9]
    unfold f_X4_rankOf
    rw [txHash_e ka, ta, c9]
    rw [if_neg (by decide), if_neg (by decide), if_neg (by decide), if_neg (by decide), if_neg (by decide), if_neg (by decide), if_neg (by decide), if_neg (by decide), if_neg (by decide), if_pos (by decide), txEq_c w ka (ta.trans c9) (by decide) (by decide) (show codes (cStr.getD (74 - 1) "") = codes "|" by decide), if_pos rfl, if_neg (by decide)]
    rfl
  by_cases c10 : l = codes "!="
  · rw [if_neg (show ¬ l = codes "%" from fun z => absurd (z.symm.trans c10) (by decide)), if_neg (show ¬ l = codes "&" from fun z => absurd (z.symm.trans c10) (by decide)), if_neg (show ¬ l = codes "*" from fun z => absurd (z.symm.trans c10) (by decide)), if_neg (show ¬ l = codes "+" from fun z => absurd (z.symm.trans c10) (by decide)), if_neg (show ¬ l = codes "-" from fun z => absurd (z.symm.trans c10) (by decide)), if_neg (show ¬ l = codes "/" from fun z => absurd (z.symm.trans c10) (by decide)), if_neg (show ¬ l = codes "<" from fun z => absurd (z.symm.trans c10) (by decide)), if_neg (show ¬ l = codes ">" from fun z => absurd (z.symm.trans c10) (by decide)), if_neg (show ¬ l = codes "^" from fun z => absurd (z.symm.trans c10) (by decide)), if_neg (show ¬ l = codes "|" from fun z => absurd (z.symm.trans c10) (by decide)), if_pos c10]
    unfold f_X4_rankOf
    rw [txHash_e ka, ta, c10]
    rw [if_neg (by decide), if_neg (by decide), if_neg (by decide), if_neg (by decide), if_neg (by decide), if_neg (by decide), if_neg (by decide), if_neg (by decide), if_neg (by decide), if_neg (by decide), if_pos (by decide), txEq_c w ka (ta.trans c10) (by decide) (by decide) (show codes (cStr.getD (5 - 1) "") = codes "!=" by decide), if_pos rfl, if_neg (by decide)]
    rfl
  by_cases c11 : l = codes "&&"
  · rw [if_neg (show ¬ l = codes "%" from fun z => absurd (z.symm.trans c11) (by decide)), if_neg (show ¬ l = codes "&" from fun z => absurd (z.symm.trans c11) (by decide)), if_neg (show ¬ l = codes "*" from fun z => absurd (z.symm.trans c11) (by decide)), if_neg (show ¬ l = codes "+" from fun z => absurd (z.symm.trans c11) (by decide)), if_neg (show ¬ l = codes "-" from fun z => absurd (z.symm.trans c11) (by decide)), if_neg (show ¬ l = codes "/" from fun z => absurd (z.symm.trans c11) (by decide)), if_neg (show ¬ l = codes "<" from fun z => absurd (z.symm.trans c11) (by decide)), if_neg (show ¬ l = codes ">" from fun z => absurd (z.symm.trans c11) (by decide)), if_neg (show ¬ l = codes "^" from fun z => absurd (z.symm.trans c11) (by decide)), if_neg (show ¬ l = codes "|" from fun z => absurd (z.symm.trans c11) (by decide)), if_neg (show ¬ l = codes "!=" from fun z => absurd (z.symm.trans c11) (by decide)), if_pos c11]
    unfold f_X4_rankOf
    rw [txHash_e ka, ta, c11]
    rw [if_neg (by decide), if_neg (by decide), if_neg (by decide), if_neg (by decide), if_neg (by decide), if_neg (by decide), if_neg (by decide), if_neg (by decide), if_neg (by decide), if_neg (by decide), if_neg (by decide), if_pos (by decide), txEq_c w ka (ta.trans c11) (by decide) (by decide) (show codes (cStr.getD (8 - 1) "") = codes "&&" by decide), if_pos rfl, if_neg (by decide)]
    rfl
  by_cases c12 : l = codes "<<"
  · rw [if_neg (show ¬ l = codes "%" from fun z => absurd (z.symm.trans c12) (by decide)), if_neg (show ¬ l = codes "&" from fun z => absurd (z.symm.trans c12) (by decide)), if_neg (show ¬ l = codes "*" from fun z => absurd (z.symm.trans c12) (by decide)), if_neg (show ¬ l = codes "+" from fun z => absurd (z.symm.trans c12) (by decide)), if_neg (show ¬ l = codes "-" from fun z => absurd (z.symm.trans c12) (by decide)), if_neg (show ¬ l = codes "/" from fun z => absurd (z.symm.trans c12) (by decide)), if_neg (show ¬ l = codes "<" from fun z => absurd (z.symm.trans c12) (by decide)), if_neg (show ¬ l = codes ">" from fun z => absurd (z.symm.trans c12) (by decide)), if_neg (show ¬ l = codes "^" from fun z => absurd (z.symm.trans c12) (by decide)), if_neg (show ¬ l = codes "|" from fun z => absurd (z.symm.trans c12) (by decide)), if_neg (show ¬ l = codes "!=" from fun z => absurd (z.symm.trans c12) (by decide)), if_neg (show ¬ l = codes "&&" from fun z => absurd (z.symm.trans c12) (by decide)), if_pos c12]
    unfold f_X4_rankOf
    rw [txHash_e ka, ta, c12]
    rw [if_neg (by decide), if_neg (by decide), if_neg (by decide), if_neg (by decide), if_neg (by decide), if_neg (by decide), if_neg (by decide), if_neg (by decide), if_neg (by decide), if_neg (by decide), if_neg (by decide), if_neg (by decide), if_pos (by decide), txEq_c w ka (ta.trans c12) (by decide) (by decide) (show codes (cStr.getD (20 - 1) "") = codes "<<" by decide), if_pos rfl, if_neg (by decide)]
    rfl
  by_cases c13 : l = codes "<="
  · rw [if_neg (show ¬ l = codes "%" from fun z => absurd (z.symm.trans c13) (by decide)), if_neg (show ¬ l = codes "&" from fun z => absurd (z.symm.trans c13) (by decide)), if_neg (show ¬ l = codes "*" from fun z => absurd (z.symm.trans c13) (by decide)), if_neg (show ¬ l = codes "+" from fun z => absurd (z.symm.trans c13) (by decide)), if_neg (show ¬ l = codes "-" from fun z => absurd (z.symm.trans c13) (by decide)), if_neg (show ¬ l = codes "/" from fun z => absurd (z.symm.trans c13) (by decide)), if_neg (show ¬ l = codes "<" from fun z => absurd (z.symm.trans c13) (by decide)), if_neg (show ¬ l = codes ">" from fun z => absurd (z.symm.trans c13) (by decide)), if_neg (show ¬ l = codes "^" from fun z => absurd (z.symm.trans c13) (by decide)), if_neg (show ¬ l = codes "|" from fun z => absurd (z.symm.trans c13) (by decide)), if_neg (show ¬ l = codes "!=" from fun z => absurd (z.symm.trans c13) (by decide)), if_neg (show ¬ l = codes "&&" from fun z => absurd (z.symm.trans c13) (by decide)), if_neg (show ¬ l = codes "<<" from fun z => absurd (z.symm.trans c13) (by decide)), if_pos c13]
    unfold f_X4_rankOf
    rw [txHash_e ka, ta, c13]
    rw [if_neg (by decide), if_neg (by decide), if_neg (by decide), if_neg (by decide), if_neg (by decide), if_neg (by decide), if_neg (by decide), if_neg (by decide), if_neg (by decide), if_neg (by decide), if_neg (by decide), if_neg (by decide), if_neg (by decide), if_pos (by decide), txEq_c w ka (ta.trans c13) (by decide) (by decide) (show codes (cStr.getD (21 - 1) "") = codes "<=" by decide), if_pos rfl, if_neg (by decide)]
    rfl
  by_cases c14 : l = codes "=="
  · rw [if_neg (show ¬ l = codes "%" from fun z => absurd (z.symm.trans c14) (by decide)), if_neg (show ¬ l = codes "&" from fun z => absurd (z.symm.trans c14) (by decide)), if_neg (show ¬ l = codes "*" from fun z => absurd (z.symm.trans c14) (by decide)), if_neg (show ¬ l = codes "+" from fun z => absurd (z.symm.trans c14) (by decide)), if_neg (show ¬ l = codes "-" from fun z => absurd (z.symm.trans c14) (by decide)), if_neg (show ¬ l = codes "/" from fun z => absurd (z.symm.trans c14) (by decide)), if_neg (show ¬ l = codes "<" from fun z => absurd (z.symm.trans c14) (by decide)), if_neg (show ¬ l = codes ">" from fun z => absurd (z.symm.trans c14) (by decide)), if_neg (show ¬ l = codes "^" from fun z => absurd (z.symm.trans c14) (by decide)), if_neg (show ¬ l = codes "|" from fun z => absurd (z.symm.trans c14) (by decide)), if_neg (show ¬ l = codes "!=" from fun z => absurd (z.symm.trans c14) (by decide)), if_neg (show ¬ l = codes "&&" from fun z => absurd (z.symm.trans c14) (by decide)), if_neg (show ¬ l = codes "<<" from fun z => absurd (z.symm.trans c14) (by decide)), if_neg (show ¬ l = codes "<=" from fun z => absurd (z.symm.trans c14) (by decide)), if_pos c14]
    unfold f_X4_rankOf
    rw [txHash_e ka, ta, c14]
    rw [if_neg (by decide), if_neg (by decide), if_neg (by decide), if_neg (by decide), if_neg (by decide), if_neg (by decide), if_neg (by decide), if_neg (by decide), if_neg (by decide), if_neg (by decide), if_neg (by decide), if_neg (by decide), if_neg (by decide), if_neg (by decide), if_pos (by decide), txEq_c w ka (ta.trans c14) (by decide) (by decide) (show codes (cStr.getD (23 - 1) "") = codes "==" by decide), if_pos rfl, if_neg (by decide)]
    rfl
  by_cases c15 : l = codes ">="
  · rw [if_neg (show ¬ l = codes "%" from fun z => absurd (z.symm.trans c15) (by decide)), if_neg (show ¬ l = codes "&" from fun z => absurd (z.symm.trans c15) (by decide)), if_neg (show ¬ l = codes "*" from fun z => absurd (z.symm.trans c15) (by decide)), if_neg (show ¬ l = codes "+" from fun z => absurd (z.symm.trans c15) (by decide)), if_neg (show ¬ l = codes "-" from fun z => absurd (z.symm.trans c15) (by decide)), if_neg (show ¬ l = codes "/" from fun z => absurd (z.symm.trans c15) (by decide)), if_neg (show ¬ l = codes "<" from fun z => absurd (z.symm.trans c15) (by decide)), if_neg (show ¬ l = codes ">" from fun z => absurd (z.symm.trans c15) (by decide)), if_neg (show ¬ l = codes "^" from fun z => absurd (z.symm.trans c15) (by decide)), if_neg (show ¬ l = codes "|" from fun z => absurd (z.symm.trans c15) (by decide)), if_neg (show ¬ l = codes "!=" from fun z => absurd (z.symm.trans c15) (by decide)), if_neg (show ¬ l = codes "&&" from fun z => absurd (z.symm.trans c15) (by decide)), if_neg (show ¬ l = codes "<<" from fun z => absurd (z.symm.trans c15) (by decide)), if_neg (show ¬ l = codes "<=" from fun z => absurd (z.symm.trans c15) (by decide)), if_neg (show ¬ l = codes "==" from fun z => absurd (z.symm.trans c15) (by decide)), if_pos c15]
    unfold f_X4_rankOf
    rw [txHash_e ka, ta, c15]
    rw [if_neg (by decide), if_neg (by decide), if_neg (by decide), if_neg (by decide), if_neg (by decide), if_neg (by decide), if_neg (by decide), if_neg (by decide), if_neg (by decide), if_neg (by decide), if_neg (by decide), if_neg (by decide), if_neg (by decide), if_neg (by decide), if_neg (by decide), if_pos (by decide), txEq_c w ka (ta.trans c15) (by decide) (by decide) (show codes (cStr.getD (25 - 1) "") = codes ">=" by decide), if_pos rfl, if_neg (by decide)]
    rfl
  by_cases c16 : l = codes ">>"
  · rw [if_neg (show ¬ l = codes "%" from fun z => absurd (z.symm.trans c16) (by decide)), if_neg (show ¬ l = codes "&" from fun z => absurd (z.symm.trans c16) (by decide)), if_neg (show ¬ l = codes "*" from fun z => absurd (z.symm.trans c16) (by decide)), if_neg (show ¬ l = codes "+" from fun z => absurd (z.symm.trans c16) (by decide)), if_neg (show ¬ l = codes "-" from fun z => absurd (z.symm.trans c16) (by decide)), if_neg (show ¬ l = codes "/" from fun z => absurd (z.symm.trans c16) (by decide)), if_neg (show ¬ l = codes "<" from fun z => absurd (z.symm.trans c16) (by decide)), if_neg (show ¬ l = codes ">" from fun z => absurd (z.symm.trans c16) (by decide)), if_neg (show ¬ l = codes "^" from fun z => absurd (z.symm.trans c16) (by decide)), if_neg (show ¬ l = codes "|" from fun z => absurd (z.symm.trans c16) (by decide)), if_neg (show ¬ l = codes "!=" from fun z => absurd (z.symm.trans c16) (by decide)), if_neg (show ¬ l = codes "&&" from fun z => absurd (z.symm.trans c16) (by decide)), if_neg (show ¬ l = codes "<<" from fun z => absurd (z.symm.trans c16) (by decide)), if_neg (show ¬ l = codes "<=" from fun z => absurd (z.symm.trans c16) (by decide)), if_neg (show ¬ l = codes "==" from fun z => absurd (z.symm.trans c16) (by decide)), if_neg (show ¬ l = codes ">=" from fun z => absurd (z.symm.trans c16) (by decide)), if_pos c16]
    unfold f_X4_rankOf
    rw [txHash_e ka, ta, c16]
    rw [if_neg (by decide), if_neg (by decide), if_neg (by decide), if_neg (by decide), if_neg (by decide), if_neg (by decide), if_neg (by decide), if_neg (by decide), if_neg (by decide), if_neg (by decide), if_neg (by decide), if_neg (by decide), if_neg (by decide), if_neg (by decide), if_neg (by decide), if_neg (by decide), if_pos (by decide), txEq_c w ka (ta.trans c16) (by decide) (by decide) (show codes (cStr.getD (26 - 1) "") = codes ">>" by decide), if_pos rfl, if_neg (by decide)]
    rfl
  by_cases c17 : l = codes "||"
  · rw [if_neg (show ¬ l = codes "%" from fun z => absurd (z.symm.trans c17) (by decide)), if_neg (show ¬ l = codes "&" from fun z => absurd (z.symm.trans c17) (by decide)), if_neg (show ¬ l = codes "*" from fun z => absurd (z.symm.trans c17) (by decide)), if_neg (show ¬ l = codes "+" from fun z => absurd (z.symm.trans c17) (by decide)), if_neg (show ¬ l = codes "-" from fun z => absurd (z.symm.trans c17) (by decide)), if_neg (show ¬ l = codes "/" from fun z => absurd (z.symm.trans c17) (by decide)), if_neg (show ¬ l = codes "<" from fun z => absurd (z.symm.trans c17) (by decide)), if_neg (show ¬ l = codes ">" from fun z => absurd (z.symm.trans c17) (by decide)), if_neg (show ¬ l = codes "^" from fun z => absurd (z.symm.trans c17) (by decide)), if_neg (show ¬ l = codes "|" from fun z => absurd (z.symm.trans c17) (by decide)), if_neg (show ¬ l = codes "!=" from fun z => absurd (z.symm.trans c17) (by decide)), if_neg (show ¬ l = codes "&&" from fun z => absurd (z.symm.trans c17) (by decide)), if_neg (show ¬ l = codes "<<" from fun z => absurd (z.symm.trans c17) (by decide)), if_neg (show ¬ l = codes "<=" from fun z => absurd (z.symm.trans c17) (by decide)), if_neg (show ¬ l = codes "==" from fun z => absurd (z.symm.trans c17) (by decide)), if_neg (show ¬ l = codes ">=" from fun z => absurd (z.symm.trans c17) (by decide)), if_neg (show ¬ l = codes ">>" from fun z => absurd (z.symm.trans c17) (by decide)), if_pos c17]
    unfold f_X4_rankOf
    rw [txHash_e ka, ta, c17]
    rw [if_neg (by decide), if_neg (by decide), if_neg (by decide), if_neg (by decide), if_neg (by decide), if_neg (by decide), if_neg (by decide), if_neg (by decide), if_neg (by decide), if_neg (by decide), if_neg (by decide), if_neg (by decide), if_neg (by decide), if_neg (by decide), if_neg (by decide), if_neg (by decide), if_neg (by decide), if_pos (by decide), txEq_c w ka (ta.trans c17) (by decide) (by decide) (show codes (cStr.getD (75 - 1) "") = codes "||" by decide), if_pos rfl, if_neg (by decide)]
    rfl
  by_cases c18 : l = codes ">>>"
  · rw [if_neg (show ¬ l = codes "%" from fun z => absurd (z.symm.trans c18) (by decide)), if_neg (show ¬ l = codes "&" from fun z => absurd (z.symm.trans c18) (by decide)), if_neg (show ¬ l = codes "*" from fun z => absurd (z.symm.trans c18) (by decide)), if_neg (show ¬ l = codes "+" from fun z => absurd (z.symm.trans c18) (by decide)), if_neg (show ¬ l = codes "-" from fun z => absurd (z.symm.trans c18) (by decide)), if_neg (show ¬ l = codes "/" from fun z => absurd (z.symm.trans c18) (by decide)), if_neg (show ¬ l = codes "<" from fun z => absurd (z.symm.trans c18) (by decide)), if_neg (show ¬ l = codes ">" from fun z => absurd (z.symm.trans c18) (by decide)), if_neg (show ¬ l = codes "^" from fun z => absurd (z.symm.trans c18) (by decide)), if_neg (show ¬ l = codes "|" from fun z => absurd (z.symm.trans c18) (by decide)), if_neg (show ¬ l = codes "!=" from fun z => absurd (z.symm.trans c18) (by decide)), if_neg (show ¬ l = codes "&&" from fun z => absurd (z.symm.trans c18) (by decide)), if_neg (show ¬ l = codes "<<" from fun z => absurd (z.symm.trans c18) (by decide)), if_neg (show ¬ l = codes "<=" from fun z => absurd (z.symm.trans c18) (by decide)), if_neg (show ¬ l = codes "==" from fun z => absurd (z.symm.trans c18) (by decide)), if_neg (show ¬ l = codes ">=" from fun z => absurd (z.symm.trans c18) (by decide)), if_neg (show ¬ l = codes ">>" from fun z => absurd (z.symm.trans c18) (by decide)), if_neg (show ¬ l = codes "||" from fun z => absurd (z.symm.trans c18) (by decide)), if_pos c18]
    unfold f_X4_rankOf
    rw [txHash_e ka, ta, c18]
    rw [if_neg (by decide), if_neg (by decide), if_neg (by decide), if_neg (by decide), if_neg (by decide), if_neg (by decide), if_neg (by decide), if_neg (by decide), if_neg (by decide), if_neg (by decide), if_neg (by decide), if_neg (by decide), if_neg (by decide), if_neg (by decide), if_neg (by decide), if_neg (by decide), if_neg (by decide), if_neg (by decide), if_pos (by decide), txEq_c w ka (ta.trans c18) (by decide) (by decide) (show codes (cStr.getD (27 - 1) "") = codes ">>>" by decide), if_pos rfl, if_neg (by decide)]
    rfl
  rw [if_neg c0, if_neg c1, if_neg c2, if_neg c3, if_neg c4, if_neg c5, if_neg c6, if_neg c7, if_neg c8, if_neg c9, if_neg c10, if_neg c11, if_neg c12, if_neg c13, if_neg c14, if_neg c15, if_neg c16, if_neg c17, if_neg c18]
  unfold f_X4_rankOf
  rw [txHash_e ka, ta]
  refine ite_rs (fun _ => ?_) (fun _ => ?_)
  · rw [txEq_c w ka ta (by decide) (by decide) (show codes (cStr.getD (6 - 1) "") = codes "%" by decide), if_neg c0, if_pos rfl]; rfl
  refine ite_rs (fun _ => ?_) (fun _ => ?_)
  · rw [txEq_c w ka ta (by decide) (by decide) (show codes (cStr.getD (7 - 1) "") = codes "&" by decide), if_neg c1, if_pos rfl]; rfl
  refine ite_rs (fun _ => ?_) (fun _ => ?_)
  · rw [txEq_c w ka ta (by decide) (by decide) (show codes (cStr.getD (11 - 1) "") = codes "*" by decide), if_neg c2, if_pos rfl]; rfl
  refine ite_rs (fun _ => ?_) (fun _ => ?_)
  · rw [txEq_c w ka ta (by decide) (by decide) (show codes (cStr.getD (12 - 1) "") = codes "+" by decide), if_neg c3, if_pos rfl]; rfl
  refine ite_rs (fun _ => ?_) (fun _ => ?_)
  · rw [txEq_c w ka ta (by decide) (by decide) (show codes (cStr.getD (14 - 1) "") = codes "-" by decide), if_neg c4, if_pos rfl]; rfl
  refine ite_rs (fun _ => ?_) (fun _ => ?_)
  · rw [txEq_c w ka ta (by decide) (by decide) (show codes (cStr.getD (16 - 1) "") = codes "/" by decide), if_neg c5, if_pos rfl]; rfl
  refine ite_rs (fun _ => ?_) (fun _ => ?_)
  · rw [txEq_c w ka ta (by decide) (by decide) (show codes (cStr.getD (19 - 1) "") = codes "<" by decide), if_neg c6, if_pos rfl]; rfl
  refine ite_rs (fun _ => ?_) (fun _ => ?_)
  · rw [txEq_c w ka ta (by decide) (by decide) (show codes (cStr.getD (24 - 1) "") = codes ">" by decide), if_neg c7, if_pos rfl]; rfl
  refine ite_rs (fun _ => ?_) (fun _ => ?_)
  · rw [txEq_c w ka ta (by decide) (by decide) (show codes (cStr.getD (35 - 1) "") = codes "^" by decide), if_neg c8, if_pos rfl]; rfl
  refine ite_rs (fun _ => ?_) (fun _ => ?_)
  · rw [txEq_c w ka ta (by decide) (by decide) (show codes (cStr.getD (74 - 1) "") = codes "|" by decide), if_neg c9, if_pos rfl]; rfl
  refine ite_rs (fun _ => ?_) (fun _ => ?_)
  · rw [txEq_c w ka ta (by decide) (by decide) (show codes (cStr.getD (5 - 1) "") = codes "!=" by decide), if_neg c10, if_pos rfl]; rfl
  refine ite_rs (fun _ => ?_) (fun _ => ?_)
  · rw [txEq_c w ka ta (by decide) (by decide) (show codes (cStr.getD (8 - 1) "") = codes "&&" by decide), if_neg c11, if_pos rfl]; rfl
  refine ite_rs (fun _ => ?_) (fun _ => ?_)
  · rw [txEq_c w ka ta (by decide) (by decide) (show codes (cStr.getD (20 - 1) "") = codes "<<" by decide), if_neg c12, if_pos rfl]; rfl
  refine ite_rs (fun _ => ?_) (fun _ => ?_)
  · rw [txEq_c w ka ta (by decide) (by decide) (show codes (cStr.getD (21 - 1) "") = codes "<=" by decide), if_neg c13, if_pos rfl]; rfl
  refine ite_rs (fun _ => ?_) (fun _ => ?_)
  · rw [txEq_c w ka ta (by decide) (by decide) (show codes (cStr.getD (23 - 1) "") = codes "==" by decide), if_neg c14, if_pos rfl]; rfl
  refine ite_rs (fun _ => ?_) (fun _ => ?_)
  · rw [txEq_c w ka ta (by decide) (by decide) (show codes (cStr.getD (25 - 1) "") = codes ">=" by decide), if_neg c15, if_pos rfl]; rfl
  refine ite_rs (fun _ => ?_) (fun _ => ?_)
  · rw [txEq_c w ka ta (by decide) (by decide) (show codes (cStr.getD (26 - 1) "") = codes ">>" by decide), if_neg c16, if_pos rfl]; rfl
  refine ite_rs (fun _ => ?_) (fun _ => ?_)
  · rw [txEq_c w ka ta (by decide) (by decide) (show codes (cStr.getD (75 - 1) "") = codes "||" by decide), if_neg c17, if_pos rfl]; rfl
  refine ite_rs (fun _ => ?_) (fun _ => ?_)
  · rw [txEq_c w ka ta (by decide) (by decide) (show codes (cStr.getD (27 - 1) "") = codes ">>>" by decide), if_neg c18, if_pos rfl]; rfl
  rfl
theorem m_plainKind {h : HP} (w : WG h) {a : Nat} {l : List Nat} (ka : kc h a = 71) (ta : tx h a = l) : f_X4_plainKind a h = rok (if l = codes "double" then (7 : Int32) else if l = codes "int" then (4 : Int32) else if l = codes "byte" then (1 : Int32) else if l = codes "char" then (3 : Int32) else if l = codes "long" then (5 : Int32) else if l = codes "boolean" then (0 : Int32) else if l = codes "float" then (6 : Int32) else if l = codes "short" then (2 : Int32) else (-1 : Int32)) h := by
  by_cases c0 : l = codes "double"
  · rw [if_pos c0]
    unfold f_X4_plainKind
    rw [txHash_e ka, ta, c0]
    rw [if_pos (by decide), txEq_c w ka (ta.trans c0) (by decide) (by decide) (show codes (cStr.getD (46 - 1) "") = codes "double" by decide), if_pos rfl, if_neg (by decide)]
    rfl
  by_cases c1 : l = codes "int"
  · rw [if_neg (show ¬ l = codes "double" from fun z => absurd (z.symm.trans c1) (by decide)), if_pos c1]
    unfold f_X4_plainKind
    rw [txHash_e ka, ta, c1]
    rw [if_neg (by decide), if_pos (by decide), txEq_c w ka (ta.trans c1) (by decide) (by decide) (show codes (cStr.getD (58 - 1) "") = codes "int" by decide), if_pos rfl, if_neg (by decide)]
    rfl
  by_cases c2 : l = codes "byte"
  · rw [if_neg (show ¬ l = codes "double" from fun z => absurd (z.symm.trans c2) (by decide)), if_neg (show ¬ l = codes "int" from fun z => absurd (z.symm.trans c2) (by decide)), if_pos c2]
    unfold f_X4_plainKind
    rw [txHash_e ka, ta, c2]
    rw [if_neg (by decide), if_neg (by decide), if_pos (by decide), txEq_c w ka (ta.trans c2) (by decide) (by decide) (show codes (cStr.getD (41 - 1) "") = codes "byte" by decide), if_pos rfl, if_neg (by decide)]
    rfl
  by_cases c3 : l = codes "char"
  · rw [if_neg (show ¬ l = codes "double" from fun z => absurd (z.symm.trans c3) (by decide)), if_neg (show ¬ l = codes "int" from fun z => absurd (z.symm.trans c3) (by decide)), if_neg (show ¬ l = codes "byte" from fun z => absurd (z.symm.trans c3) (by decide)), if_pos c3]
    unfold f_X4_plainKind
    rw [txHash_e ka, ta, c3]
    rw [if_neg (by decide), if_neg (by decide), if_neg (by decide), if_pos (by decide), txEq_c w ka (ta.trans c3) (by decide) (by decide) (show codes (cStr.getD (42 - 1) "") = codes "char" by decide), if_pos rfl, if_neg (by decide)]
    rfl
  by_cases c4 : l = codes "long"
  · rw [if_neg (show ¬ l = codes "double" from fun z => absurd (z.symm.trans c4) (by decide)), if_neg (show ¬ l = codes "int" from fun z => absurd (z.symm.trans c4) (by decide)), if_neg (show ¬ l = codes "byte" from fun z => absurd (z.symm.trans c4) (by decide)), if_neg (show ¬ l = codes "char" from fun z => absurd (z.symm.trans c4) (by decide)), if_pos c4]
    unfold f_X4_plainKind
    rw [txHash_e ka, ta, c4]
    rw [if_neg (by decide), if_neg (by decide), if_neg (by decide), if_neg (by decide), if_pos (by decide), txEq_c w ka (ta.trans c4) (by decide) (by decide) (show codes (cStr.getD (61 - 1) "") = codes "long" by decide), if_pos rfl, if_neg (by decide)]
    rfl
  by_cases c5 : l = codes "boolean"
  · rw [if_neg (show ¬ l = codes "double" from fun z => absurd (z.symm.trans c5) (by decide)), if_neg (show ¬ l = codes "int" from fun z => absurd (z.symm.trans c5) (by decide)), if_neg (show ¬ l = codes "byte" from fun z => absurd (z.symm.trans c5) (by decide)), if_neg (show ¬ l = codes "char" from fun z => absurd (z.symm.trans c5) (by decide)), if_neg (show ¬ l = codes "long" from fun z => absurd (z.symm.trans c5) (by decide)), if_pos c5]
    unfold f_X4_plainKind
    rw [txHash_e ka, ta, c5]
    rw [if_neg (by decide), if_neg (by decide), if_neg (by decide), if_neg (by decide), if_neg (by decide), if_pos (by decide), txEq_c w ka (ta.trans c5) (by decide) (by decide) (show codes (cStr.getD (39 - 1) "") = codes "boolean" by decide), if_pos rfl, if_neg (by decide)]
    rfl
  by_cases c6 : l = codes "float"
  · rw [if_neg (show ¬ l = codes "double" from fun z => absurd (z.symm.trans c6) (by decide)), if_neg (show ¬ l = codes "int" from fun z => absurd (z.symm.trans c6) (by decide)), if_neg (show ¬ l = codes "byte" from fun z => absurd (z.symm.trans c6) (by decide)), if_neg (show ¬ l = codes "char" from fun z => absurd (z.symm.trans c6) (by decide)), if_neg (show ¬ l = codes "long" from fun z => absurd (z.symm.trans c6) (by decide)), if_neg (show ¬ l = codes "boolean" from fun z => absurd (z.symm.trans c6) (by decide)), if_pos c6]
    unfold f_X4_plainKind
    rw [txHash_e ka, ta, c6]
    rw [if_neg (by decide), if_neg (by decide), if_neg (by decide), if_neg (by decide), if_neg (by decide), if_neg (by decide), if_pos (by decide), txEq_c w ka (ta.trans c6) (by decide) (by decide) (show codes (cStr.getD (52 - 1) "") = codes "float" by decide), if_pos rfl, if_neg (by decide)]
    rfl
  by_cases c7 : l = codes "short"
  · rw [if_neg (show ¬ l = codes "double" from fun z => absurd (z.symm.trans c7) (by decide)), if_neg (show ¬ l = codes "int" from fun z => absurd (z.symm.trans c7) (by decide)), if_neg (show ¬ l = codes "byte" from fun z => absurd (z.symm.trans c7) (by decide)), if_neg (show ¬ l = codes "char" from fun z => absurd (z.symm.trans c7) (by decide)), if_neg (show ¬ l = codes "long" from fun z => absurd (z.symm.trans c7) (by decide)), if_neg (show ¬ l = codes "boolean" from fun z => absurd (z.symm.trans c7) (by decide)), if_neg (show ¬ l = codes "float" from fun z => absurd (z.symm.trans c7) (by decide)), if_pos c7]
    unfold f_X4_plainKind
    rw [txHash_e ka, ta, c7]
    rw [if_neg (by decide), if_neg (by decide), if_neg (by decide), if_neg (by decide), if_neg (by decide), if_neg (by decide), if_neg (by decide), if_pos (by decide), txEq_c w ka (ta.trans c7) (by decide) (by decide) (show codes (cStr.getD (67 - 1) "") = codes "short" by decide), if_pos rfl, if_neg (by decide)]
    rfl
  rw [if_neg c0, if_neg c1, if_neg c2, if_neg c3, if_neg c4, if_neg c5, if_neg c6, if_neg c7]
  unfold f_X4_plainKind
  rw [txHash_e ka, ta]
  refine ite_rs (fun _ => ?_) (fun _ => ?_)
  · rw [txEq_c w ka ta (by decide) (by decide) (show codes (cStr.getD (46 - 1) "") = codes "double" by decide), if_neg c0, if_pos rfl]; rfl
  refine ite_rs (fun _ => ?_) (fun _ => ?_)
  · rw [txEq_c w ka ta (by decide) (by decide) (show codes (cStr.getD (58 - 1) "") = codes "int" by decide), if_neg c1, if_pos rfl]; rfl
  refine ite_rs (fun _ => ?_) (fun _ => ?_)
  · rw [txEq_c w ka ta (by decide) (by decide) (show codes (cStr.getD (41 - 1) "") = codes "byte" by decide), if_neg c2, if_pos rfl]; rfl
  refine ite_rs (fun _ => ?_) (fun _ => ?_)
  · rw [txEq_c w ka ta (by decide) (by decide) (show codes (cStr.getD (42 - 1) "") = codes "char" by decide), if_neg c3, if_pos rfl]; rfl
  refine ite_rs (fun _ => ?_) (fun _ => ?_)
  · rw [txEq_c w ka ta (by decide) (by decide) (show codes (cStr.getD (61 - 1) "") = codes "long" by decide), if_neg c4, if_pos rfl]; rfl
  refine ite_rs (fun _ => ?_) (fun _ => ?_)
  · rw [txEq_c w ka ta (by decide) (by decide) (show codes (cStr.getD (39 - 1) "") = codes "boolean" by decide), if_neg c5, if_pos rfl]; rfl
  refine ite_rs (fun _ => ?_) (fun _ => ?_)
  · rw [txEq_c w ka ta (by decide) (by decide) (show codes (cStr.getD (52 - 1) "") = codes "float" by decide), if_neg c6, if_pos rfl]; rfl
  refine ite_rs (fun _ => ?_) (fun _ => ?_)
  · rw [txEq_c w ka ta (by decide) (by decide) (show codes (cStr.getD (67 - 1) "") = codes "short" by decide), if_neg c7, if_pos rfl]; rfl
  rfl
