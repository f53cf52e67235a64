/-! PHASE B: one step of the printed loops -/
set_option maxRecDepth 100000
theorem f_X39_copies_l56_s (v0 : Nat) (v1 : Int32) (v2 : Int32) (v3 : Int32) (n : Nat) : f_X39_copies_l56 v0 v1 v2 v3 (n + 1) = b_X39_copies_l56 v0 v1 v2 v3 (f_X39_copies_l56 v0 v1 v2 v3 n) := rfl
theorem f_X39_copies_l4_s (v0 : Nat) (n : Nat) : f_X39_copies_l4 v0 (n + 1) = b_X39_copies_l4 v0 (f_X39_copies_l4 v0 n) := rfl
theorem f_X35_valuesIn_l35_s (v3 : Int32) (n : Nat) : f_X35_valuesIn_l35 v3 (n + 1) = b_X35_valuesIn_l35 v3 (f_X35_valuesIn_l35 v3 n) := rfl
theorem f_X39_isThere_l7_s (v0 : Nat) (v1 : Int32) (v2 : Int32) (v3 : Int64) (n : Nat) : f_X39_isThere_l7 v0 v1 v2 v3 (n + 1) = b_X39_isThere_l7 v0 v1 v2 v3 (f_X39_isThere_l7 v0 v1 v2 v3 n) := rfl
theorem f_X35_change_l81_s (v0 : Nat) (v1 : Int32) (v2 : Nat) (v3 : Nat) (v4 : Nat) (n : Nat) : f_X35_change_l81 v0 v1 v2 v3 v4 (n + 1) = b_X35_change_l81 v0 v1 v2 v3 v4 (f_X35_change_l81 v0 v1 v2 v3 v4 n) := rfl
theorem f_X39_apply_l6_s (v0 : Nat) (n : Nat) : f_X39_apply_l6 v0 (n + 1) = b_X39_apply_l6 v0 (f_X39_apply_l6 v0 n) := rfl
theorem f_X39_apply_l181_s (v0 : Nat) (n : Nat) : f_X39_apply_l181 v0 (n + 1) = b_X39_apply_l181 v0 (f_X39_apply_l181 v0 n) := rfl
theorem f_X35_findText_l2_s (v0 : Nat) (v1 : Nat) (n : Nat) : f_X35_findText_l2 v0 v1 (n + 1) = b_X35_findText_l2 v0 v1 (f_X35_findText_l2 v0 v1 n) := rfl
theorem f_X0_makeTexts_l43_s (v0 : Nat) (v1 : Nat) (v2 : Int32) (v3 : Int32) (n : Nat) : f_X0_makeTexts_l43 v0 v1 v2 v3 (n + 1) = b_X0_makeTexts_l43 v0 v1 v2 v3 (f_X0_makeTexts_l43 v0 v1 v2 v3 n) := rfl
theorem f_X0_makeTexts_l4_s (v0 : Nat) (v1 : Nat) (n : Nat) : f_X0_makeTexts_l4 v0 v1 (n + 1) = b_X0_makeTexts_l4 v0 v1 (f_X0_makeTexts_l4 v0 v1 n) := rfl
theorem f_X0_makeTexts_l126_s (v0 : Nat) (v1 : Nat) (n : Nat) : f_X0_makeTexts_l126 v0 v1 (n + 1) = b_X0_makeTexts_l126 v0 v1 (f_X0_makeTexts_l126 v0 v1 n) := rfl
theorem f_X2_named_l2_s (v0 : Nat) (v1 : Nat) (n : Nat) : f_X2_named_l2 v0 v1 (n + 1) = b_X2_named_l2 v0 v1 (f_X2_named_l2 v0 v1 n) := rfl
theorem f_X10_resolve_l40_s (v0 : Nat) (v1 : Nat) (v2 : Int32) (v3 : Int32) (v4 : Nat) (n : Nat) : f_X10_resolve_l40 v0 v1 v2 v3 v4 (n + 1) = b_X10_resolve_l40 v0 v1 v2 v3 v4 (f_X10_resolve_l40 v0 v1 v2 v3 v4 n) := rfl
theorem f_X10_resolve_l2_s (v0 : Nat) (v1 : Nat) (v2 : Int32) (n : Nat) : f_X10_resolve_l2 v0 v1 v2 (n + 1) = b_X10_resolve_l2 v0 v1 v2 (f_X10_resolve_l2 v0 v1 v2 n) := rfl
theorem f_X35_nextAlive_l4_s (v0 : Nat) (v1 : Nat) (n : Nat) : f_X35_nextAlive_l4 v0 v1 (n + 1) = b_X35_nextAlive_l4 v0 v1 (f_X35_nextAlive_l4 v0 v1 n) := rfl
theorem f_X3_own_l2_s (v0 : Nat) (v1 : Nat) (n : Nat) : f_X3_own_l2 v0 v1 (n + 1) = b_X3_own_l2 v0 v1 (f_X3_own_l2 v0 v1 n) := rfl
theorem f_X3_isCovered_l2_s (v0 : Nat) (v1 : Nat) (v2 : Nat) (n : Nat) : f_X3_isCovered_l2 v0 v1 v2 (n + 1) = b_X3_isCovered_l2 v0 v1 v2 (f_X3_isCovered_l2 v0 v1 v2 n) := rfl
theorem f_X3_taken_l28_s (v0 : Nat) (v1 : Nat) (n : Nat) : f_X3_taken_l28 v0 v1 (n + 1) = b_X3_taken_l28 v0 v1 (f_X3_taken_l28 v0 v1 n) := rfl
theorem f_X20_work_l85_s (R : TY_S2) (v0 : Nat) (v1 : Nat) (v2 : Int32) (v3 : Int32) (v4 : Int32) (n : Nat) : f_X20_work_l85 R v0 v1 v2 v3 v4 (n + 1) = b_X20_work_l85 R v0 v1 v2 v3 v4 (f_X20_work_l85 R v0 v1 v2 v3 v4 n) := rfl
theorem f_X25_work_l69_s (R : TY_S2) (v0 : Nat) (v1 : Nat) (v2 : Int32) (n : Nat) : f_X25_work_l69 R v0 v1 v2 (n + 1) = b_X25_work_l69 R v0 v1 v2 (f_X25_work_l69 R v0 v1 v2 n) := rfl
theorem f_X43_row_l40_s (v0 : Nat) (v3 : Int32) (n : Nat) : f_X43_row_l40 v0 v3 (n + 1) = b_X43_row_l40 v0 v3 (f_X43_row_l40 v0 v3 n) := rfl
theorem f_X43_go_l81_s (R : TY_S3) (v0 : Nat) (v1 : Int32) (v2 : Nat) (v3 : Int32) (n : Nat) : f_X43_go_l81 R v0 v1 v2 v3 (n + 1) = b_X43_go_l81 R v0 v1 v2 v3 (f_X43_go_l81 R v0 v1 v2 v3 n) := rfl
theorem f_X35_compareTexts_l38_s (v3 : Nat) (v4 : Nat) (v5 : Int32) (n : Nat) : f_X35_compareTexts_l38 v3 v4 v5 (n + 1) = b_X35_compareTexts_l38 v3 v4 v5 (f_X35_compareTexts_l38 v3 v4 v5 n) := rfl
theorem f_X43_join_l9_s (v0 : Nat) (v2 : Int32) (v3 : Int32) (n : Nat) : f_X43_join_l9 v0 v2 v3 (n + 1) = b_X43_join_l9 v0 v2 v3 (f_X43_join_l9 v0 v2 v3 n) := rfl
theorem f_X43_sort_l2_s (v0 : Nat) (n : Nat) : f_X43_sort_l2 v0 (n + 1) = b_X43_sort_l2 v0 (f_X43_sort_l2 v0 n) := rfl
theorem f_X43_sort_l43_s (v0 : Nat) (v1 : Int32) (n : Nat) : f_X43_sort_l43 v0 v1 (n + 1) = b_X43_sort_l43 v0 v1 (f_X43_sort_l43 v0 v1 n) := rfl
theorem f_X43_sort_l89_s (v0 : Nat) (v1 : Int32) (n : Nat) : f_X43_sort_l89 v0 v1 (n + 1) = b_X43_sort_l89 v0 v1 (f_X43_sort_l89 v0 v1 n) := rfl
theorem f_X43_sort_l33_s (v0 : Nat) (n : Nat) : f_X43_sort_l33 v0 (n + 1) = b_X43_sort_l33 v0 (f_X43_sort_l33 v0 n) := rfl
theorem f_X43_ask_l39_s (v0 : Nat) (n : Nat) : f_X43_ask_l39 v0 (n + 1) = b_X43_ask_l39 v0 (f_X43_ask_l39 v0 n) := rfl
theorem f_X43_ask_l110_s (v0 : Nat) (v2 : Int32) (n : Nat) : f_X43_ask_l110 v0 v2 (n + 1) = b_X43_ask_l110 v0 v2 (f_X43_ask_l110 v0 v2 n) := rfl
theorem f_X43_ask_l100_s (v0 : Nat) (n : Nat) : f_X43_ask_l100 v0 (n + 1) = b_X43_ask_l100 v0 (f_X43_ask_l100 v0 n) := rfl
theorem f_X9_isIn_l15_s (v0 : Nat) (v1 : Nat) (v2 : Int32) (n : Nat) : f_X9_isIn_l15 v0 v1 v2 (n + 1) = b_X9_isIn_l15 v0 v1 v2 (f_X9_isIn_l15 v0 v1 v2 n) := rfl
theorem f_X9_isIn_l2_s (v0 : Nat) (v1 : Nat) (n : Nat) : f_X9_isIn_l2 v0 v1 (n + 1) = b_X9_isIn_l2 v0 v1 (f_X9_isIn_l2 v0 v1 n) := rfl
theorem f_X9_part_l14_s (v0 : Nat) (v2 : Int32) (v3 : Nat) (n : Nat) : f_X9_part_l14 v0 v2 v3 (n + 1) = b_X9_part_l14 v0 v2 v3 (f_X9_part_l14 v0 v2 v3 n) := rfl
theorem f_X9_readName_l2_s (v0 : Nat) (v1 : Int32) (n : Nat) : f_X9_readName_l2 v0 v1 (n + 1) = b_X9_readName_l2 v0 v1 (f_X9_readName_l2 v0 v1 n) := rfl
theorem f_X9_readReal_l4_s (v0 : Nat) (v1 : Int32) (v2 : Int32) (n : Nat) : f_X9_readReal_l4 v0 v1 v2 (n + 1) = b_X9_readReal_l4 v0 v1 v2 (f_X9_readReal_l4 v0 v1 v2 n) := rfl
theorem f_X9_readReal_l42_s (v0 : Nat) (v2 : Int32) (v3 : Int32) (n : Nat) : f_X9_readReal_l42 v0 v2 v3 (n + 1) = b_X9_readReal_l42 v0 v2 v3 (f_X9_readReal_l42 v0 v2 v3 n) := rfl
theorem f_X9_readReal_l88_s (v0 : Nat) (v3 : Int32) (v4 : Int64) (n : Nat) : f_X9_readReal_l88 v0 v3 v4 (n + 1) = b_X9_readReal_l88 v0 v3 v4 (f_X9_readReal_l88 v0 v3 v4 n) := rfl
theorem f_X9_readNumber_l2_s (v0 : Nat) (v1 : Int32) (n : Nat) : f_X9_readNumber_l2 v0 v1 (n + 1) = b_X9_readNumber_l2 v0 v1 (f_X9_readNumber_l2 v0 v1 n) := rfl
theorem f_X9_readNumber_l86_s (v0 : Nat) (v2 : Int32) (v3 : Int32) (v4 : Int64) (n : Nat) : f_X9_readNumber_l86 v0 v2 v3 v4 (n + 1) = b_X9_readNumber_l86 v0 v2 v3 v4 (f_X9_readNumber_l86 v0 v2 v3 v4 n) := rfl
theorem f_X9_readString_l4_s (v0 : Nat) (v1 : Int32) (n : Nat) : f_X9_readString_l4 v0 v1 (n + 1) = b_X9_readString_l4 v0 v1 (f_X9_readString_l4 v0 v1 n) := rfl
theorem f_X9_next_l5_s (v0 : Nat) (n : Nat) : f_X9_next_l5 v0 (n + 1) = b_X9_next_l5 v0 (f_X9_next_l5 v0 n) := rfl
theorem f_X10_type_l51_s (v0 : Nat) (v1 : Int32) (v2 : Nat) (n : Nat) : f_X10_type_l51 v0 v1 v2 (n + 1) = b_X10_type_l51 v0 v1 v2 (f_X10_type_l51 v0 v1 v2 n) := rfl
theorem f_X10_isIn_l2_s (v0 : Nat) (v1 : Nat) (n : Nat) : f_X10_isIn_l2 v0 v1 (n + 1) = b_X10_isIn_l2 v0 v1 (f_X10_isIn_l2 v0 v1 n) := rfl
theorem f_X10_binary_l80_s (R : TY_S4) (v0 : Nat) (v1 : Int32) (v2 : Int32) (n : Nat) : f_X10_binary_l80 R v0 v1 v2 (n + 1) = b_X10_binary_l80 R v0 v1 v2 (f_X10_binary_l80 R v0 v1 v2 n) := rfl
theorem f_X10_call_l44_s (R : TY_S4) (v0 : Nat) (v1 : Int32) (v2 : Nat) (v3 : Nat) (v5 : Int32) (v6 : Nat) (n : Nat) : f_X10_call_l44 R v0 v1 v2 v3 v5 v6 (n + 1) = b_X10_call_l44 R v0 v1 v2 v3 v5 v6 (f_X10_call_l44 R v0 v1 v2 v3 v5 v6 n) := rfl
theorem f_X10_call_l113_s (R : TY_S4) (v6 : Nat) (v8 : Nat) (n : Nat) : f_X10_call_l113 R v6 v8 (n + 1) = b_X10_call_l113 R v6 v8 (f_X10_call_l113 R v6 v8 n) := rfl
theorem f_X10_postfix_l5_s (R : TY_S4) (v0 : Nat) (v2 : Int32) (n : Nat) : f_X10_postfix_l5 R v0 v2 (n + 1) = b_X10_postfix_l5 R v0 v2 (f_X10_postfix_l5 R v0 v2 n) := rfl
theorem f_X43_read_l72_s (v0 : Nat) (v1 : Nat) (v2 : Nat) (n : Nat) : f_X43_read_l72 v0 v1 v2 (n + 1) = b_X43_read_l72 v0 v1 v2 (f_X43_read_l72 v0 v1 v2 n) := rfl
theorem f_X43_read_l257_s (v0 : Nat) (v1 : Nat) (v2 : Nat) (n : Nat) : f_X43_read_l257 v0 v1 v2 (n + 1) = b_X43_read_l257 v0 v1 v2 (f_X43_read_l257 v0 v1 v2 n) := rfl
theorem f_X32_find_l5_s (v1 : Nat) (n : Nat) : f_X32_find_l5 v1 (n + 1) = b_X32_find_l5 v1 (f_X32_find_l5 v1 n) := rfl
theorem f_X32_kindAt_l5_s (v1 : Int32) (n : Nat) : f_X32_kindAt_l5 v1 (n + 1) = b_X32_kindAt_l5 v1 (f_X32_kindAt_l5 v1 n) := rfl
theorem f_X3_field_l2_s (v0 : Nat) (v1 : Nat) (n : Nat) : f_X3_field_l2 v0 v1 (n + 1) = b_X3_field_l2 v0 v1 (f_X3_field_l2 v0 v1 n) := rfl
theorem f_X3_meant_l8_s (v0 : Nat) (v1 : Nat) (n : Nat) : f_X3_meant_l8 v0 v1 (n + 1) = b_X3_meant_l8 v0 v1 (f_X3_meant_l8 v0 v1 n) := rfl
theorem f_X20_check_l17_s (R : TY_S5) (v0 : Nat) (v1 : Nat) (n : Nat) : f_X20_check_l17 R v0 v1 (n + 1) = b_X20_check_l17 R v0 v1 (f_X20_check_l17 R v0 v1 n) := rfl
theorem f_X20_check_l172_s (R : TY_S5) (v0 : Nat) (v1 : Nat) (n : Nat) : f_X20_check_l172 R v0 v1 (n + 1) = b_X20_check_l172 R v0 v1 (f_X20_check_l172 R v0 v1 n) := rfl
theorem f_X23_check_l65_s (R : TY_S5) (v0 : Nat) (v1 : Nat) (v2 : Nat) (n : Nat) : f_X23_check_l65 R v0 v1 v2 (n + 1) = b_X23_check_l65 R v0 v1 v2 (f_X23_check_l65 R v0 v1 v2 n) := rfl
theorem f_X43_settle_l4_s (v0 : Nat) (v1 : Nat) (n : Nat) : f_X43_settle_l4 v0 v1 (n + 1) = b_X43_settle_l4 v0 v1 (f_X43_settle_l4 v0 v1 n) := rfl
theorem f_X43_settle_l333_s (v0 : Nat) (v1 : Nat) (n : Nat) : f_X43_settle_l333 v0 v1 (n + 1) = b_X43_settle_l333 v0 v1 (f_X43_settle_l333 v0 v1 n) := rfl
theorem f_X0_asked_l14_s (v0 : Nat) (v1 : Int32) (v2 : Nat) (n : Nat) : f_X0_asked_l14 v0 v1 v2 (n + 1) = b_X0_asked_l14 v0 v1 v2 (f_X0_asked_l14 v0 v1 v2 n) := rfl
theorem f_X36_begin_l13_s (v0 : Nat) (v3 : Nat) (v4 : Int32) (n : Nat) : f_X36_begin_l13 v0 v3 v4 (n + 1) = b_X36_begin_l13 v0 v3 v4 (f_X36_begin_l13 v0 v3 v4 n) := rfl
theorem f_X36_begin_l54_s (v0 : Nat) (v3 : Nat) (v4 : Int32) (n : Nat) : f_X36_begin_l54 v0 v3 v4 (n + 1) = b_X36_begin_l54 v0 v3 v4 (f_X36_begin_l54 v0 v3 v4 n) := rfl
theorem f_X36_begin_l81_s (v0 : Nat) (v3 : Nat) (v4 : Int32) (n : Nat) : f_X36_begin_l81 v0 v3 v4 (n + 1) = b_X36_begin_l81 v0 v3 v4 (f_X36_begin_l81 v0 v3 v4 n) := rfl
theorem f_X35_begin_l2_s (v0 : Nat) (n : Nat) : f_X35_begin_l2 v0 (n + 1) = b_X35_begin_l2 v0 (f_X35_begin_l2 v0 n) := rfl
theorem f_X0_hasDeadArgument_l2_s (v0 : Nat) (n : Nat) : f_X0_hasDeadArgument_l2 v0 (n + 1) = b_X0_hasDeadArgument_l2 v0 (f_X0_hasDeadArgument_l2 v0 n) := rfl
theorem f_X0_called_l93_s (v0 : Nat) (v1 : Int32) (v2 : Int32) (v4 : Nat) (n : Nat) : f_X0_called_l93 v0 v1 v2 v4 (n + 1) = b_X0_called_l93 v0 v1 v2 v4 (f_X0_called_l93 v0 v1 v2 v4 n) := rfl
theorem f_X0_called_l159_s (v0 : Nat) (v1 : Int32) (v4 : Nat) (n : Nat) : f_X0_called_l159 v0 v1 v4 (n + 1) = b_X0_called_l159 v0 v1 v4 (f_X0_called_l159 v0 v1 v4 n) := rfl
theorem f_X0_textOf_l11_s (v0 : Nat) (v1 : Int32) (v2 : Nat) (n : Nat) : f_X0_textOf_l11 v0 v1 v2 (n + 1) = b_X0_textOf_l11 v0 v1 v2 (f_X0_textOf_l11 v0 v1 v2 n) := rfl
theorem f_X0_cloned_l117_s (v4 : Int32) (v5 : Nat) (v6 : Nat) (v7 : Nat) (n : Nat) : f_X0_cloned_l117 v4 v5 v6 v7 (n + 1) = b_X0_cloned_l117 v4 v5 v6 v7 (f_X0_cloned_l117 v4 v5 v6 v7 n) := rfl
theorem f_X0_copied_l89_s (v0 : Nat) (v2 : Int32) (v4 : Int32) (v5 : Int32) (v6 : Nat) (v7 : Nat) (v8 : Nat) (n : Nat) : f_X0_copied_l89 v0 v2 v4 v5 v6 v7 v8 (n + 1) = b_X0_copied_l89 v0 v2 v4 v5 v6 v7 v8 (f_X0_copied_l89 v0 v2 v4 v5 v6 v7 v8 n) := rfl
theorem f_X0_copied_l58_s (v2 : Int32) (v4 : Int32) (v7 : Nat) (v8 : Nat) (n : Nat) : f_X0_copied_l58 v2 v4 v7 v8 (n + 1) = b_X0_copied_l58 v2 v4 v7 v8 (f_X0_copied_l58 v2 v4 v7 v8 n) := rfl
theorem f_X2_cut_l0_s (v0 : Nat) (v1 : Int32) (n : Nat) : f_X2_cut_l0 v0 v1 (n + 1) = b_X2_cut_l0 v0 v1 (f_X2_cut_l0 v0 v1 n) := rfl
theorem f_X35_clear_l2_s (v0 : Nat) (v1 : Int32) (n : Nat) : f_X35_clear_l2 v0 v1 (n + 1) = b_X35_clear_l2 v0 v1 (f_X35_clear_l2 v0 v1 n) := rfl
theorem f_X35_clear_l59_s (v0 : Nat) (n : Nat) : f_X35_clear_l59 v0 (n + 1) = b_X35_clear_l59 v0 (f_X35_clear_l59 v0 n) := rfl
theorem f_X35_clear_l83_s (v0 : Nat) (n : Nat) : f_X35_clear_l83 v0 (n + 1) = b_X35_clear_l83 v0 (f_X35_clear_l83 v0 n) := rfl
theorem f_X35_clear_l107_s (v0 : Nat) (n : Nat) : f_X35_clear_l107 v0 (n + 1) = b_X35_clear_l107 v0 (f_X35_clear_l107 v0 n) := rfl
theorem f_X0_scan_l25_s (v0 : Nat) (v3 : Nat) (n : Nat) : f_X0_scan_l25 v0 v3 (n + 1) = b_X0_scan_l25 v0 v3 (f_X0_scan_l25 v0 v3 n) := rfl
theorem f_X11_member_l268_s (v0 : Nat) (v1 : Nat) (v3 : Int32) (v4 : Int32) (v5 : Int32) (v7 : Nat) (v8 : Int32) (v9 : Nat) (v11 : Nat) (v12 : Nat) (v13 : Nat) (n : Nat) : f_X11_member_l268 v0 v1 v3 v4 v5 v7 v8 v9 v11 v12 v13 (n + 1) = b_X11_member_l268 v0 v1 v3 v4 v5 v7 v8 v9 v11 v12 v13 (f_X11_member_l268 v0 v1 v3 v4 v5 v7 v8 v9 v11 v12 v13 n) := rfl
theorem f_X11_member_l484_s (v11 : Nat) (v12 : Nat) (v13 : Nat) (v17 : Nat) (v18 : Nat) (n : Nat) : f_X11_member_l484 v11 v12 v13 v17 v18 (n + 1) = b_X11_member_l484 v11 v12 v13 v17 v18 (f_X11_member_l484 v11 v12 v13 v17 v18 n) := rfl
theorem f_X11_body_l11_s (v0 : Nat) (v1 : Nat) (n : Nat) : f_X11_body_l11 v0 v1 (n + 1) = b_X11_body_l11 v0 v1 (f_X11_body_l11 v0 v1 n) := rfl
theorem f_X11_components_l27_s (v0 : Nat) (v1 : Nat) (n : Nat) : f_X11_components_l27 v0 v1 (n + 1) = b_X11_components_l27 v0 v1 (f_X11_components_l27 v0 v1 n) := rfl
theorem f_X11_enumeration_l9_s (v0 : Nat) (v1 : Nat) (n : Nat) : f_X11_enumeration_l9 v0 v1 (n + 1) = b_X11_enumeration_l9 v0 v1 (f_X11_enumeration_l9 v0 v1 n) := rfl
theorem f_X11_faces_l0_s (v0 : Nat) (v1 : Nat) (n : Nat) : f_X11_faces_l0 v0 v1 (n + 1) = b_X11_faces_l0 v0 v1 (f_X11_faces_l0 v0 v1 n) := rfl
theorem f_X11_read_l7_s (v0 : Nat) (n : Nat) : f_X11_read_l7 v0 (n + 1) = b_X11_read_l7 v0 (f_X11_read_l7 v0 n) := rfl
theorem f_X11_bodies_l77_s (v0 : Nat) (v1 : Nat) (v2 : Int32) (v3 : Nat) (v4 : Nat) (n : Nat) : f_X11_bodies_l77 v0 v1 v2 v3 v4 (n + 1) = b_X11_bodies_l77 v0 v1 v2 v3 v4 (f_X11_bodies_l77 v0 v1 v2 v3 v4 n) := rfl
theorem f_X11_bodies_l2_s (v0 : Nat) (v1 : Nat) (n : Nat) : f_X11_bodies_l2 v0 v1 (n + 1) = b_X11_bodies_l2 v0 v1 (f_X11_bodies_l2 v0 v1 n) := rfl
theorem f_X11_close_l66_s (v0 : Nat) (v1 : Int32) (v2 : Int32) (v3 : Nat) (n : Nat) : f_X11_close_l66 v0 v1 v2 v3 (n + 1) = b_X11_close_l66 v0 v1 v2 v3 (f_X11_close_l66 v0 v1 v2 v3 n) := rfl
theorem f_X11_close_l10_s (v0 : Nat) (v1 : Int32) (n : Nat) : f_X11_close_l10 v0 v1 (n + 1) = b_X11_close_l10 v0 v1 (f_X11_close_l10 v0 v1 n) := rfl
theorem f_X11_close_l174_s (v0 : Nat) (v1 : Int32) (v2 : Int32) (v3 : Nat) (v4 : Int32) (v5 : Nat) (n : Nat) : f_X11_close_l174 v0 v1 v2 v3 v4 v5 (n + 1) = b_X11_close_l174 v0 v1 v2 v3 v4 v5 (f_X11_close_l174 v0 v1 v2 v3 v4 v5 n) := rfl
theorem f_X11_close_l142_s (v0 : Nat) (v1 : Int32) (v2 : Int32) (v3 : Nat) (n : Nat) : f_X11_close_l142 v0 v1 v2 v3 (n + 1) = b_X11_close_l142 v0 v1 v2 v3 (f_X11_close_l142 v0 v1 v2 v3 n) := rfl
theorem f_X11_close_l113_s (v0 : Nat) (v1 : Int32) (n : Nat) : f_X11_close_l113 v0 v1 (n + 1) = b_X11_close_l113 v0 v1 (f_X11_close_l113 v0 v1 n) := rfl
theorem f_X11_close_l276_s (v0 : Nat) (v1 : Int32) (v2 : Int32) (v3 : Nat) (n : Nat) : f_X11_close_l276 v0 v1 v2 v3 (n + 1) = b_X11_close_l276 v0 v1 v2 v3 (f_X11_close_l276 v0 v1 v2 v3 n) := rfl
theorem f_X11_close_l247_s (v0 : Nat) (v1 : Int32) (n : Nat) : f_X11_close_l247 v0 v1 (n + 1) = b_X11_close_l247 v0 v1 (f_X11_close_l247 v0 v1 n) := rfl
theorem f_X11_complete_l28_s (v0 : Nat) (v1 : Nat) (v2 : Int32) (n : Nat) : f_X11_complete_l28 v0 v1 v2 (n + 1) = b_X11_complete_l28 v0 v1 v2 (f_X11_complete_l28 v0 v1 v2 n) := rfl
theorem f_X11_complete_l17_s (v0 : Nat) (v1 : Nat) (n : Nat) : f_X11_complete_l17 v0 v1 (n + 1) = b_X11_complete_l17 v0 v1 (f_X11_complete_l17 v0 v1 n) := rfl
theorem f_X11_layOut_l67_s (R : TY_S6) (v1 : Nat) (v2 : Nat) (n : Nat) : f_X11_layOut_l67 R v1 v2 (n + 1) = b_X11_layOut_l67 R v1 v2 (f_X11_layOut_l67 R v1 v2 n) := rfl
theorem f_X11_layOut_l124_s (R : TY_S6) (v1 : Nat) (v2 : Nat) (n : Nat) : f_X11_layOut_l124 R v1 v2 (n + 1) = b_X11_layOut_l124 R v1 v2 (f_X11_layOut_l124 R v1 v2 n) := rfl
theorem f_X11_before_l27_s (v0 : Nat) (v2 : Nat) (v4 : Nat) (v5 : Nat) (n : Nat) : f_X11_before_l27 v0 v2 v4 v5 (n + 1) = b_X11_before_l27 v0 v2 v4 v5 (f_X11_before_l27 v0 v2 v4 v5 n) := rfl
theorem f_X11_before_l8_s (v0 : Nat) (v2 : Nat) (n : Nat) : f_X11_before_l8 v0 v2 (n + 1) = b_X11_before_l8 v0 v2 (f_X11_before_l8 v0 v2 n) := rfl
theorem f_X11_method_l108_s (v0 : Nat) (v1 : Nat) (v2 : Nat) (v4 : Nat) (v5 : Int32) (v6 : Nat) (n : Nat) : f_X11_method_l108 v0 v1 v2 v4 v5 v6 (n + 1) = b_X11_method_l108 v0 v1 v2 v4 v5 v6 (f_X11_method_l108 v0 v1 v2 v4 v5 v6 n) := rfl
theorem f_X11_method_l21_s (v0 : Nat) (v1 : Nat) (v2 : Nat) (v4 : Nat) (n : Nat) : f_X11_method_l21 v0 v1 v2 v4 (n + 1) = b_X11_method_l21 v0 v1 v2 v4 (f_X11_method_l21 v0 v1 v2 v4 n) := rfl
theorem f_X11_members_l125_s (v0 : Nat) (v1 : Nat) (v2 : Int32) (v3 : Int32) (v4 : Nat) (n : Nat) : f_X11_members_l125 v0 v1 v2 v3 v4 (n + 1) = b_X11_members_l125 v0 v1 v2 v3 v4 (f_X11_members_l125 v0 v1 v2 v3 v4 n) := rfl
theorem f_X11_members_l4_s (v0 : Nat) (v1 : Nat) (n : Nat) : f_X11_members_l4 v0 v1 (n + 1) = b_X11_members_l4 v0 v1 (f_X11_members_l4 v0 v1 n) := rfl
theorem f_X11_members_l240_s (v0 : Nat) (v1 : Nat) (v3 : Nat) (v4 : Int32) (n : Nat) : f_X11_members_l240 v0 v1 v3 v4 (n + 1) = b_X11_members_l240 v0 v1 v3 v4 (f_X11_members_l240 v0 v1 v3 v4 n) := rfl
theorem f_X11_members_l228_s (v0 : Nat) (v1 : Nat) (v3 : Nat) (n : Nat) : f_X11_members_l228 v0 v1 v3 (n + 1) = b_X11_members_l228 v0 v1 v3 (f_X11_members_l228 v0 v1 v3 n) := rfl
theorem f_X30_isLike_l32_s (v0 : Nat) (v1 : Nat) (n : Nat) : f_X30_isLike_l32 v0 v1 (n + 1) = b_X30_isLike_l32 v0 v1 (f_X30_isLike_l32 v0 v1 n) := rfl
theorem f_X11_overrides_l28_s (v0 : Nat) (v1 : Nat) (v2 : Int32) (v3 : Nat) (n : Nat) : f_X11_overrides_l28 v0 v1 v2 v3 (n + 1) = b_X11_overrides_l28 v0 v1 v2 v3 (f_X11_overrides_l28 v0 v1 v2 v3 n) := rfl
theorem f_X11_overrides_l2_s (v0 : Nat) (v1 : Nat) (n : Nat) : f_X11_overrides_l2 v0 v1 (n + 1) = b_X11_overrides_l2 v0 v1 (f_X11_overrides_l2 v0 v1 n) := rfl
theorem f_X11_overrides_l168_s (v0 : Nat) (v1 : Nat) (v2 : Int32) (v3 : Int32) (v4 : Nat) (n : Nat) : f_X11_overrides_l168 v0 v1 v2 v3 v4 (n + 1) = b_X11_overrides_l168 v0 v1 v2 v3 v4 (f_X11_overrides_l168 v0 v1 v2 v3 v4 n) := rfl
theorem f_X11_overrides_l118_s (v0 : Nat) (v1 : Nat) (v2 : Int32) (n : Nat) : f_X11_overrides_l118 v0 v1 v2 (n + 1) = b_X11_overrides_l118 v0 v1 v2 (f_X11_overrides_l118 v0 v1 v2 n) := rfl
theorem f_X11_overrides_l107_s (v0 : Nat) (v1 : Nat) (n : Nat) : f_X11_overrides_l107 v0 v1 (n + 1) = b_X11_overrides_l107 v0 v1 (f_X11_overrides_l107 v0 v1 n) := rfl
theorem f_X11_relate_l138_s (v0 : Nat) (v1 : Nat) (v2 : Int32) (v3 : Nat) (n : Nat) : f_X11_relate_l138 v0 v1 v2 v3 (n + 1) = b_X11_relate_l138 v0 v1 v2 v3 (f_X11_relate_l138 v0 v1 v2 v3 n) := rfl
theorem f_X11_relate_l72_s (v0 : Nat) (v1 : Nat) (n : Nat) : f_X11_relate_l72 v0 v1 (n + 1) = b_X11_relate_l72 v0 v1 (f_X11_relate_l72 v0 v1 n) := rfl
theorem f_X11_settle_l2_s (v0 : Nat) (n : Nat) : f_X11_settle_l2 v0 (n + 1) = b_X11_settle_l2 v0 (f_X11_settle_l2 v0 n) := rfl
theorem f_X11_settle_l60_s (v0 : Nat) (n : Nat) : f_X11_settle_l60 v0 (n + 1) = b_X11_settle_l60 v0 (f_X11_settle_l60 v0 n) := rfl
theorem f_X11_settle_l98_s (v0 : Nat) (n : Nat) : f_X11_settle_l98 v0 (n + 1) = b_X11_settle_l98 v0 (f_X11_settle_l98 v0 n) := rfl
theorem f_X11_settle_l186_s (v0 : Nat) (n : Nat) : f_X11_settle_l186 v0 (n + 1) = b_X11_settle_l186 v0 (f_X11_settle_l186 v0 n) := rfl
theorem f_X11_settle_l220_s (v0 : Nat) (n : Nat) : f_X11_settle_l220 v0 (n + 1) = b_X11_settle_l220 v0 (f_X11_settle_l220 v0 n) := rfl
theorem f_X11_settle_l254_s (v0 : Nat) (n : Nat) : f_X11_settle_l254 v0 (n + 1) = b_X11_settle_l254 v0 (f_X11_settle_l254 v0 n) := rfl
theorem f_X11_settle_l291_s (v0 : Nat) (n : Nat) : f_X11_settle_l291 v0 (n + 1) = b_X11_settle_l291 v0 (f_X11_settle_l291 v0 n) := rfl
theorem f_X11_settle_l330_s (v0 : Nat) (n : Nat) : f_X11_settle_l330 v0 (n + 1) = b_X11_settle_l330 v0 (f_X11_settle_l330 v0 n) := rfl
theorem f_X11_settle_l390_s (v0 : Nat) (n : Nat) : f_X11_settle_l390 v0 (n + 1) = b_X11_settle_l390 v0 (f_X11_settle_l390 v0 n) := rfl
theorem f_X35_init_l88_s (v0 : Nat) (n : Nat) : f_X35_init_l88 v0 (n + 1) = b_X35_init_l88 v0 (f_X35_init_l88 v0 n) := rfl
theorem f_X0_declareAll_l31_s (v0 : Nat) (v1 : Nat) (v2 : Nat) (n : Nat) : f_X0_declareAll_l31 v0 v1 v2 (n + 1) = b_X0_declareAll_l31 v0 v1 v2 (f_X0_declareAll_l31 v0 v1 v2 n) := rfl
theorem f_X0_declareAll_l153_s (v0 : Nat) (v3 : Nat) (v4 : Nat) (v5 : Int32) (v6 : Nat) (n : Nat) : f_X0_declareAll_l153 v0 v3 v4 v5 v6 (n + 1) = b_X0_declareAll_l153 v0 v3 v4 v5 v6 (f_X0_declareAll_l153 v0 v3 v4 v5 v6 n) := rfl
theorem f_X0_declareAll_l121_s (v0 : Nat) (v3 : Nat) (v4 : Nat) (n : Nat) : f_X0_declareAll_l121 v0 v3 v4 (n + 1) = b_X0_declareAll_l121 v0 v3 v4 (f_X0_declareAll_l121 v0 v3 v4 n) := rfl
theorem f_X0_declareAll_l201_s (v0 : Nat) (v3 : Nat) (v4 : Nat) (n : Nat) : f_X0_declareAll_l201 v0 v3 v4 (n + 1) = b_X0_declareAll_l201 v0 v3 v4 (f_X0_declareAll_l201 v0 v3 v4 n) := rfl
theorem f_X2_init_l29_s (v0 : Nat) (v1 : Int32) (v2 : Int32) (n : Nat) : f_X2_init_l29 v0 v1 v2 (n + 1) = b_X2_init_l29 v0 v1 v2 (f_X2_init_l29 v0 v1 v2 n) := rfl
theorem f_X2_init_l21_s (v0 : Nat) (n : Nat) : f_X2_init_l21 v0 (n + 1) = b_X2_init_l21 v0 (f_X2_init_l21 v0 n) := rfl
theorem f_X0_declare_l181_s (v0 : Nat) (n : Nat) : f_X0_declare_l181 v0 (n + 1) = b_X0_declare_l181 v0 (f_X0_declare_l181 v0 n) := rfl
theorem f_X35_drop_l2_s (v0 : Nat) (v1 : Nat) (n : Nat) : f_X35_drop_l2 v0 v1 (n + 1) = b_X35_drop_l2 v0 v1 (f_X35_drop_l2 v0 v1 n) := rfl
theorem f_X35_open_l2_s (v0 : Nat) (v1 : Int32) (n : Nat) : f_X35_open_l2 v0 v1 (n + 1) = b_X35_open_l2 v0 v1 (f_X35_open_l2 v0 v1 n) := rfl
theorem f_X0_four_l3_s (v0 : Nat) (v1 : Int32) (n : Nat) : f_X0_four_l3 v0 v1 (n + 1) = b_X0_four_l3 v0 v1 (f_X0_four_l3 v0 v1 n) := rfl
theorem f_X35_isOfRead_l2_s (v0 : Nat) (v1 : Nat) (v2 : Nat) (n : Nat) : f_X35_isOfRead_l2 v0 v1 v2 (n + 1) = b_X35_isOfRead_l2 v0 v1 v2 (f_X35_isOfRead_l2 v0 v1 v2 n) := rfl
theorem f_X35_clash_l2_s (v0 : Nat) (v1 : Nat) (n : Nat) : f_X35_clash_l2 v0 v1 (n + 1) = b_X35_clash_l2 v0 v1 (f_X35_clash_l2 v0 v1 n) := rfl
theorem f_X35_clash_l49_s (v0 : Nat) (v1 : Nat) (n : Nat) : f_X35_clash_l49 v0 v1 (n + 1) = b_X35_clash_l49 v0 v1 (f_X35_clash_l49 v0 v1 n) := rfl
theorem f_X35_keep_l12_s (v0 : Nat) (v1 : Nat) (n : Nat) : f_X35_keep_l12 v0 v1 (n + 1) = b_X35_keep_l12 v0 v1 (f_X35_keep_l12 v0 v1 n) := rfl
theorem f_X35_keep_l126_s (v0 : Nat) (v1 : Nat) (n : Nat) : f_X35_keep_l126 v0 v1 (n + 1) = b_X35_keep_l126 v0 v1 (f_X35_keep_l126 v0 v1 n) := rfl
theorem f_X40_number_l8_s (v0 : Nat) (v1 : Int64) (n : Nat) : f_X40_number_l8 v0 v1 (n + 1) = b_X40_number_l8 v0 v1 (f_X40_number_l8 v0 v1 n) := rfl
theorem f_X42_sum_l5_s (v0 : Nat) (v2 : Int32) (n : Nat) : f_X42_sum_l5 v0 v2 (n + 1) = b_X42_sum_l5 v0 v2 (f_X42_sum_l5 v0 v2 n) := rfl
theorem f_X42_finish_l119_s (v0 : Nat) (v1 : Int32) (v6 : Int32) (n : Nat) : f_X42_finish_l119 v0 v1 v6 (n + 1) = b_X42_finish_l119 v0 v1 v6 (f_X42_finish_l119 v0 v1 v6 n) := rfl
theorem f_X40_letters_l4_s (v0 : Nat) (v1 : Nat) (n : Nat) : f_X40_letters_l4 v0 v1 (n + 1) = b_X40_letters_l4 v0 v1 (f_X40_letters_l4 v0 v1 n) := rfl
theorem f_X42_thing_l121_s (v0 : Nat) (v1 : Nat) (v5 : Nat) (n : Nat) : f_X42_thing_l121 v0 v1 v5 (n + 1) = b_X42_thing_l121 v0 v1 v5 (f_X42_thing_l121 v0 v1 v5 n) := rfl
theorem f_X42_keep_l43_s (v0 : Nat) (v1 : Nat) (v2 : Int32) (v3 : Int32) (n : Nat) : f_X42_keep_l43 v0 v1 v2 v3 (n + 1) = b_X42_keep_l43 v0 v1 v2 v3 (f_X42_keep_l43 v0 v1 v2 v3 n) := rfl
theorem f_X42_keep_l149_s (v0 : Nat) (v1 : Nat) (v2 : Int32) (n : Nat) : f_X42_keep_l149 v0 v1 v2 (n + 1) = b_X42_keep_l149 v0 v1 v2 (f_X42_keep_l149 v0 v1 v2 n) := rfl
theorem f_X42_keep_l211_s (v0 : Nat) (v1 : Nat) (v2 : Int32) (v3 : Int32) (n : Nat) : f_X42_keep_l211 v0 v1 v2 v3 (n + 1) = b_X42_keep_l211 v0 v1 v2 v3 (f_X42_keep_l211 v0 v1 v2 v3 n) := rfl
theorem f_X42_keep_l264_s (v0 : Nat) (v1 : Nat) (v2 : Int32) (n : Nat) : f_X42_keep_l264 v0 v1 v2 (n + 1) = b_X42_keep_l264 v0 v1 v2 (f_X42_keep_l264 v0 v1 v2 n) := rfl
theorem f_X42_keep_l342_s (v0 : Nat) (n : Nat) : f_X42_keep_l342 v0 (n + 1) = b_X42_keep_l342 v0 (f_X42_keep_l342 v0 n) := rfl
theorem f_X0_missing_l4_s (v1 : Int32) (n : Nat) : f_X0_missing_l4 v1 (n + 1) = b_X0_missing_l4 v1 (f_X0_missing_l4 v1 n) := rfl
theorem f_X0_kind_l22_s (v0 : Nat) (v1 : Nat) (n : Nat) : f_X0_kind_l22 v0 v1 (n + 1) = b_X0_kind_l22 v0 v1 (f_X0_kind_l22 v0 v1 n) := rfl
theorem f_X0_kind_l94_s (v0 : Nat) (v2 : Int32) (n : Nat) : f_X0_kind_l94 v0 v2 (n + 1) = b_X0_kind_l94 v0 v2 (f_X0_kind_l94 v0 v2 n) := rfl
theorem f_X39_unpair_l2_s (v0 : Nat) (n : Nat) : f_X39_unpair_l2 v0 (n + 1) = b_X39_unpair_l2 v0 (f_X39_unpair_l2 v0 n) := rfl
theorem f_X39_patch_l86_s (v0 : Nat) (v4 : Int32) (v5 : Nat) (n : Nat) : f_X39_patch_l86 v0 v4 v5 (n + 1) = b_X39_patch_l86 v0 v4 v5 (f_X39_patch_l86 v0 v4 v5 n) := rfl
theorem f_X39_patch_l24_s (v0 : Nat) (n : Nat) : f_X39_patch_l24 v0 (n + 1) = b_X39_patch_l24 v0 (f_X39_patch_l24 v0 n) := rfl
theorem f_X39_patch_l265_s (v0 : Nat) (v4 : Int32) (v5 : Nat) (n : Nat) : f_X39_patch_l265 v0 v4 v5 (n + 1) = b_X39_patch_l265 v0 v4 v5 (f_X39_patch_l265 v0 v4 v5 n) := rfl
theorem f_X39_patch_l220_s (v0 : Nat) (n : Nat) : f_X39_patch_l220 v0 (n + 1) = b_X39_patch_l220 v0 (f_X39_patch_l220 v0 n) := rfl
theorem f_X0_sortFound_l62_s (v0 : Nat) (v1 : Int32) (v2 : Int32) (v3 : Int32) (v4 : Int32) (v5 : Int32) (v6 : Int32) (n : Nat) : f_X0_sortFound_l62 v0 v1 v2 v3 v4 v5 v6 (n + 1) = b_X0_sortFound_l62 v0 v1 v2 v3 v4 v5 v6 (f_X0_sortFound_l62 v0 v1 v2 v3 v4 v5 v6 n) := rfl
theorem f_X0_sortFound_l13_s (v0 : Nat) (v1 : Int32) (v2 : Int32) (v3 : Int32) (n : Nat) : f_X0_sortFound_l13 v0 v1 v2 v3 (n + 1) = b_X0_sortFound_l13 v0 v1 v2 v3 (f_X0_sortFound_l13 v0 v1 v2 v3 n) := rfl
theorem f_X0_sortFound_l190_s (v0 : Nat) (v1 : Int32) (v2 : Int32) (v3 : Int32) (n : Nat) : f_X0_sortFound_l190 v0 v1 v2 v3 (n + 1) = b_X0_sortFound_l190 v0 v1 v2 v3 (f_X0_sortFound_l190 v0 v1 v2 v3 n) := rfl
theorem f_X0_sortFound_l2_s (v0 : Nat) (v1 : Int32) (v2 : Int32) (n : Nat) : f_X0_sortFound_l2 v0 v1 v2 (n + 1) = b_X0_sortFound_l2 v0 v1 v2 (f_X0_sortFound_l2 v0 v1 v2 n) := rfl
theorem f_X0_range_l130_s (v0 : Nat) (v2 : Int32) (v3 : Int64) (v5 : Int64) (v7 : Nat) (v8 : Int32) (n : Nat) : f_X0_range_l130 v0 v2 v3 v5 v7 v8 (n + 1) = b_X0_range_l130 v0 v2 v3 v5 v7 v8 (f_X0_range_l130 v0 v2 v3 v5 v7 v8 n) := rfl
theorem f_X40_checkOf_l22_s (v0 : Nat) (v1 : Int32) (v3 : Int32) (n : Nat) : f_X40_checkOf_l22 v0 v1 v3 (n + 1) = b_X40_checkOf_l22 v0 v1 v3 (f_X40_checkOf_l22 v0 v1 v3 n) := rfl
theorem f_X40_checkOf_l4_s (v0 : Nat) (v1 : Int32) (n : Nat) : f_X40_checkOf_l4 v0 v1 (n + 1) = b_X40_checkOf_l4 v0 v1 (f_X40_checkOf_l4 v0 v1 n) := rfl
theorem f_X41_small_l15_s (v0 : Nat) (v1 : Int32) (v2 : Int32) (n : Nat) : f_X41_small_l15 v0 v1 v2 (n + 1) = b_X41_small_l15 v0 v1 v2 (f_X41_small_l15 v0 v1 v2 n) := rfl
theorem f_X41_value_l66_s (v0 : Nat) (v1 : Nat) (v2 : Int32) (v3 : Int32) (n : Nat) : f_X41_value_l66 v0 v1 v2 v3 (n + 1) = b_X41_value_l66 v0 v1 v2 v3 (f_X41_value_l66 v0 v1 v2 v3 n) := rfl
theorem f_X41_fit_l37_s (v0 : Nat) (v1 : Int32) (n : Nat) : f_X41_fit_l37 v0 v1 (n + 1) = b_X41_fit_l37 v0 v1 (f_X41_fit_l37 v0 v1 n) := rfl
theorem f_X41_fit_l2_s (v0 : Nat) (n : Nat) : f_X41_fit_l2 v0 (n + 1) = b_X41_fit_l2 v0 (f_X41_fit_l2 v0 n) := rfl
theorem f_X41_known_l2_s (v0 : Nat) (v1 : Nat) (n : Nat) : f_X41_known_l2 v0 v1 (n + 1) = b_X41_known_l2 v0 v1 (f_X41_known_l2 v0 v1 n) := rfl
theorem f_X41_known_l42_s (v2 : Int32) (n : Nat) : f_X41_known_l42 v2 (n + 1) = b_X41_known_l42 v2 (f_X41_known_l42 v2 n) := rfl
theorem f_X41_descriptor_l60_s (v0 : Nat) (v1 : Int32) (v2 : Int32) (v3 : Nat) (n : Nat) : f_X41_descriptor_l60 v0 v1 v2 v3 (n + 1) = b_X41_descriptor_l60 v0 v1 v2 v3 (f_X41_descriptor_l60 v0 v1 v2 v3 n) := rfl
theorem f_X41_descriptor_l133_s (v0 : Nat) (v1 : Int32) (v4 : Nat) (n : Nat) : f_X41_descriptor_l133 v0 v1 v4 (n + 1) = b_X41_descriptor_l133 v0 v1 v4 (f_X41_descriptor_l133 v0 v1 v4 n) := rfl
theorem f_X41_thing_l161_s (v0 : Nat) (v1 : Int32) (v3 : Nat) (n : Nat) : f_X41_thing_l161 v0 v1 v3 (n + 1) = b_X41_thing_l161 v0 v1 v3 (f_X41_thing_l161 v0 v1 v3 n) := rfl
theorem f_X41_thing_l93_s (v0 : Nat) (v1 : Int32) (n : Nat) : f_X41_thing_l93 v0 v1 (n + 1) = b_X41_thing_l93 v0 v1 (f_X41_thing_l93 v0 v1 n) := rfl
theorem f_X41_look_l83_s (v0 : Nat) (v2 : Int32) (n : Nat) : f_X41_look_l83 v0 v2 (n + 1) = b_X41_look_l83 v0 v2 (f_X41_look_l83 v0 v2 n) := rfl
theorem f_X41_look_l129_s (v0 : Nat) (n : Nat) : f_X41_look_l129 v0 (n + 1) = b_X41_look_l129 v0 (f_X41_look_l129 v0 n) := rfl
theorem f_X41_letters_l16_s (v0 : Nat) (v1 : Int32) (v2 : Nat) (n : Nat) : f_X41_letters_l16 v0 v1 v2 (n + 1) = b_X41_letters_l16 v0 v1 v2 (f_X41_letters_l16 v0 v1 v2 n) := rfl
theorem f_X41_isAlike_l19_s (v0 : Nat) (v1 : Int32) (v2 : Int32) (n : Nat) : f_X41_isAlike_l19 v0 v1 v2 (n + 1) = b_X41_isAlike_l19 v0 v1 v2 (f_X41_isAlike_l19 v0 v1 v2 n) := rfl
theorem f_X41_newThings_l70_s (v0 : Nat) (v1 : Int32) (v2 : Int32) (n : Nat) : f_X41_newThings_l70 v0 v1 v2 (n + 1) = b_X41_newThings_l70 v0 v1 v2 (f_X41_newThings_l70 v0 v1 v2 n) := rfl
theorem f_X41_newThings_l4_s (v0 : Nat) (n : Nat) : f_X41_newThings_l4 v0 (n + 1) = b_X41_newThings_l4 v0 (f_X41_newThings_l4 v0 n) := rfl
theorem f_X41_make_l4_s (v0 : Nat) (n : Nat) : f_X41_make_l4 v0 (n + 1) = b_X41_make_l4 v0 (f_X41_make_l4 v0 n) := rfl
theorem f_X41_make_l66_s (v0 : Nat) (n : Nat) : f_X41_make_l66 v0 (n + 1) = b_X41_make_l66 v0 (f_X41_make_l66 v0 n) := rfl
theorem f_X41_make_l238_s (v0 : Nat) (v2 : Int32) (v3 : Nat) (n : Nat) : f_X41_make_l238 v0 v2 v3 (n + 1) = b_X41_make_l238 v0 v2 v3 (f_X41_make_l238 v0 v2 v3 n) := rfl
theorem f_X41_make_l188_s (v0 : Nat) (n : Nat) : f_X41_make_l188 v0 (n + 1) = b_X41_make_l188 v0 (f_X41_make_l188 v0 n) := rfl
theorem f_X0_read_l24_s (v0 : Nat) (v1 : Nat) (n : Nat) : f_X0_read_l24 v0 v1 (n + 1) = b_X0_read_l24 v0 v1 (f_X0_read_l24 v0 v1 n) := rfl
theorem f_X0_recorded_l61_s (v0 : Nat) (v2 : Nat) (v3 : Int32) (n : Nat) : f_X0_recorded_l61 v0 v2 v3 (n + 1) = b_X0_recorded_l61 v0 v2 v3 (f_X0_recorded_l61 v0 v2 v3 n) := rfl
theorem f_X0_recorded_l154_s (v0 : Nat) (v2 : Nat) (v3 : Int32) (v4 : Nat) (v5 : Nat) (n : Nat) : f_X0_recorded_l154 v0 v2 v3 v4 v5 (n + 1) = b_X0_recorded_l154 v0 v2 v3 v4 v5 (f_X0_recorded_l154 v0 v2 v3 v4 v5 n) := rfl
theorem f_X35_settle_l10_s (v0 : Nat) (n : Nat) : f_X35_settle_l10 v0 (n + 1) = b_X35_settle_l10 v0 (f_X35_settle_l10 v0 n) := rfl
theorem f_X42_four_l4_s (v0 : Nat) (n : Nat) : f_X42_four_l4 v0 (n + 1) = b_X42_four_l4 v0 (f_X42_four_l4 v0 n) := rfl
theorem f_X42_behind_l48_s (v0 : Nat) (v1 : Int32) (v2 : Int32) (n : Nat) : f_X42_behind_l48 v0 v1 v2 (n + 1) = b_X42_behind_l48 v0 v1 v2 (f_X42_behind_l48 v0 v1 v2 n) := rfl
theorem f_X35_kindOf_l2_s (v0 : Nat) (v1 : Nat) (n : Nat) : f_X35_kindOf_l2 v0 v1 (n + 1) = b_X35_kindOf_l2 v0 v1 (f_X35_kindOf_l2 v0 v1 n) := rfl
theorem f_X35_kindOf_l31_s (v0 : Nat) (v2 : Int32) (n : Nat) : f_X35_kindOf_l31 v0 v2 (n + 1) = b_X35_kindOf_l31 v0 v2 (f_X35_kindOf_l31 v0 v2 n) := rfl
theorem f_X42_readThing_l22_s (v0 : Nat) (v1 : Int32) (v2 : Int32) (v3 : Nat) (n : Nat) : f_X42_readThing_l22 v0 v1 v2 v3 (n + 1) = b_X42_readThing_l22 v0 v1 v2 v3 (f_X42_readThing_l22 v0 v1 v2 v3 n) := rfl
theorem f_X42_readThing_l146_s (v0 : Nat) (v1 : Int32) (v4 : Nat) (v5 : Int32) (v6 : Nat) (n : Nat) : f_X42_readThing_l146 v0 v1 v4 v5 v6 (n + 1) = b_X42_readThing_l146 v0 v1 v4 v5 v6 (f_X42_readThing_l146 v0 v1 v4 v5 v6 n) := rfl
theorem f_X42_readThing_l87_s (v0 : Nat) (v1 : Int32) (v4 : Nat) (v5 : Int32) (v6 : Nat) (n : Nat) : f_X42_readThing_l87 v0 v1 v4 v5 v6 (n + 1) = b_X42_readThing_l87 v0 v1 v4 v5 v6 (f_X42_readThing_l87 v0 v1 v4 v5 v6 n) := rfl
theorem f_X42_readKept_l29_s (v0 : Nat) (v1 : Int32) (n : Nat) : f_X42_readKept_l29 v0 v1 (n + 1) = b_X42_readKept_l29 v0 v1 (f_X42_readKept_l29 v0 v1 n) := rfl
theorem f_X42_readKept_l51_s (v0 : Nat) (v2 : Int32) (n : Nat) : f_X42_readKept_l51 v0 v2 (n + 1) = b_X42_readKept_l51 v0 v2 (f_X42_readKept_l51 v0 v2 n) := rfl
theorem f_X42_readSwept_l12_s (v0 : Nat) (v1 : Int32) (v2 : Int32) (n : Nat) : f_X42_readSwept_l12 v0 v1 v2 (n + 1) = b_X42_readSwept_l12 v0 v1 v2 (f_X42_readSwept_l12 v0 v1 v2 n) := rfl
theorem f_X42_open_l2_s (v0 : Nat) (n : Nat) : f_X42_open_l2 v0 (n + 1) = b_X42_open_l2 v0 (f_X42_open_l2 v0 n) := rfl
theorem f_X42_open_l30_s (v0 : Nat) (n : Nat) : f_X42_open_l30 v0 (n + 1) = b_X42_open_l30 v0 (f_X42_open_l30 v0 n) := rfl
theorem f_X39_same_l76_s (v0 : Nat) (v4 : Int32) (v5 : Nat) (n : Nat) : f_X39_same_l76 v0 v4 v5 (n + 1) = b_X39_same_l76 v0 v4 v5 (f_X39_same_l76 v0 v4 v5 n) := rfl
theorem f_X39_same_l14_s (v0 : Nat) (n : Nat) : f_X39_same_l14 v0 (n + 1) = b_X39_same_l14 v0 (f_X39_same_l14 v0 n) := rfl
theorem f_X35_meetAll_l6_s (v0 : Nat) (v1 : Nat) (v2 : Nat) (n : Nat) : f_X35_meetAll_l6 v0 v1 v2 (n + 1) = b_X35_meetAll_l6 v0 v1 v2 (f_X35_meetAll_l6 v0 v1 v2 n) := rfl
theorem f_X35_findGone_l2_s (v0 : Nat) (v1 : Int32) (n : Nat) : f_X35_findGone_l2 v0 v1 (n + 1) = b_X35_findGone_l2 v0 v1 (f_X35_findGone_l2 v0 v1 n) := rfl
theorem f_X35_findGone_l37_s (v0 : Nat) (v1 : Int32) (v3 : Int32) (n : Nat) : f_X35_findGone_l37 v0 v1 v3 (n + 1) = b_X35_findGone_l37 v0 v1 v3 (f_X35_findGone_l37 v0 v1 v3 n) := rfl
theorem f_X35_findGone_l26_s (v0 : Nat) (v1 : Int32) (n : Nat) : f_X35_findGone_l26 v0 v1 (n + 1) = b_X35_findGone_l26 v0 v1 (f_X35_findGone_l26 v0 v1 n) := rfl
theorem f_X35_findGone_l104_s (v0 : Nat) (v1 : Int32) (v3 : Int32) (v4 : Nat) (n : Nat) : f_X35_findGone_l104 v0 v1 v3 v4 (n + 1) = b_X35_findGone_l104 v0 v1 v3 v4 (f_X35_findGone_l104 v0 v1 v3 v4 n) := rfl
theorem f_X35_findGone_l134_s (v0 : Nat) (v1 : Int32) (v3 : Int32) (v4 : Nat) (n : Nat) : f_X35_findGone_l134 v0 v1 v3 v4 (n + 1) = b_X35_findGone_l134 v0 v1 v3 v4 (f_X35_findGone_l134 v0 v1 v3 v4 n) := rfl
theorem f_X35_findGone_l76_s (v0 : Nat) (v1 : Int32) (n : Nat) : f_X35_findGone_l76 v0 v1 (n + 1) = b_X35_findGone_l76 v0 v1 (f_X35_findGone_l76 v0 v1 n) := rfl
theorem f_X35_findGone_l237_s (v0 : Nat) (v1 : Int32) (v3 : Nat) (n : Nat) : f_X35_findGone_l237 v0 v1 v3 (n + 1) = b_X35_findGone_l237 v0 v1 v3 (f_X35_findGone_l237 v0 v1 v3 n) := rfl
theorem f_X35_findGone_l280_s (v0 : Nat) (v1 : Int32) (v3 : Nat) (n : Nat) : f_X35_findGone_l280 v0 v1 v3 (n + 1) = b_X35_findGone_l280 v0 v1 v3 (f_X35_findGone_l280 v0 v1 v3 n) := rfl
theorem f_X35_findGone_l202_s (v0 : Nat) (v1 : Int32) (n : Nat) : f_X35_findGone_l202 v0 v1 (n + 1) = b_X35_findGone_l202 v0 v1 (f_X35_findGone_l202 v0 v1 n) := rfl
theorem f_X35_findGone_l357_s (v0 : Nat) (n : Nat) : f_X35_findGone_l357 v0 (n + 1) = b_X35_findGone_l357 v0 (f_X35_findGone_l357 v0 n) := rfl
theorem f_X35_sweep_l2_s (v0 : Nat) (v1 : Int32) (n : Nat) : f_X35_sweep_l2 v0 v1 (n + 1) = b_X35_sweep_l2 v0 v1 (f_X35_sweep_l2 v0 v1 n) := rfl
theorem f_X42_sweep_l67_s (v0 : Nat) (v3 : Int32) (n : Nat) : f_X42_sweep_l67 v0 v3 (n + 1) = b_X42_sweep_l67 v0 v3 (f_X42_sweep_l67 v0 v3 n) := rfl
theorem f_X0_sweep_l74_s (v0 : Nat) (v1 : Int32) (n : Nat) : f_X0_sweep_l74 v0 v1 (n + 1) = b_X0_sweep_l74 v0 v1 (f_X0_sweep_l74 v0 v1 n) := rfl
theorem f_X0_text_l31_s (v0 : Nat) (v1 : Int32) (n : Nat) : f_X0_text_l31 v0 v1 (n + 1) = b_X0_text_l31 v0 v1 (f_X0_text_l31 v0 v1 n) := rfl
theorem f_X39_find_l2_s (v0 : Nat) (v1 : Nat) (n : Nat) : f_X39_find_l2 v0 v1 (n + 1) = b_X39_find_l2 v0 v1 (f_X39_find_l2 v0 v1 n) := rfl
theorem f_X39_walk_l2_s (v0 : Nat) (v1 : Int32) (n : Nat) : f_X39_walk_l2 v0 v1 (n + 1) = b_X39_walk_l2 v0 v1 (f_X39_walk_l2 v0 v1 n) := rfl
theorem f_X39_walk_l60_s (v0 : Nat) (v2 : Int32) (v3 : Nat) (n : Nat) : f_X39_walk_l60 v0 v2 v3 (n + 1) = b_X39_walk_l60 v0 v2 v3 (f_X39_walk_l60 v0 v2 v3 n) := rfl
theorem f_X39_walk_l34_s (v0 : Nat) (n : Nat) : f_X39_walk_l34 v0 (n + 1) = b_X39_walk_l34 v0 (f_X39_walk_l34 v0 n) := rfl
theorem f_X40_small_l4_s (v0 : Nat) (n : Nat) : f_X40_small_l4 v0 (n + 1) = b_X40_small_l4 v0 (f_X40_small_l4 v0 n) := rfl
theorem f_X39_writeThing_l125_s (v0 : Nat) (v1 : Nat) (n : Nat) : f_X39_writeThing_l125 v0 v1 (n + 1) = b_X39_writeThing_l125 v0 v1 (f_X39_writeThing_l125 v0 v1 n) := rfl
theorem f_X39_write_l14_s (v0 : Nat) (n : Nat) : f_X39_write_l14 v0 (n + 1) = b_X39_write_l14 v0 (f_X39_write_l14 v0 n) := rfl
theorem f_X39_write_l152_s (v0 : Nat) (n : Nat) : f_X39_write_l152 v0 (n + 1) = b_X39_write_l152 v0 (f_X39_write_l152 v0 n) := rfl
theorem f_X39_write_l248_s (v0 : Nat) (n : Nat) : f_X39_write_l248 v0 (n + 1) = b_X39_write_l248 v0 (f_X39_write_l248 v0 n) := rfl
theorem f_X39_write_l311_s (v0 : Nat) (v2 : Int32) (n : Nat) : f_X39_write_l311 v0 v2 (n + 1) = b_X39_write_l311 v0 v2 (f_X39_write_l311 v0 v2 n) := rfl
theorem f_X44_spelled_l47_s (v0 : Nat) (v1 : Int32) (v2 : Int32) (v3 : Int32) (v4 : Nat) (n : Nat) : f_X44_spelled_l47 v0 v1 v2 v3 v4 (n + 1) = b_X44_spelled_l47 v0 v1 v2 v3 v4 (f_X44_spelled_l47 v0 v1 v2 v3 v4 n) := rfl
theorem f_X44_spelled_l2_s (v0 : Nat) (v1 : Int32) (v2 : Int32) (n : Nat) : f_X44_spelled_l2 v0 v1 v2 (n + 1) = b_X44_spelled_l2 v0 v1 v2 (f_X44_spelled_l2 v0 v1 v2 n) := rfl
theorem f_X44_spelled_l114_s (v0 : Nat) (v2 : Int32) (v3 : Nat) (n : Nat) : f_X44_spelled_l114 v0 v2 v3 (n + 1) = b_X44_spelled_l114 v0 v2 v3 (f_X44_spelled_l114 v0 v2 v3 n) := rfl
theorem f_X4_among_l53_s (v0 : Nat) (v1 : Nat) (v2 : Int32) (v3 : Int32) (n : Nat) : f_X4_among_l53 v0 v1 v2 v3 (n + 1) = b_X4_among_l53 v0 v1 v2 v3 (f_X4_among_l53 v0 v1 v2 v3 n) := rfl
theorem f_X4_among_l7_s (v0 : Nat) (v1 : Nat) (v2 : Int32) (n : Nat) : f_X4_among_l7 v0 v1 v2 (n + 1) = b_X4_among_l7 v0 v1 v2 (f_X4_among_l7 v0 v1 v2 n) := rfl
theorem f_X44_name_l2_s (v0 : Nat) (v1 : Int32) (n : Nat) : f_X44_name_l2 v0 v1 (n + 1) = b_X44_name_l2 v0 v1 (f_X44_name_l2 v0 v1 n) := rfl
theorem f_X46_exponent_l31_s (n : Nat) : f_X46_exponent_l31  (n + 1) = b_X46_exponent_l31  (f_X46_exponent_l31  n) := rfl
theorem f_X46_rounded_l6_s (v3 : Int32) (v4 : Int32) (v5 : Int32) (n : Nat) : f_X46_rounded_l6 v3 v4 v5 (n + 1) = b_X46_rounded_l6 v3 v4 v5 (f_X46_rounded_l6 v3 v4 v5 n) := rfl
theorem f_X46_significand_l25_s (n : Nat) : f_X46_significand_l25  (n + 1) = b_X46_significand_l25  (f_X46_significand_l25  n) := rfl
theorem f_X46_divide_l65_s (v0 : Int64) (v2 : Int64) (v4 : Int64) (v8 : Int64) (n : Nat) : f_X46_divide_l65 v0 v2 v4 v8 (n + 1) = b_X46_divide_l65 v0 v2 v4 v8 (f_X46_divide_l65 v0 v2 v4 v8 n) := rfl
theorem f_X44_number_l7_s (v0 : Nat) (v1 : Int32) (n : Nat) : f_X44_number_l7 v0 v1 (n + 1) = b_X44_number_l7 v0 v1 (f_X44_number_l7 v0 v1 n) := rfl
theorem f_X44_number_l178_s (v0 : Nat) (v1 : Int32) (v6 : Int32) (n : Nat) : f_X44_number_l178 v0 v1 v6 (n + 1) = b_X44_number_l178 v0 v1 v6 (f_X44_number_l178 v0 v1 v6 n) := rfl
theorem f_X44_number_l220_s (v0 : Nat) (v1 : Int32) (v2 : Int32) (v6 : Int32) (n : Nat) : f_X44_number_l220 v0 v1 v2 v6 (n + 1) = b_X44_number_l220 v0 v1 v2 v6 (f_X44_number_l220 v0 v1 v2 v6 n) := rfl
theorem f_X44_one_l2_s (v0 : Nat) (n : Nat) : f_X44_one_l2 v0 (n + 1) = b_X44_one_l2 v0 (f_X44_one_l2 v0 n) := rfl
theorem f_X44_one_l154_s (v0 : Nat) (v2 : Int32) (n : Nat) : f_X44_one_l154 v0 v2 (n + 1) = b_X44_one_l154 v0 v2 (f_X44_one_l154 v0 v2 n) := rfl
theorem f_X44_init_l33_s (v0 : Nat) (n : Nat) : f_X44_init_l33 v0 (n + 1) = b_X44_init_l33 v0 (f_X44_init_l33 v0 n) := rfl
theorem f_X48_type_l29_s (v0 : Nat) (v1 : Nat) (n : Nat) : f_X48_type_l29 v0 v1 (n + 1) = b_X48_type_l29 v0 v1 (f_X48_type_l29 v0 v1 n) := rfl
theorem f_X48_components_l15_s (v0 : Nat) (v1 : Nat) (n : Nat) : f_X48_components_l15 v0 v1 (n + 1) = b_X48_components_l15 v0 v1 (f_X48_components_l15 v0 v1 n) := rfl
theorem f_X48_constants_l12_s (v0 : Nat) (v1 : Nat) (n : Nat) : f_X48_constants_l12 v0 v1 (n + 1) = b_X48_constants_l12 v0 v1 (f_X48_constants_l12 v0 v1 n) := rfl
theorem f_X48_isCast_l81_s (v0 : Nat) (v1 : Nat) (n : Nat) : f_X48_isCast_l81 v0 v1 (n + 1) = b_X48_isCast_l81 v0 v1 (f_X48_isCast_l81 v0 v1 n) := rfl
theorem f_X48_arguments_l27_s (R : TY_S7) (v0 : Nat) (v2 : Int32) (n : Nat) : f_X48_arguments_l27 R v0 v2 (n + 1) = b_X48_arguments_l27 R v0 v2 (f_X48_arguments_l27 R v0 v2 n) := rfl
theorem f_X48_postfix_l5_s (R : TY_S7) (v0 : Nat) (v1 : Int32) (n : Nat) : f_X48_postfix_l5 R v0 v1 (n + 1) = b_X48_postfix_l5 R v0 v1 (f_X48_postfix_l5 R v0 v1 n) := rfl
theorem f_X48_ranked_l75_s (R : TY_S7) (v0 : Nat) (v1 : Int32) (v2 : Int32) (n : Nat) : f_X48_ranked_l75 R v0 v1 v2 (n + 1) = b_X48_ranked_l75 R v0 v1 v2 (f_X48_ranked_l75 R v0 v1 v2 n) := rfl
theorem f_X48_member_l279_s (v0 : Nat) (v1 : Nat) (v4 : Nat) (n : Nat) : f_X48_member_l279 v0 v1 v4 (n + 1) = b_X48_member_l279 v0 v1 v4 (f_X48_member_l279 v0 v1 v4 n) := rfl
theorem f_X48_row_l9_s (v0 : Nat) (v1 : Nat) (n : Nat) : f_X48_row_l9 v0 v1 (n + 1) = b_X48_row_l9 v0 v1 (f_X48_row_l9 v0 v1 n) := rfl
theorem f_X48_declaration_l243_s (v0 : Nat) (v2 : Nat) (n : Nat) : f_X48_declaration_l243 v0 v2 (n + 1) = b_X48_declaration_l243 v0 v2 (f_X48_declaration_l243 v0 v2 n) := rfl
theorem f_X48_all_l0_s (v0 : Nat) (v1 : Nat) (n : Nat) : f_X48_all_l0 v0 v1 (n + 1) = b_X48_all_l0 v0 v1 (f_X48_all_l0 v0 v1 n) := rfl
theorem f_X48_question_l23_s (v0 : Nat) (v1 : Nat) (n : Nat) : f_X48_question_l23 v0 v1 (n + 1) = b_X48_question_l23 v0 v1 (f_X48_question_l23 v0 v1 n) := rfl
theorem f_X48_question_l232_s (v0 : Nat) (v1 : Nat) (n : Nat) : f_X48_question_l232 v0 v1 (n + 1) = b_X48_question_l232 v0 v1 (f_X48_question_l232 v0 v1 n) := rfl
theorem f_X4_kindNamed_l14_s (v0 : Nat) (v1 : Nat) (n : Nat) : f_X4_kindNamed_l14 v0 v1 (n + 1) = b_X4_kindNamed_l14 v0 v1 (f_X4_kindNamed_l14 v0 v1 n) := rfl
theorem f_X4_above_l173_s (v0 : Nat) (v1 : Nat) (v2 : Int32) (v3 : Nat) (v4 : Int32) (n : Nat) : f_X4_above_l173 v0 v1 v2 v3 v4 (n + 1) = b_X4_above_l173 v0 v1 v2 v3 v4 (f_X4_above_l173 v0 v1 v2 v3 v4 n) := rfl
theorem f_X4_above_l95_s (v0 : Nat) (v1 : Nat) (n : Nat) : f_X4_above_l95 v0 v1 (n + 1) = b_X4_above_l95 v0 v1 (f_X4_above_l95 v0 v1 n) := rfl
theorem f_X4_actOf_l2_s (v0 : Nat) (v1 : Int32) (n : Nat) : f_X4_actOf_l2 v0 v1 (n + 1) = b_X4_actOf_l2 v0 v1 (f_X4_actOf_l2 v0 v1 n) := rfl
theorem f_X4_push_l24_s (v0 : Nat) (v1 : Int64) (v3 : Nat) (n : Nat) : f_X4_push_l24 v0 v1 v3 (n + 1) = b_X4_push_l24 v0 v1 v3 (f_X4_push_l24 v0 v1 v3 n) := rfl
theorem f_X4_valuesIn_l45_s (v3 : Int32) (n : Nat) : f_X4_valuesIn_l45 v3 (n + 1) = b_X4_valuesIn_l45 v3 (f_X4_valuesIn_l45 v3 n) := rfl
theorem f_X4_advance_l56_s (v0 : Nat) (v1 : Nat) (v2 : Nat) (v3 : Int64) (n : Nat) : f_X4_advance_l56 v0 v1 v2 v3 (n + 1) = b_X4_advance_l56 v0 v1 v2 v3 (f_X4_advance_l56 v0 v1 v2 v3 n) := rfl
theorem f_X4_arrayOf_l2_s (v0 : Nat) (v1 : Int32) (n : Nat) : f_X4_arrayOf_l2 v0 v1 (n + 1) = b_X4_arrayOf_l2 v0 v1 (f_X4_arrayOf_l2 v0 v1 n) := rfl
theorem f_X4_described_l2_s (v0 : Nat) (v1 : Nat) (v2 : Int32) (n : Nat) : f_X4_described_l2 v0 v1 v2 (n + 1) = b_X4_described_l2 v0 v1 v2 (f_X4_described_l2 v0 v1 v2 n) := rfl
theorem f_X4_described_l338_s (v0 : Nat) (v2 : Int32) (v3 : Int32) (v5 : Int32) (n : Nat) : f_X4_described_l338 v0 v2 v3 v5 (n + 1) = b_X4_described_l338 v0 v2 v3 v5 (f_X4_described_l338 v0 v2 v3 v5 n) := rfl
theorem f_X4_described_l414_s (v0 : Nat) (v3 : Int32) (n : Nat) : f_X4_described_l414 v0 v3 (n + 1) = b_X4_described_l414 v0 v3 (f_X4_described_l414 v0 v3 n) := rfl
theorem f_X4_described_l267_s (v0 : Nat) (v2 : Int32) (v3 : Int32) (v6 : Nat) (n : Nat) : f_X4_described_l267 v0 v2 v3 v6 (n + 1) = b_X4_described_l267 v0 v2 v3 v6 (f_X4_described_l267 v0 v2 v3 v6 n) := rfl
theorem f_X4_logNumber_l5_s (v0 : Nat) (v1 : Int32) (n : Nat) : f_X4_logNumber_l5 v0 v1 (n + 1) = b_X4_logNumber_l5 v0 v1 (f_X4_logNumber_l5 v0 v1 n) := rfl
theorem f_X4_again_l97_s (v0 : Nat) (v3 : Int32) (v4 : Nat) (n : Nat) : f_X4_again_l97 v0 v3 v4 (n + 1) = b_X4_again_l97 v0 v3 v4 (f_X4_again_l97 v0 v3 v4 n) := rfl
theorem f_X4_again_l205_s (v0 : Nat) (v4 : Nat) (v5 : Int32) (v6 : Int32) (v7 : Int32) (v8 : Int32) (v9 : Nat) (n : Nat) : f_X4_again_l205 v0 v4 v5 v6 v7 v8 v9 (n + 1) = b_X4_again_l205 v0 v4 v5 v6 v7 v8 v9 (f_X4_again_l205 v0 v4 v5 v6 v7 v8 v9 n) := rfl
theorem f_X4_again_l398_s (v0 : Nat) (v4 : Nat) (v5 : Int32) (v6 : Int32) (v11 : Int32) (v12 : Nat) (v13 : Nat) (n : Nat) : f_X4_again_l398 v0 v4 v5 v6 v11 v12 v13 (n + 1) = b_X4_again_l398 v0 v4 v5 v6 v11 v12 v13 (f_X4_again_l398 v0 v4 v5 v6 v11 v12 v13 n) := rfl
theorem f_X4_again_l350_s (v0 : Nat) (v4 : Nat) (v5 : Int32) (v6 : Int32) (v11 : Int32) (v12 : Nat) (v13 : Nat) (n : Nat) : f_X4_again_l350 v0 v4 v5 v6 v11 v12 v13 (n + 1) = b_X4_again_l350 v0 v4 v5 v6 v11 v12 v13 (f_X4_again_l350 v0 v4 v5 v6 v11 v12 v13 n) := rfl
theorem f_X4_again_l170_s (v0 : Nat) (v4 : Nat) (v5 : Int32) (n : Nat) : f_X4_again_l170 v0 v4 v5 (n + 1) = b_X4_again_l170 v0 v4 v5 (f_X4_again_l170 v0 v4 v5 n) := rfl
theorem f_X4_again_l458_s (v0 : Nat) (v4 : Nat) (v6 : Int32) (n : Nat) : f_X4_again_l458 v0 v4 v6 (n + 1) = b_X4_again_l458 v0 v4 v6 (f_X4_again_l458 v0 v4 v6 n) := rfl
theorem f_X4_again_l47_s (v0 : Nat) (v4 : Int32) (n : Nat) : f_X4_again_l47 v0 v4 (n + 1) = b_X4_again_l47 v0 v4 (f_X4_again_l47 v0 v4 n) := rfl
theorem f_X4_allFaces_l38_s (R : TY_S9) (v1 : Nat) (v2 : Nat) (v3 : Int32) (v4 : Nat) (n : Nat) : f_X4_allFaces_l38 R v1 v2 v3 v4 (n + 1) = b_X4_allFaces_l38 R v1 v2 v3 v4 (f_X4_allFaces_l38 R v1 v2 v3 v4 n) := rfl
theorem f_X4_allFaces_l8_s (R : TY_S9) (v1 : Nat) (v2 : Nat) (n : Nat) : f_X4_allFaces_l8 R v1 v2 (n + 1) = b_X4_allFaces_l8 R v1 v2 (f_X4_allFaces_l8 R v1 v2 n) := rfl
theorem f_X4_allFaces_l2_s (R : TY_S9) (v1 : Nat) (n : Nat) : f_X4_allFaces_l2 R v1 (n + 1) = b_X4_allFaces_l2 R v1 (f_X4_allFaces_l2 R v1 n) := rfl
theorem f_X4_isSameTypes_l38_s (v0 : Nat) (v1 : Nat) (n : Nat) : f_X4_isSameTypes_l38 v0 v1 (n + 1) = b_X4_isSameTypes_l38 v0 v1 (f_X4_isSameTypes_l38 v0 v1 n) := rfl
theorem f_X4_own_l2_s (v0 : Nat) (v1 : Nat) (n : Nat) : f_X4_own_l2 v0 v1 (n + 1) = b_X4_own_l2 v0 v1 (f_X4_own_l2 v0 v1 n) := rfl
theorem f_X4_alike_l45_s (v0 : Nat) (v1 : Nat) (v2 : Nat) (v3 : Int32) (v4 : Nat) (n : Nat) : f_X4_alike_l45 v0 v1 v2 v3 v4 (n + 1) = b_X4_alike_l45 v0 v1 v2 v3 v4 (f_X4_alike_l45 v0 v1 v2 v3 v4 n) := rfl
theorem f_X4_alike_l110_s (v0 : Nat) (v1 : Nat) (v2 : Nat) (v3 : Int32) (v4 : Nat) (n : Nat) : f_X4_alike_l110 v0 v1 v2 v3 v4 (n + 1) = b_X4_alike_l110 v0 v1 v2 v3 v4 (f_X4_alike_l110 v0 v1 v2 v3 v4 n) := rfl
theorem f_X4_alike_l15_s (v0 : Nat) (v1 : Nat) (v2 : Nat) (n : Nat) : f_X4_alike_l15 v0 v1 v2 (n + 1) = b_X4_alike_l15 v0 v1 v2 (f_X4_alike_l15 v0 v1 v2 n) := rfl
theorem f_X4_alike_l199_s (v0 : Nat) (v1 : Nat) (v2 : Nat) (v3 : Nat) (n : Nat) : f_X4_alike_l199 v0 v1 v2 v3 (n + 1) = b_X4_alike_l199 v0 v1 v2 v3 (f_X4_alike_l199 v0 v1 v2 v3 n) := rfl
theorem f_X4_alike_l224_s (v0 : Nat) (v1 : Nat) (v2 : Nat) (v3 : Nat) (n : Nat) : f_X4_alike_l224 v0 v1 v2 v3 (n + 1) = b_X4_alike_l224 v0 v1 v2 v3 (f_X4_alike_l224 v0 v1 v2 v3 n) := rfl
theorem f_X4_alike_l313_s (v0 : Nat) (v1 : Nat) (v3 : Nat) (v4 : Int32) (v5 : Int32) (v6 : Nat) (n : Nat) : f_X4_alike_l313 v0 v1 v3 v4 v5 v6 (n + 1) = b_X4_alike_l313 v0 v1 v3 v4 v5 v6 (f_X4_alike_l313 v0 v1 v3 v4 v5 v6 n) := rfl
theorem f_X4_alike_l268_s (v0 : Nat) (v1 : Nat) (v3 : Nat) (v4 : Int32) (n : Nat) : f_X4_alike_l268 v0 v1 v3 v4 (n + 1) = b_X4_alike_l268 v0 v1 v3 v4 (f_X4_alike_l268 v0 v1 v3 v4 n) := rfl
theorem f_X4_alike_l256_s (v0 : Nat) (v1 : Nat) (v3 : Nat) (n : Nat) : f_X4_alike_l256 v0 v1 v3 (n + 1) = b_X4_alike_l256 v0 v1 v3 (f_X4_alike_l256 v0 v1 v3 n) := rfl
theorem f_X4_sum_l5_s (v0 : Nat) (v2 : Int32) (n : Nat) : f_X4_sum_l5 v0 v2 (n + 1) = b_X4_sum_l5 v0 v2 (f_X4_sum_l5 v0 v2 n) := rfl
theorem f_X6_add_l23_s (v0 : Nat) (v1 : Int32) (v2 : Nat) (n : Nat) : f_X6_add_l23 v0 v1 v2 (n + 1) = b_X6_add_l23 v0 v1 v2 (f_X6_add_l23 v0 v1 v2 n) := rfl
theorem f_X6_number_l5_s (v0 : Nat) (v1 : Int64) (n : Nat) : f_X6_number_l5 v0 v1 (n + 1) = b_X6_number_l5 v0 v1 (f_X6_number_l5 v0 v1 n) := rfl
theorem f_X4_appended_l23_s (v0 : Nat) (v1 : Nat) (v2 : Int32) (n : Nat) : f_X4_appended_l23 v0 v1 v2 (n + 1) = b_X4_appended_l23 v0 v1 v2 (f_X4_appended_l23 v0 v1 v2 n) := rfl
theorem f_X4_appended_l97_s (v0 : Nat) (v1 : Nat) (v2 : Int32) (n : Nat) : f_X4_appended_l97 v0 v1 v2 (n + 1) = b_X4_appended_l97 v0 v1 v2 (f_X4_appended_l97 v0 v1 v2 n) := rfl
theorem f_X4_longs_l7_s (v0 : Nat) (v1 : Nat) (n : Nat) : f_X4_longs_l7 v0 v1 (n + 1) = b_X4_longs_l7 v0 v1 (f_X4_longs_l7 v0 v1 n) := rfl
theorem f_X4_apply_l220_s (v0 : Nat) (v1 : Int32) (v2 : Int32) (v3 : Int32) (v4 : Int32) (v8 : Int32) (v9 : Nat) (n : Nat) : f_X4_apply_l220 v0 v1 v2 v3 v4 v8 v9 (n + 1) = b_X4_apply_l220 v0 v1 v2 v3 v4 v8 v9 (f_X4_apply_l220 v0 v1 v2 v3 v4 v8 v9 n) := rfl
theorem f_X4_apply_l26_s (v0 : Nat) (n : Nat) : f_X4_apply_l26 v0 (n + 1) = b_X4_apply_l26 v0 (f_X4_apply_l26 v0 n) := rfl
theorem f_X4_apply_l446_s (v0 : Nat) (n : Nat) : f_X4_apply_l446 v0 (n + 1) = b_X4_apply_l446 v0 (f_X4_apply_l446 v0 n) := rfl
theorem f_X4_areAlive_l2_s (v0 : Nat) (n : Nat) : f_X4_areAlive_l2 v0 (n + 1) = b_X4_areAlive_l2 v0 (f_X4_areAlive_l2 v0 n) := rfl
theorem f_X4_textThere_l2_s (v0 : Nat) (v1 : Nat) (n : Nat) : f_X4_textThere_l2 v0 v1 (n + 1) = b_X4_textThere_l2 v0 v1 (f_X4_textThere_l2 v0 v1 n) := rfl
theorem f_X4_areMade_l40_s (v0 : Nat) (v1 : Nat) (v2 : Int32) (v3 : Int32) (n : Nat) : f_X4_areMade_l40 v0 v1 v2 v3 (n + 1) = b_X4_areMade_l40 v0 v1 v2 v3 (f_X4_areMade_l40 v0 v1 v2 v3 n) := rfl
theorem f_X4_areMade_l4_s (v0 : Nat) (v1 : Nat) (n : Nat) : f_X4_areMade_l4 v0 v1 (n + 1) = b_X4_areMade_l4 v0 v1 (f_X4_areMade_l4 v0 v1 n) := rfl
theorem f_X4_areMade_l117_s (v0 : Nat) (v1 : Nat) (n : Nat) : f_X4_areMade_l117 v0 v1 (n + 1) = b_X4_areMade_l117 v0 v1 (f_X4_areMade_l117 v0 v1 n) := rfl
theorem f_X4_rest_l67_s (v6 : Int64) (v9 : Int32) (v10 : Int64) (n : Nat) : f_X4_rest_l67 v6 v9 v10 (n + 1) = b_X4_rest_l67 v6 v9 v10 (f_X4_rest_l67 v6 v9 v10 n) := rfl
theorem f_X4_enter_l142_s (v0 : Nat) (v3 : Int32) (v4 : Nat) (v5 : Nat) (n : Nat) : f_X4_enter_l142 v0 v3 v4 v5 (n + 1) = b_X4_enter_l142 v0 v3 v4 v5 (f_X4_enter_l142 v0 v3 v4 v5 n) := rfl
theorem f_X4_enter_l116_s (v0 : Nat) (v3 : Int32) (v4 : Nat) (n : Nat) : f_X4_enter_l116 v0 v3 v4 (n + 1) = b_X4_enter_l116 v0 v3 v4 (f_X4_enter_l116 v0 v3 v4 n) := rfl
theorem f_X4_enter_l184_s (v0 : Nat) (v4 : Nat) (n : Nat) : f_X4_enter_l184 v0 v4 (n + 1) = b_X4_enter_l184 v0 v4 (f_X4_enter_l184 v0 v4 n) := rfl
theorem f_X4_heightOf_l224_s (v0 : Nat) (v2 : Int32) (v3 : Nat) (v4 : Int32) (v6 : Int32) (n : Nat) : f_X4_heightOf_l224 v0 v2 v3 v4 v6 (n + 1) = b_X4_heightOf_l224 v0 v2 v3 v4 v6 (f_X4_heightOf_l224 v0 v2 v3 v4 v6 n) := rfl
theorem f_X4_heightOf_l11_s (v0 : Nat) (v2 : Int32) (v3 : Nat) (n : Nat) : f_X4_heightOf_l11 v0 v2 v3 (n + 1) = b_X4_heightOf_l11 v0 v2 v3 (f_X4_heightOf_l11 v0 v2 v3 n) := rfl
theorem f_X55_constant_l5_s (v0 : Nat) (v1 : Nat) (v2 : Nat) (n : Nat) : f_X55_constant_l5 v0 v1 v2 (n + 1) = b_X55_constant_l5 v0 v1 v2 (f_X55_constant_l5 v0 v1 v2 n) := rfl
theorem f_X55_fieldOf_l2_s (v0 : Nat) (v1 : Nat) (n : Nat) : f_X55_fieldOf_l2 v0 v1 (n + 1) = b_X55_fieldOf_l2 v0 v1 (f_X55_fieldOf_l2 v0 v1 n) := rfl
theorem f_X4_kindOfType_l24_s (v0 : Nat) (v1 : Nat) (v2 : Int32) (n : Nat) : f_X4_kindOfType_l24 v0 v1 v2 (n + 1) = b_X4_kindOfType_l24 v0 v1 v2 (f_X4_kindOfType_l24 v0 v1 v2 n) := rfl
theorem f_X4_method_l2_s (v0 : Nat) (v1 : Nat) (n : Nat) : f_X4_method_l2 v0 v1 (n + 1) = b_X4_method_l2 v0 v1 (f_X4_method_l2 v0 v1 n) := rfl
theorem f_X4_method_l41_s (v1 : Nat) (v2 : Nat) (n : Nat) : f_X4_method_l41 v1 v2 (n + 1) = b_X4_method_l41 v1 v2 (f_X4_method_l41 v1 v2 n) := rfl
theorem f_X55_call_l315_s (v0 : Nat) (v1 : Nat) (v2 : Int32) (v3 : Int32) (v5 : Nat) (n : Nat) : f_X55_call_l315 v0 v1 v2 v3 v5 (n + 1) = b_X55_call_l315 v0 v1 v2 v3 v5 (f_X55_call_l315 v0 v1 v2 v3 v5 n) := rfl
theorem f_X55_call_l416_s (v0 : Nat) (v1 : Nat) (v2 : Int32) (v3 : Int32) (v5 : Nat) (n : Nat) : f_X55_call_l416 v0 v1 v2 v3 v5 (n + 1) = b_X55_call_l416 v0 v1 v2 v3 v5 (f_X55_call_l416 v0 v1 v2 v3 v5 n) := rfl
theorem f_X55_call_l485_s (v0 : Nat) (v1 : Nat) (v2 : Int32) (v5 : Nat) (n : Nat) : f_X55_call_l485 v0 v1 v2 v5 (n + 1) = b_X55_call_l485 v0 v1 v2 v5 (f_X55_call_l485 v0 v1 v2 v5 n) := rfl
theorem f_X55_slot_l10_s (v0 : Nat) (v1 : Nat) (n : Nat) : f_X55_slot_l10 v0 v1 (n + 1) = b_X55_slot_l10 v0 v1 (f_X55_slot_l10 v0 v1 n) := rfl
theorem f_X4_isClassName_l3_s (v0 : Nat) (v1 : Nat) (n : Nat) : f_X4_isClassName_l3 v0 v1 (n + 1) = b_X4_isClassName_l3 v0 v1 (f_X4_isClassName_l3 v0 v1 n) := rfl
theorem f_X55_source_l110_s (v0 : Nat) (v1 : Nat) (v2 : Nat) (v3 : Int32) (n : Nat) : f_X55_source_l110 v0 v1 v2 v3 (n + 1) = b_X55_source_l110 v0 v1 v2 v3 (f_X55_source_l110 v0 v1 v2 v3 n) := rfl
theorem f_X55_all_l2_s (v0 : Nat) (v1 : Nat) (n : Nat) : f_X55_all_l2 v0 v1 (n + 1) = b_X55_all_l2 v0 v1 (f_X55_all_l2 v0 v1 n) := rfl
theorem f_X55_rows_l36_s (v0 : Nat) (n : Nat) : f_X55_rows_l36 v0 (n + 1) = b_X55_rows_l36 v0 (f_X55_rows_l36 v0 n) := rfl
theorem f_X4_meant_l134_s (v0 : Nat) (v1 : Nat) (v2 : Nat) (v4 : Int32) (v7 : Nat) (n : Nat) : f_X4_meant_l134 v0 v1 v2 v4 v7 (n + 1) = b_X4_meant_l134 v0 v1 v2 v4 v7 (f_X4_meant_l134 v0 v1 v2 v4 v7 n) := rfl
theorem f_X4_meant_l22_s (v0 : Nat) (v1 : Nat) (v2 : Nat) (n : Nat) : f_X4_meant_l22 v0 v1 v2 (n + 1) = b_X4_meant_l22 v0 v1 v2 (f_X4_meant_l22 v0 v1 v2 n) := rfl
theorem f_X4_compareOrders_l71_s (v6 : Nat) (v7 : Nat) (n : Nat) : f_X4_compareOrders_l71 v6 v7 (n + 1) = b_X4_compareOrders_l71 v6 v7 (f_X4_compareOrders_l71 v6 v7 n) := rfl
theorem f_X4_order_l12_s (v0 : Nat) (v1 : Int32) (n : Nat) : f_X4_order_l12 v0 v1 (n + 1) = b_X4_order_l12 v0 v1 (f_X4_order_l12 v0 v1 n) := rfl
theorem f_X4_order_l2_s (v0 : Nat) (n : Nat) : f_X4_order_l2 v0 (n + 1) = b_X4_order_l2 v0 (f_X4_order_l2 v0 n) := rfl
theorem f_X4_bodied_l2_s (v0 : Nat) (v1 : Nat) (v2 : Nat) (n : Nat) : f_X4_bodied_l2 v0 v1 v2 (n + 1) = b_X4_bodied_l2 v0 v1 v2 (f_X4_bodied_l2 v0 v1 v2 n) := rfl
theorem f_X4_bodied_l107_s (v0 : Nat) (v2 : Nat) (v3 : Nat) (v4 : Nat) (v5 : Int32) (v6 : Nat) (n : Nat) : f_X4_bodied_l107 v0 v2 v3 v4 v5 v6 (n + 1) = b_X4_bodied_l107 v0 v2 v3 v4 v5 v6 (f_X4_bodied_l107 v0 v2 v3 v4 v5 v6 n) := rfl
theorem f_X4_bodied_l60_s (v0 : Nat) (v2 : Nat) (v3 : Nat) (n : Nat) : f_X4_bodied_l60 v0 v2 v3 (n + 1) = b_X4_bodied_l60 v0 v2 v3 (f_X4_bodied_l60 v0 v2 v3 n) := rfl
theorem f_X4_resolved_l2_s (v0 : Nat) (v1 : Int32) (v2 : Nat) (n : Nat) : f_X4_resolved_l2 v0 v1 v2 (n + 1) = b_X4_resolved_l2 v0 v1 v2 (f_X4_resolved_l2 v0 v1 v2 n) := rfl
theorem f_X4_called_l75_s (v0 : Nat) (v1 : Nat) (v2 : Nat) (v3 : Int32) (v4 : Int64) (v6 : Nat) (n : Nat) : f_X4_called_l75 v0 v1 v2 v3 v4 v6 (n + 1) = b_X4_called_l75 v0 v1 v2 v3 v4 v6 (f_X4_called_l75 v0 v1 v2 v3 v4 v6 n) := rfl
theorem f_X4_run_l0_s (v0 : Nat) (n : Nat) : f_X4_run_l0 v0 (n + 1) = b_X4_run_l0 v0 (f_X4_run_l0 v0 n) := rfl
theorem f_X4_used_l9_s (v0 : Nat) (v1 : Nat) (n : Nat) : f_X4_used_l9 v0 v1 (n + 1) = b_X4_used_l9 v0 v1 (f_X4_used_l9 v0 v1 n) := rfl
theorem f_X4_ask_l194_s (v0 : Nat) (v3 : Nat) (v4 : Nat) (v5 : Int32) (n : Nat) : f_X4_ask_l194 v0 v3 v4 v5 (n + 1) = b_X4_ask_l194 v0 v3 v4 v5 (f_X4_ask_l194 v0 v3 v4 v5 n) := rfl
theorem f_X4_ask_l182_s (v0 : Nat) (v3 : Nat) (v4 : Nat) (n : Nat) : f_X4_ask_l182 v0 v3 v4 (n + 1) = b_X4_ask_l182 v0 v3 v4 (f_X4_ask_l182 v0 v3 v4 n) := rfl
theorem f_X4_ask_l260_s (v0 : Nat) (v3 : Nat) (v4 : Nat) (n : Nat) : f_X4_ask_l260 v0 v3 v4 (n + 1) = b_X4_ask_l260 v0 v3 v4 (f_X4_ask_l260 v0 v3 v4 n) := rfl
theorem f_X4_begin_l15_s (v0 : Nat) (n : Nat) : f_X4_begin_l15 v0 (n + 1) = b_X4_begin_l15 v0 (f_X4_begin_l15 v0 n) := rfl
theorem f_X4_begin_l98_s (v0 : Nat) (v1 : Nat) (n : Nat) : f_X4_begin_l98 v0 v1 (n + 1) = b_X4_begin_l98 v0 v1 (f_X4_begin_l98 v0 v1 n) := rfl
theorem f_X4_begin_l127_s (v0 : Nat) (v1 : Nat) (n : Nat) : f_X4_begin_l127 v0 v1 (n + 1) = b_X4_begin_l127 v0 v1 (f_X4_begin_l127 v0 v1 n) := rfl
theorem f_X4_begin_l149_s (v0 : Nat) (v1 : Nat) (n : Nat) : f_X4_begin_l149 v0 v1 (n + 1) = b_X4_begin_l149 v0 v1 (f_X4_begin_l149 v0 v1 n) := rfl
theorem f_X4_bits_l33_s (v0 : Nat) (v1 : Nat) (v2 : Int32) (v3 : Int32) (n : Nat) : f_X4_bits_l33 v0 v1 v2 v3 (n + 1) = b_X4_bits_l33 v0 v1 v2 v3 (f_X4_bits_l33 v0 v1 v2 v3 n) := rfl
theorem f_X4_body_l52_s (v0 : Nat) (v1 : Nat) (v2 : Nat) (v3 : Nat) (n : Nat) : f_X4_body_l52 v0 v1 v2 v3 (n + 1) = b_X4_body_l52 v0 v1 v2 v3 (f_X4_body_l52 v0 v1 v2 v3 n) := rfl
theorem f_X4_usedWord_l10_s (v0 : Nat) (v1 : Nat) (n : Nat) : f_X4_usedWord_l10 v0 v1 (n + 1) = b_X4_usedWord_l10 v0 v1 (f_X4_usedWord_l10 v0 v1 n) := rfl
theorem f_X4_call_l157_s (v0 : Nat) (v1 : Int32) (v2 : Int32) (v4 : Int32) (v8 : Nat) (n : Nat) : f_X4_call_l157 v0 v1 v2 v4 v8 (n + 1) = b_X4_call_l157 v0 v1 v2 v4 v8 (f_X4_call_l157 v0 v1 v2 v4 v8 n) := rfl
theorem f_X4_call_l222_s (v0 : Nat) (v1 : Int32) (v4 : Int32) (v8 : Nat) (n : Nat) : f_X4_call_l222 v0 v1 v4 v8 (n + 1) = b_X4_call_l222 v0 v1 v4 v8 (f_X4_call_l222 v0 v1 v4 v8 n) := rfl
theorem f_X4_isChanged_l2_s (v1 : Nat) (v2 : Nat) (n : Nat) : f_X4_isChanged_l2 v1 v2 (n + 1) = b_X4_isChanged_l2 v1 v2 (f_X4_isChanged_l2 v1 v2 n) := rfl
theorem f_X4_clashOf_l28_s (v0 : Nat) (v1 : Nat) (v2 : Int32) (v3 : Int32) (v4 : Nat) (n : Nat) : f_X4_clashOf_l28 v0 v1 v2 v3 v4 (n + 1) = b_X4_clashOf_l28 v0 v1 v2 v3 v4 (f_X4_clashOf_l28 v0 v1 v2 v3 v4 n) := rfl
theorem f_X4_clashOf_l77_s (v0 : Nat) (v1 : Nat) (v3 : Int32) (v4 : Nat) (n : Nat) : f_X4_clashOf_l77 v0 v1 v3 v4 (n + 1) = b_X4_clashOf_l77 v0 v1 v3 v4 (f_X4_clashOf_l77 v0 v1 v3 v4 n) := rfl
theorem f_X4_clashOf_l190_s (v0 : Nat) (v1 : Nat) (v2 : Int32) (v3 : Int32) (v4 : Nat) (v5 : Int32) (v6 : Nat) (n : Nat) : f_X4_clashOf_l190 v0 v1 v2 v3 v4 v5 v6 (n + 1) = b_X4_clashOf_l190 v0 v1 v2 v3 v4 v5 v6 (f_X4_clashOf_l190 v0 v1 v2 v3 v4 v5 v6 n) := rfl
theorem f_X4_clashOf_l156_s (v0 : Nat) (v1 : Nat) (v3 : Int32) (v4 : Nat) (n : Nat) : f_X4_clashOf_l156 v0 v1 v3 v4 (n + 1) = b_X4_clashOf_l156 v0 v1 v3 v4 (f_X4_clashOf_l156 v0 v1 v3 v4 n) := rfl
theorem f_X4_clashOf_l9_s (v0 : Nat) (v1 : Nat) (n : Nat) : f_X4_clashOf_l9 v0 v1 (n + 1) = b_X4_clashOf_l9 v0 v1 (f_X4_clashOf_l9 v0 v1 n) := rfl
theorem f_X4_clearWalk_l9_s (v0 : Nat) (n : Nat) : f_X4_clearWalk_l9 v0 (n + 1) = b_X4_clearWalk_l9 v0 (f_X4_clearWalk_l9 v0 n) := rfl
theorem f_X4_copy_l201_s (v0 : Nat) (v2 : Int32) (v4 : Int32) (v5 : Int32) (v6 : Nat) (v7 : Nat) (v8 : Int32) (v9 : Int32) (v10 : Nat) (n : Nat) : f_X4_copy_l201 v0 v2 v4 v5 v6 v7 v8 v9 v10 (n + 1) = b_X4_copy_l201 v0 v2 v4 v5 v6 v7 v8 v9 v10 (f_X4_copy_l201 v0 v2 v4 v5 v6 v7 v8 v9 v10 n) := rfl
theorem f_X4_copy_l253_s (v0 : Nat) (v4 : Int32) (v5 : Int32) (v8 : Int32) (v9 : Int32) (v11 : Nat) (n : Nat) : f_X4_copy_l253 v0 v4 v5 v8 v9 v11 (n + 1) = b_X4_copy_l253 v0 v4 v5 v8 v9 v11 (f_X4_copy_l253 v0 v4 v5 v8 v9 v11 n) := rfl
theorem f_X4_crash_l80_s (v0 : Nat) (n : Nat) : f_X4_crash_l80 v0 (n + 1) = b_X4_crash_l80 v0 (f_X4_crash_l80 v0 n) := rfl
theorem f_X4_crc_l22_s (v0 : Nat) (v1 : Int32) (v3 : Int32) (n : Nat) : f_X4_crc_l22 v0 v1 v3 (n + 1) = b_X4_crc_l22 v0 v1 v3 (f_X4_crc_l22 v0 v1 v3 n) := rfl
theorem f_X4_crc_l4_s (v0 : Nat) (v1 : Int32) (n : Nat) : f_X4_crc_l4 v0 v1 (n + 1) = b_X4_crc_l4 v0 v1 (f_X4_crc_l4 v0 v1 n) := rfl
theorem f_X4_isRoomFor_l26_s (v0 : Nat) (v1 : Nat) (v2 : Int32) (n : Nat) : f_X4_isRoomFor_l26 v0 v1 v2 (n + 1) = b_X4_isRoomFor_l26 v0 v1 v2 (f_X4_isRoomFor_l26 v0 v1 v2 n) := rfl
theorem f_X4_isRoomFor_l13_s (v0 : Nat) (v1 : Nat) (n : Nat) : f_X4_isRoomFor_l13 v0 v1 (n + 1) = b_X4_isRoomFor_l13 v0 v1 (f_X4_isRoomFor_l13 v0 v1 n) := rfl
theorem f_X4_isRoomFor_l114_s (v0 : Nat) (n : Nat) : f_X4_isRoomFor_l114 v0 (n + 1) = b_X4_isRoomFor_l114 v0 (f_X4_isRoomFor_l114 v0 n) := rfl
theorem f_X4_fieldsOf_l25_s (R : TY_S10) (v0 : Nat) (v1 : Nat) (n : Nat) : f_X4_fieldsOf_l25 R v0 v1 (n + 1) = b_X4_fieldsOf_l25 R v0 v1 (f_X4_fieldsOf_l25 R v0 v1 n) := rfl
theorem f_X4_isReached_l50_s (v1 : Nat) (v2 : Nat) (v3 : Nat) (v4 : Int32) (v5 : Nat) (n : Nat) : f_X4_isReached_l50 v1 v2 v3 v4 v5 (n + 1) = b_X4_isReached_l50 v1 v2 v3 v4 v5 (f_X4_isReached_l50 v1 v2 v3 v4 v5 n) := rfl
theorem f_X4_isReached_l27_s (v1 : Nat) (v2 : Nat) (v3 : Nat) (n : Nat) : f_X4_isReached_l27 v1 v2 v3 (n + 1) = b_X4_isReached_l27 v1 v2 v3 (f_X4_isReached_l27 v1 v2 v3 n) := rfl
theorem f_X4_isAboveItself_l21_s (v0 : Nat) (v1 : Nat) (n : Nat) : f_X4_isAboveItself_l21 v0 v1 (n + 1) = b_X4_isAboveItself_l21 v0 v1 (f_X4_isAboveItself_l21 v0 v1 n) := rfl
theorem f_X4_isWhole_l10_s (v0 : Nat) (v1 : Nat) (v2 : Nat) (n : Nat) : f_X4_isWhole_l10 v0 v1 v2 (n + 1) = b_X4_isWhole_l10 v0 v1 v2 (f_X4_isWhole_l10 v0 v1 v2 n) := rfl
theorem f_X4_isWhole_l46_s (v0 : Nat) (v1 : Nat) (v2 : Nat) (v3 : Int32) (n : Nat) : f_X4_isWhole_l46 v0 v1 v2 v3 (n + 1) = b_X4_isWhole_l46 v0 v1 v2 v3 (f_X4_isWhole_l46 v0 v1 v2 v3 n) := rfl
theorem f_X4_isWhole_l35_s (v0 : Nat) (v1 : Nat) (v2 : Nat) (n : Nat) : f_X4_isWhole_l35 v0 v1 v2 (n + 1) = b_X4_isWhole_l35 v0 v1 v2 (f_X4_isWhole_l35 v0 v1 v2 n) := rfl
theorem f_X4_lay_l80_s (v0 : Nat) (v1 : Int32) (v2 : Nat) (v3 : Int32) (v4 : Nat) (n : Nat) : f_X4_lay_l80 v0 v1 v2 v3 v4 (n + 1) = b_X4_lay_l80 v0 v1 v2 v3 v4 (f_X4_lay_l80 v0 v1 v2 v3 v4 n) := rfl
theorem f_X4_lay_l59_s (v0 : Nat) (v1 : Int32) (v2 : Nat) (n : Nat) : f_X4_lay_l59 v0 v1 v2 (n + 1) = b_X4_lay_l59 v0 v1 v2 (f_X4_lay_l59 v0 v1 v2 n) := rfl
theorem f_X4_lay_l17_s (v0 : Nat) (n : Nat) : f_X4_lay_l17 v0 (n + 1) = b_X4_lay_l17 v0 (f_X4_lay_l17 v0 n) := rfl
theorem f_X4_isAmong_l2_s (v0 : Nat) (v1 : Nat) (n : Nat) : f_X4_isAmong_l2 v0 v1 (n + 1) = b_X4_isAmong_l2 v0 v1 (f_X4_isAmong_l2 v0 v1 n) := rfl
theorem f_X4_signature_l20_s (v0 : Nat) (v1 : Nat) (v2 : Nat) (v3 : Int32) (v4 : Nat) (n : Nat) : f_X4_signature_l20 v0 v1 v2 v3 v4 (n + 1) = b_X4_signature_l20 v0 v1 v2 v3 v4 (f_X4_signature_l20 v0 v1 v2 v3 v4 n) := rfl
theorem f_X4_signature_l120_s (v0 : Nat) (v1 : Nat) (v2 : Nat) (v3 : Int32) (n : Nat) : f_X4_signature_l120 v0 v1 v2 v3 (n + 1) = b_X4_signature_l120 v0 v1 v2 v3 (f_X4_signature_l120 v0 v1 v2 v3 n) := rfl
theorem f_X4_members_l15_s (v0 : Nat) (v1 : Nat) (v2 : Int32) (n : Nat) : f_X4_members_l15 v0 v1 v2 (n + 1) = b_X4_members_l15 v0 v1 v2 (f_X4_members_l15 v0 v1 v2 n) := rfl
theorem f_X4_members_l2_s (v0 : Nat) (v1 : Nat) (n : Nat) : f_X4_members_l2 v0 v1 (n + 1) = b_X4_members_l2 v0 v1 (f_X4_members_l2 v0 v1 n) := rfl
theorem f_X4_members_l122_s (v0 : Nat) (v1 : Nat) (v2 : Nat) (n : Nat) : f_X4_members_l122 v0 v1 v2 (n + 1) = b_X4_members_l122 v0 v1 v2 (f_X4_members_l122 v0 v1 v2 n) := rfl
theorem f_X4_rounds_l16_s (v0 : Nat) (v1 : Nat) (v2 : Int32) (n : Nat) : f_X4_rounds_l16 v0 v1 v2 (n + 1) = b_X4_rounds_l16 v0 v1 v2 (f_X4_rounds_l16 v0 v1 v2 n) := rfl
theorem f_X4_rounds_l2_s (v0 : Nat) (v1 : Nat) (n : Nat) : f_X4_rounds_l2 v0 v1 (n + 1) = b_X4_rounds_l2 v0 v1 (f_X4_rounds_l2 v0 v1 n) := rfl
theorem f_X4_rounds_l99_s (v0 : Nat) (v1 : Nat) (n : Nat) : f_X4_rounds_l99 v0 v1 (n + 1) = b_X4_rounds_l99 v0 v1 (f_X4_rounds_l99 v0 v1 n) := rfl
theorem f_X4_rounds_l124_s (v0 : Nat) (v1 : Nat) (n : Nat) : f_X4_rounds_l124 v0 v1 (n + 1) = b_X4_rounds_l124 v0 v1 (f_X4_rounds_l124 v0 v1 n) := rfl
theorem f_X4_rounds_l175_s (v0 : Nat) (v1 : Nat) (n : Nat) : f_X4_rounds_l175 v0 v1 (n + 1) = b_X4_rounds_l175 v0 v1 (f_X4_rounds_l175 v0 v1 n) := rfl
theorem f_X4_rounds_l214_s (v0 : Nat) (v1 : Nat) (n : Nat) : f_X4_rounds_l214 v0 v1 (n + 1) = b_X4_rounds_l214 v0 v1 (f_X4_rounds_l214 v0 v1 n) := rfl
theorem f_X4_rounds_l254_s (v0 : Nat) (n : Nat) : f_X4_rounds_l254 v0 (n + 1) = b_X4_rounds_l254 v0 (f_X4_rounds_l254 v0 n) := rfl
theorem f_X4_rounds_l279_s (v0 : Nat) (n : Nat) : f_X4_rounds_l279 v0 (n + 1) = b_X4_rounds_l279 v0 (f_X4_rounds_l279 v0 n) := rfl
theorem f_X4_rounds_l311_s (v0 : Nat) (n : Nat) : f_X4_rounds_l311 v0 (n + 1) = b_X4_rounds_l311 v0 (f_X4_rounds_l311 v0 n) := rfl
theorem f_X4_rounds_l336_s (v0 : Nat) (n : Nat) : f_X4_rounds_l336 v0 (n + 1) = b_X4_rounds_l336 v0 (f_X4_rounds_l336 v0 n) := rfl
theorem f_X4_rounds_l418_s (v0 : Nat) (v3 : Int32) (v4 : Nat) (n : Nat) : f_X4_rounds_l418 v0 v3 v4 (n + 1) = b_X4_rounds_l418 v0 v3 v4 (f_X4_rounds_l418 v0 v3 v4 n) := rfl
theorem f_X4_rounds_l400_s (v0 : Nat) (n : Nat) : f_X4_rounds_l400 v0 (n + 1) = b_X4_rounds_l400 v0 (f_X4_rounds_l400 v0 n) := rfl
theorem f_X4_start_l2_s (v0 : Nat) (n : Nat) : f_X4_start_l2 v0 (n + 1) = b_X4_start_l2 v0 (f_X4_start_l2 v0 n) := rfl
theorem f_X4_start_l44_s (v0 : Nat) (v1 : Int32) (n : Nat) : f_X4_start_l44 v0 v1 (n + 1) = b_X4_start_l44 v0 v1 (f_X4_start_l44 v0 v1 n) := rfl
theorem f_X4_start_l34_s (v0 : Nat) (n : Nat) : f_X4_start_l34 v0 (n + 1) = b_X4_start_l34 v0 (f_X4_start_l34 v0 n) := rfl
theorem f_X4_start_l96_s (v0 : Nat) (n : Nat) : f_X4_start_l96 v0 (n + 1) = b_X4_start_l96 v0 (f_X4_start_l96 v0 n) := rfl
theorem f_X4_start_l144_s (v0 : Nat) (n : Nat) : f_X4_start_l144 v0 (n + 1) = b_X4_start_l144 v0 (f_X4_start_l144 v0 n) := rfl
theorem f_X4_start_l188_s (v0 : Nat) (n : Nat) : f_X4_start_l188 v0 (n + 1) = b_X4_start_l188 v0 (f_X4_start_l188 v0 n) := rfl
theorem f_X4_declare_l61_s (v0 : Nat) (v1 : Nat) (v2 : Nat) (n : Nat) : f_X4_declare_l61 v0 v1 v2 (n + 1) = b_X4_declare_l61 v0 v1 v2 (f_X4_declare_l61 v0 v1 v2 n) := rfl
theorem f_X4_declare_l261_s (v0 : Nat) (v2 : Nat) (v3 : Nat) (v4 : Nat) (n : Nat) : f_X4_declare_l261 v0 v2 v3 v4 (n + 1) = b_X4_declare_l261 v0 v2 v3 v4 (f_X4_declare_l261 v0 v2 v3 v4 n) := rfl
theorem f_X4_spelled_l10_s (v0 : Nat) (v2 : Nat) (n : Nat) : f_X4_spelled_l10 v0 v2 (n + 1) = b_X4_spelled_l10 v0 v2 (f_X4_spelled_l10 v0 v2 n) := rfl
theorem f_X4_descriptorIn_l65_s (v0 : Nat) (v1 : Nat) (v2 : Nat) (v3 : Int32) (v4 : Int32) (v5 : Nat) (n : Nat) : f_X4_descriptorIn_l65 v0 v1 v2 v3 v4 v5 (n + 1) = b_X4_descriptorIn_l65 v0 v1 v2 v3 v4 v5 (f_X4_descriptorIn_l65 v0 v1 v2 v3 v4 v5 n) := rfl
theorem f_X4_descriptorIn_l163_s (v0 : Nat) (v2 : Nat) (v3 : Int32) (v6 : Int32) (n : Nat) : f_X4_descriptorIn_l163 v0 v2 v3 v6 (n + 1) = b_X4_descriptorIn_l163 v0 v2 v3 v6 (f_X4_descriptorIn_l163 v0 v2 v3 v6 n) := rfl
theorem f_X4_small_l13_s (v0 : Nat) (v1 : Nat) (v2 : Int32) (n : Nat) : f_X4_small_l13 v0 v1 v2 (n + 1) = b_X4_small_l13 v0 v1 v2 (f_X4_small_l13 v0 v1 v2 n) := rfl
theorem f_X4_draft_l283_s (v0 : Nat) (v1 : Nat) (v3 : Int32) (v4 : Nat) (v5 : Nat) (v7 : Int32) (n : Nat) : f_X4_draft_l283 v0 v1 v3 v4 v5 v7 (n + 1) = b_X4_draft_l283 v0 v1 v3 v4 v5 v7 (f_X4_draft_l283 v0 v1 v3 v4 v5 v7 n) := rfl
theorem f_X4_draft_l113_s (v0 : Nat) (v1 : Nat) (v4 : Nat) (v7 : Int32) (v8 : Nat) (n : Nat) : f_X4_draft_l113 v0 v1 v4 v7 v8 (n + 1) = b_X4_draft_l113 v0 v1 v4 v7 v8 (f_X4_draft_l113 v0 v1 v4 v7 v8 n) := rfl
theorem f_X4_drafted_l28_s (v0 : Nat) (v1 : Nat) (v2 : Nat) (v3 : Int32) (n : Nat) : f_X4_drafted_l28 v0 v1 v2 v3 (n + 1) = b_X4_drafted_l28 v0 v1 v2 v3 (f_X4_drafted_l28 v0 v1 v2 v3 n) := rfl
theorem f_X4_drafted_l159_s (v0 : Nat) (v2 : Nat) (v6 : Nat) (v7 : Int32) (v8 : Nat) (n : Nat) : f_X4_drafted_l159 v0 v2 v6 v7 v8 (n + 1) = b_X4_drafted_l159 v0 v2 v6 v7 v8 (f_X4_drafted_l159 v0 v2 v6 v7 v8 n) := rfl
theorem f_X4_drafted_l227_s (v0 : Nat) (v2 : Nat) (v6 : Nat) (v7 : Int32) (v8 : Nat) (v10 : Int32) (n : Nat) : f_X4_drafted_l227 v0 v2 v6 v7 v8 v10 (n + 1) = b_X4_drafted_l227 v0 v2 v6 v7 v8 v10 (f_X4_drafted_l227 v0 v2 v6 v7 v8 v10 n) := rfl
theorem f_X4_drafted_l344_s (v0 : Nat) (v2 : Nat) (v11 : Int32) (v12 : Nat) (n : Nat) : f_X4_drafted_l344 v0 v2 v11 v12 (n + 1) = b_X4_drafted_l344 v0 v2 v11 v12 (f_X4_drafted_l344 v0 v2 v11 v12 n) := rfl
theorem f_X4_drafted_l321_s (v0 : Nat) (v2 : Nat) (n : Nat) : f_X4_drafted_l321 v0 v2 (n + 1) = b_X4_drafted_l321 v0 v2 (f_X4_drafted_l321 v0 v2 n) := rfl
theorem f_X4_drop_l25_s (v0 : Nat) (v2 : Nat) (n : Nat) : f_X4_drop_l25 v0 v2 (n + 1) = b_X4_drop_l25 v0 v2 (f_X4_drop_l25 v0 v2 n) := rfl
theorem f_X4_word_l2_s (v0 : Nat) (v1 : Int32) (n : Nat) : f_X4_word_l2 v0 v1 (n + 1) = b_X4_word_l2 v0 v1 (f_X4_word_l2 v0 v1 n) := rfl
theorem f_X4_isOfRead_l2_s (v0 : Nat) (v1 : Nat) (v2 : Nat) (n : Nat) : f_X4_isOfRead_l2 v0 v1 v2 (n + 1) = b_X4_isOfRead_l2 v0 v1 v2 (f_X4_isOfRead_l2 v0 v1 v2 n) := rfl
theorem f_X4_holds_l2_s (v0 : Nat) (v1 : Nat) (n : Nat) : f_X4_holds_l2 v0 v1 (n + 1) = b_X4_holds_l2 v0 v1 (f_X4_holds_l2 v0 v1 n) := rfl
theorem f_X4_holds_l31_s (v0 : Nat) (v1 : Nat) (n : Nat) : f_X4_holds_l31 v0 v1 (n + 1) = b_X4_holds_l31 v0 v1 (f_X4_holds_l31 v0 v1 n) := rfl
theorem f_X4_holds_l96_s (v0 : Nat) (v1 : Nat) (n : Nat) : f_X4_holds_l96 v0 v1 (n + 1) = b_X4_holds_l96 v0 v1 (f_X4_holds_l96 v0 v1 n) := rfl
theorem f_X4_init_l479_s (v0 : Nat) (n : Nat) : f_X4_init_l479 v0 (n + 1) = b_X4_init_l479 v0 (f_X4_init_l479 v0 n) := rfl
theorem f_X4_isSame_l6_s (v0 : Nat) (v1 : Nat) (v2 : Nat) (n : Nat) : f_X4_isSame_l6 v0 v1 v2 (n + 1) = b_X4_isSame_l6 v0 v1 v2 (f_X4_isSame_l6 v0 v1 v2 n) := rfl
theorem f_X4_isSame_l118_s (v0 : Nat) (v3 : Int32) (v4 : Nat) (v6 : Nat) (v7 : Nat) (n : Nat) : f_X4_isSame_l118 v0 v3 v4 v6 v7 (n + 1) = b_X4_isSame_l118 v0 v3 v4 v6 v7 (f_X4_isSame_l118 v0 v3 v4 v6 v7 n) := rfl
theorem f_X4_isSame_l39_s (v0 : Nat) (n : Nat) : f_X4_isSame_l39 v0 (n + 1) = b_X4_isSame_l39 v0 (f_X4_isSame_l39 v0 n) := rfl
theorem f_X6_word_l2_s (v0 : Nat) (v1 : Nat) (n : Nat) : f_X6_word_l2 v0 v1 (n + 1) = b_X6_word_l2 v0 v1 (f_X6_word_l2 v0 v1 n) := rfl
theorem f_X4_recorded_l171_s (v0 : Nat) (v1 : Nat) (v2 : Nat) (v3 : Nat) (v4 : Int32) (v7 : Nat) (n : Nat) : f_X4_recorded_l171 v0 v1 v2 v3 v4 v7 (n + 1) = b_X4_recorded_l171 v0 v1 v2 v3 v4 v7 (f_X4_recorded_l171 v0 v1 v2 v3 v4 v7 n) := rfl
theorem f_X4_recorded_l56_s (v0 : Nat) (v1 : Nat) (v2 : Nat) (v3 : Nat) (n : Nat) : f_X4_recorded_l56 v0 v1 v2 v3 (n + 1) = b_X4_recorded_l56 v0 v1 v2 v3 (f_X4_recorded_l56 v0 v1 v2 v3 n) := rfl
theorem f_X4_recorded_l228_s (v0 : Nat) (v1 : Nat) (v3 : Nat) (n : Nat) : f_X4_recorded_l228 v0 v1 v3 (n + 1) = b_X4_recorded_l228 v0 v1 v3 (f_X4_recorded_l228 v0 v1 v3 n) := rfl
theorem f_X4_recorded_l265_s (v0 : Nat) (v1 : Nat) (v3 : Nat) (n : Nat) : f_X4_recorded_l265 v0 v1 v3 (n + 1) = b_X4_recorded_l265 v0 v1 v3 (f_X4_recorded_l265 v0 v1 v3 n) := rfl
theorem f_X4_kept_l10_s (v0 : Nat) (v1 : Nat) (v2 : Nat) (n : Nat) : f_X4_kept_l10 v0 v1 v2 (n + 1) = b_X4_kept_l10 v0 v1 v2 (f_X4_kept_l10 v0 v1 v2 n) := rfl
theorem f_X4_kept_l134_s (v0 : Nat) (v1 : Nat) (v2 : Nat) (v3 : Nat) (n : Nat) : f_X4_kept_l134 v0 v1 v2 v3 (n + 1) = b_X4_kept_l134 v0 v1 v2 v3 (f_X4_kept_l134 v0 v1 v2 v3 n) := rfl
theorem f_X4_kept_l208_s (v0 : Nat) (v1 : Nat) (v2 : Nat) (v3 : Nat) (n : Nat) : f_X4_kept_l208 v0 v1 v2 v3 (n + 1) = b_X4_kept_l208 v0 v1 v2 v3 (f_X4_kept_l208 v0 v1 v2 v3 n) := rfl
theorem f_X4_unlike_l16_s (v0 : Nat) (v1 : Nat) (v3 : Nat) (v4 : Nat) (n : Nat) : f_X4_unlike_l16 v0 v1 v3 v4 (n + 1) = b_X4_unlike_l16 v0 v1 v3 v4 (f_X4_unlike_l16 v0 v1 v3 v4 n) := rfl
theorem f_X4_whole_l9_s (v0 : Nat) (v1 : Nat) (v2 : Int32) (v3 : Nat) (n : Nat) : f_X4_whole_l9 v0 v1 v2 v3 (n + 1) = b_X4_whole_l9 v0 v1 v2 v3 (f_X4_whole_l9 v0 v1 v2 v3 n) := rfl
theorem f_X4_patch_l103_s (v0 : Nat) (v3 : Nat) (v4 : Nat) (n : Nat) : f_X4_patch_l103 v0 v3 v4 (n + 1) = b_X4_patch_l103 v0 v3 v4 (f_X4_patch_l103 v0 v3 v4 n) := rfl
theorem f_X4_patch_l157_s (v0 : Nat) (n : Nat) : f_X4_patch_l157 v0 (n + 1) = b_X4_patch_l157 v0 (f_X4_patch_l157 v0 n) := rfl
theorem f_X4_patch_l245_s (v0 : Nat) (n : Nat) : f_X4_patch_l245 v0 (n + 1) = b_X4_patch_l245 v0 (f_X4_patch_l245 v0 n) := rfl
theorem f_X4_range_l235_s (v0 : Nat) (v1 : Int32) (v2 : Int32) (v8 : Int32) (v9 : Int64) (v11 : Int64) (v13 : Int32) (v14 : Int64) (n : Nat) : f_X4_range_l235 v0 v1 v2 v8 v9 v11 v13 v14 (n + 1) = b_X4_range_l235 v0 v1 v2 v8 v9 v11 v13 v14 (f_X4_range_l235 v0 v1 v2 v8 v9 v11 v13 v14 n) := rfl
theorem f_X4_range_l156_s (v0 : Nat) (v1 : Int32) (v2 : Int32) (v8 : Int32) (v9 : Int64) (v11 : Int64) (n : Nat) : f_X4_range_l156 v0 v1 v2 v8 v9 v11 (n + 1) = b_X4_range_l156 v0 v1 v2 v8 v9 v11 (f_X4_range_l156 v0 v1 v2 v8 v9 v11 n) := rfl
theorem f_X4_read_l125_s (v0 : Nat) (v2 : Nat) (v3 : Int32) (v4 : Int32) (v5 : Int32) (v6 : Nat) (n : Nat) : f_X4_read_l125 v0 v2 v3 v4 v5 v6 (n + 1) = b_X4_read_l125 v0 v2 v3 v4 v5 v6 (f_X4_read_l125 v0 v2 v3 v4 v5 v6 n) := rfl
theorem f_X4_read_l60_s (v0 : Nat) (v2 : Nat) (n : Nat) : f_X4_read_l60 v0 v2 (n + 1) = b_X4_read_l60 v0 v2 (f_X4_read_l60 v0 v2 n) := rfl
theorem f_X4_read_l246_s (v0 : Nat) (v2 : Nat) (n : Nat) : f_X4_read_l246 v0 v2 (n + 1) = b_X4_read_l246 v0 v2 (f_X4_read_l246 v0 v2 n) := rfl
theorem f_X4_read_l371_s (v0 : Nat) (v2 : Nat) (v5 : Int32) (v6 : Nat) (n : Nat) : f_X4_read_l371 v0 v2 v5 v6 (n + 1) = b_X4_read_l371 v0 v2 v5 v6 (f_X4_read_l371 v0 v2 v5 v6 n) := rfl
theorem f_X4_read_l348_s (v0 : Nat) (v2 : Nat) (n : Nat) : f_X4_read_l348 v0 v2 (n + 1) = b_X4_read_l348 v0 v2 (f_X4_read_l348 v0 v2 n) := rfl
theorem f_X4_record_l91_s (v0 : Nat) (v1 : Int32) (v2 : Int32) (v4 : Nat) (v5 : Nat) (n : Nat) : f_X4_record_l91 v0 v1 v2 v4 v5 (n + 1) = b_X4_record_l91 v0 v1 v2 v4 v5 (f_X4_record_l91 v0 v1 v2 v4 v5 n) := rfl
theorem f_X4_refers_l2_s (v0 : Nat) (v1 : Nat) (v2 : Nat) (n : Nat) : f_X4_refers_l2 v0 v1 v2 (n + 1) = b_X4_refers_l2 v0 v1 v2 (f_X4_refers_l2 v0 v1 v2 n) := rfl
theorem f_X4_reopen_l89_s (v0 : Nat) (v1 : Int32) (v2 : Int32) (v4 : Int32) (n : Nat) : f_X4_reopen_l89 v0 v1 v2 v4 (n + 1) = b_X4_reopen_l89 v0 v1 v2 v4 (f_X4_reopen_l89 v0 v1 v2 v4 n) := rfl
theorem f_X4_reopen_l38_s (v0 : Nat) (n : Nat) : f_X4_reopen_l38 v0 (n + 1) = b_X4_reopen_l38 v0 (f_X4_reopen_l38 v0 n) := rfl
theorem f_X4_reopen_l151_s (v0 : Nat) (v1 : Int32) (n : Nat) : f_X4_reopen_l151 v0 v1 (n + 1) = b_X4_reopen_l151 v0 v1 (f_X4_reopen_l151 v0 v1 n) := rfl
theorem f_X4_reopen_l230_s (v0 : Nat) (v1 : Int32) (n : Nat) : f_X4_reopen_l230 v0 v1 (n + 1) = b_X4_reopen_l230 v0 v1 (f_X4_reopen_l230 v0 v1 n) := rfl
theorem f_X4_stay_l9_s (v0 : Nat) (v1 : Int32) (n : Nat) : f_X4_stay_l9 v0 v1 (n + 1) = b_X4_stay_l9 v0 v1 (f_X4_stay_l9 v0 v1 n) := rfl
theorem f_X4_stay_l41_s (v0 : Nat) (v1 : Int32) (v2 : Int32) (n : Nat) : f_X4_stay_l41 v0 v1 v2 (n + 1) = b_X4_stay_l41 v0 v1 v2 (f_X4_stay_l41 v0 v1 v2 n) := rfl
theorem f_X4_stay_l31_s (v0 : Nat) (v1 : Int32) (n : Nat) : f_X4_stay_l31 v0 v1 (n + 1) = b_X4_stay_l31 v0 v1 (f_X4_stay_l31 v0 v1 n) := rfl
theorem f_X4_stay_l81_s (v0 : Nat) (v1 : Int32) (n : Nat) : f_X4_stay_l81 v0 v1 (n + 1) = b_X4_stay_l81 v0 v1 (f_X4_stay_l81 v0 v1 n) := rfl
theorem f_X4_stay_l154_s (v0 : Nat) (v1 : Int32) (v2 : Int32) (v3 : Nat) (n : Nat) : f_X4_stay_l154 v0 v1 v2 v3 (n + 1) = b_X4_stay_l154 v0 v1 v2 v3 (f_X4_stay_l154 v0 v1 v2 v3 n) := rfl
theorem f_X4_stay_l195_s (v0 : Nat) (v1 : Int32) (v2 : Int32) (v3 : Nat) (n : Nat) : f_X4_stay_l195 v0 v1 v2 v3 (n + 1) = b_X4_stay_l195 v0 v1 v2 v3 (f_X4_stay_l195 v0 v1 v2 v3 n) := rfl
theorem f_X4_stay_l117_s (v0 : Nat) (v1 : Int32) (n : Nat) : f_X4_stay_l117 v0 v1 (n + 1) = b_X4_stay_l117 v0 v1 (f_X4_stay_l117 v0 v1 n) := rfl
theorem f_X4_sweep_l51_s (v0 : Nat) (v1 : Int32) (n : Nat) : f_X4_sweep_l51 v0 v1 (n + 1) = b_X4_sweep_l51 v0 v1 (f_X4_sweep_l51 v0 v1 n) := rfl
theorem f_X4_sweep_l118_s (v0 : Nat) (v1 : Int32) (n : Nat) : f_X4_sweep_l118 v0 v1 (n + 1) = b_X4_sweep_l118 v0 v1 (f_X4_sweep_l118 v0 v1 n) := rfl
theorem f_X4_sweep_l232_s (v0 : Nat) (v1 : Int32) (v3 : Nat) (n : Nat) : f_X4_sweep_l232 v0 v1 v3 (n + 1) = b_X4_sweep_l232 v0 v1 v3 (f_X4_sweep_l232 v0 v1 v3 n) := rfl
theorem f_X4_sweep_l285_s (v0 : Nat) (v1 : Int32) (n : Nat) : f_X4_sweep_l285 v0 v1 (n + 1) = b_X4_sweep_l285 v0 v1 (f_X4_sweep_l285 v0 v1 n) := rfl
theorem f_X4_text_l28_s (v0 : Nat) (n : Nat) : f_X4_text_l28 v0 (n + 1) = b_X4_text_l28 v0 (f_X4_text_l28 v0 n) := rfl
theorem f_X6_small_l2_s (v0 : Nat) (n : Nat) : f_X6_small_l2 v0 (n + 1) = b_X6_small_l2 v0 (f_X6_small_l2 v0 n) := rfl
theorem f_X4_thingOut_l66_s (v0 : Nat) (v1 : Nat) (v2 : Nat) (v3 : Nat) (n : Nat) : f_X4_thingOut_l66 v0 v1 v2 v3 (n + 1) = b_X4_thingOut_l66 v0 v1 v2 v3 (f_X4_thingOut_l66 v0 v1 v2 v3 n) := rfl
theorem f_X4_walkFrom_l55_s (v0 : Nat) (v2 : Int32) (v3 : Nat) (v4 : Nat) (n : Nat) : f_X4_walkFrom_l55 v0 v2 v3 v4 (n + 1) = b_X4_walkFrom_l55 v0 v2 v3 v4 (f_X4_walkFrom_l55 v0 v2 v3 v4 n) := rfl
theorem f_X4_walkFrom_l11_s (v0 : Nat) (n : Nat) : f_X4_walkFrom_l11 v0 (n + 1) = b_X4_walkFrom_l11 v0 (f_X4_walkFrom_l11 v0 n) := rfl
theorem f_X4_write_l25_s (v0 : Nat) (n : Nat) : f_X4_write_l25 v0 (n + 1) = b_X4_write_l25 v0 (f_X4_write_l25 v0 n) := rfl
theorem f_X4_write_l65_s (v0 : Nat) (v3 : Nat) (n : Nat) : f_X4_write_l65 v0 v3 (n + 1) = b_X4_write_l65 v0 v3 (f_X4_write_l65 v0 v3 n) := rfl
theorem f_X4_write_l90_s (v0 : Nat) (v3 : Nat) (n : Nat) : f_X4_write_l90 v0 v3 (n + 1) = b_X4_write_l90 v0 v3 (f_X4_write_l90 v0 v3 n) := rfl
theorem f_X4_write_l196_s (v0 : Nat) (v3 : Nat) (v4 : Int32) (v5 : Nat) (n : Nat) : f_X4_write_l196 v0 v3 v4 v5 (n + 1) = b_X4_write_l196 v0 v3 v4 v5 (f_X4_write_l196 v0 v3 v4 v5 n) := rfl
theorem f_X4_write_l254_s (v0 : Nat) (v3 : Nat) (v5 : Nat) (n : Nat) : f_X4_write_l254 v0 v3 v5 (n + 1) = b_X4_write_l254 v0 v3 v5 (f_X4_write_l254 v0 v3 v5 n) := rfl
theorem r_S0_s (n : Nat) : r_S0 (n + 1) = (f_X3_isBelow_o (r_S0 n)) := rfl
theorem r_S1_s (n : Nat) : r_S1 (n + 1) = (f_X3_inClasses_o (r_S1 n)) := rfl
theorem r_S2_s (n : Nat) : r_S2 (n + 1) = (f_X16_work_o (r_S2 n), f_X20_work_o (r_S2 n), f_X22_work_o (r_S2 n), f_X23_work_o (r_S2 n), f_X24_work_o (r_S2 n), f_X25_work_o (r_S2 n), f_X27_work_o (r_S2 n), f_X28_work_o (r_S2 n), f_X29_work_o (r_S2 n), f_X38_call_o (r_S2 n)) := rfl
theorem r_S3_s (n : Nat) : r_S3 (n + 1) = (f_X43_go_o (r_S3 n)) := rfl
theorem r_S4_s (n : Nat) : r_S4 (n + 1) = (f_X10_binary_o (r_S4 n), f_X10_call_o (r_S4 n), f_X10_expression_o (r_S4 n), f_X10_postfix_o (r_S4 n), f_X10_primary_o (r_S4 n), f_X10_quantor_o (r_S4 n), f_X10_unary_o (r_S4 n)) := rfl
theorem r_S5_s (n : Nat) : r_S5 (n + 1) = (f_X16_check_o (r_S5 n), f_X20_check_o (r_S5 n), f_X22_check_o (r_S5 n), f_X23_check_o (r_S5 n), f_X24_check_o (r_S5 n), f_X25_check_o (r_S5 n), f_X26_check_o (r_S5 n), f_X27_check_o (r_S5 n), f_X28_check_o (r_S5 n), f_X29_check_o (r_S5 n)) := rfl
theorem r_S6_s (n : Nat) : r_S6 (n + 1) = (f_X11_layOut_o (r_S6 n)) := rfl
theorem r_S7_s (n : Nat) : r_S7 (n + 1) = (f_X48_arguments_o (r_S7 n), f_X48_expression_2_o (r_S7 n), f_X48_postfix_o (r_S7 n), f_X48_primary_o (r_S7 n), f_X48_ranked_o (r_S7 n), f_X48_unary_o (r_S7 n)) := rfl
theorem r_S8_s (n : Nat) : r_S8 (n + 1) = (f_X4_isBelow_o (r_S8 n)) := rfl
theorem r_S9_s (n : Nat) : r_S9 (n + 1) = (f_X4_allFaces_o (r_S9 n)) := rfl
theorem r_S10_s (n : Nat) : r_S10 (n + 1) = (f_X4_fieldsOf_o (r_S10 n)) := rfl
