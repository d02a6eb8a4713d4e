/-! Names of methods, their code; words of the tables. -/
def y_d_good : MethodName := ⟨"LimbDesk", "good", "(Z)V"⟩
abbrev b_d_good : ByteArray := prog_1_method_2_code
def y_d_fits : MethodName := ⟨"LimbDesk", "fits", "(Z)V"⟩
abbrev b_d_fits : ByteArray := prog_1_method_3_code
def y_d_in : MethodName := ⟨"LimbDesk", "in", "(III)Z"⟩
abbrev b_d_in : ByteArray := prog_1_method_4_code
def y_d_at : MethodName := ⟨"LimbDesk", "at", "(I)LLimbDesk$Num;"⟩
abbrev b_d_at : ByteArray := prog_1_method_5_code
def y_jI_nlz : MethodName := ⟨"java/lang/Integer", "numberOfLeadingZeros", "(I)I"⟩
abbrev b_jI_nlz : ByteArray := prog_10_method_47_code
def y_n_bits : MethodName := ⟨"LimbDesk$Num", "bits", "()I"⟩
abbrev b_n_bits : ByteArray := prog_2_method_8_code
def y_n_take : MethodName := ⟨"LimbDesk$Num", "take", "(LLimbDesk$Num;)V"⟩
abbrev b_n_take : ByteArray := prog_2_method_4_code
def y_d_into : MethodName := ⟨"LimbDesk", "into", "(LLimbDesk$Num;)LLimbDesk$Num;"⟩
abbrev b_d_into : ByteArray := prog_1_method_6_code
def y_n_trim : MethodName := ⟨"LimbDesk$Num", "trim", "(II)V"⟩
abbrev b_n_trim : ByteArray := prog_2_method_2_code
def y_n_set : MethodName := ⟨"LimbDesk$Num", "set", "(J)V"⟩
abbrev b_n_set : ByteArray := prog_2_method_3_code
def y_d_set : MethodName := ⟨"LimbDesk", "set", "(IJ)I"⟩
abbrev b_d_set : ByteArray := prog_1_method_7_code
def y_d_line : MethodName := ⟨"LimbDesk", "line", "(J)I"⟩
abbrev b_d_line : ByteArray := prog_1_method_8_code
def y_n_digit : MethodName := ⟨"LimbDesk$Num", "digit", "(I)I"⟩
abbrev b_n_digit : ByteArray := prog_2_method_28_code
def y_n_parse : MethodName := ⟨"LimbDesk$Num", "parse", "([BIII)V"⟩
abbrev b_n_parse : ByteArray := prog_2_method_29_code
def y_d_read : MethodName := ⟨"LimbDesk", "read", "(II)I"⟩
abbrev b_d_read : ByteArray := prog_1_method_9_code
def y_n_text : MethodName := ⟨"LimbDesk$Num", "text", "([BII)I"⟩
abbrev b_n_text : ByteArray := prog_2_method_30_code
def y_d_show : MethodName := ⟨"LimbDesk", "show", "(II)I"⟩
abbrev b_d_show : ByteArray := prog_1_method_10_code
def y_d_letter : MethodName := ⟨"LimbDesk", "letter", "(I)I"⟩
abbrev b_d_letter : ByteArray := prog_1_method_11_code
def y_n_limbs : MethodName := ⟨"LimbDesk$Num", "limbs", "(LLimbDesk$Num;LLimbDesk$Num;)I"⟩
abbrev b_n_limbs : ByteArray := prog_2_method_10_code
def y_n_sum3 : MethodName := ⟨"LimbDesk$Num", "sum", "(LLimbDesk$Num;LLimbDesk$Num;I)V"⟩
abbrev b_n_sum3 : ByteArray := prog_2_method_12_code
def y_n_sum : MethodName := ⟨"LimbDesk$Num", "sum", "(LLimbDesk$Num;LLimbDesk$Num;)V"⟩
abbrev b_n_sum : ByteArray := prog_2_method_13_code
def y_n_difference : MethodName := ⟨"LimbDesk$Num", "difference", "(LLimbDesk$Num;LLimbDesk$Num;)V"⟩
abbrev b_n_difference : ByteArray := prog_2_method_14_code
def y_n_product : MethodName := ⟨"LimbDesk$Num", "product", "(LLimbDesk$Num;LLimbDesk$Num;)V"⟩
abbrev b_n_product : ByteArray := prog_2_method_15_code
def y_d_work : MethodName := ⟨"LimbDesk", "work", "(IIII)I"⟩
abbrev b_d_work : ByteArray := prog_1_method_12_code
def y_n_left : MethodName := ⟨"LimbDesk$Num", "left", "(LLimbDesk$Num;I)V"⟩
abbrev b_n_left : ByteArray := prog_2_method_16_code
def y_n_step : MethodName := ⟨"LimbDesk$Num", "step", "([I[III)I"⟩
abbrev b_n_step : ByteArray := prog_2_method_22_code
def y_n_more : MethodName := ⟨"LimbDesk$Num", "more", "(I)V"⟩
abbrev b_n_more : ByteArray := prog_2_method_18_code
def y_n_right : MethodName := ⟨"LimbDesk$Num", "right", "(LLimbDesk$Num;I)V"⟩
abbrev b_n_right : ByteArray := prog_2_method_17_code
def y_n_quotient : MethodName := ⟨"LimbDesk$Num", "quotient", "(LLimbDesk$Num;LLimbDesk$Num;LLimbDesk$Num;LLimbDesk$Num;)V"⟩
abbrev b_n_quotient : ByteArray := prog_2_method_21_code
def y_n_floor : MethodName := ⟨"LimbDesk$Num", "floor", "(LLimbDesk$Num;LLimbDesk$Num;LLimbDesk$Num;LLimbDesk$Num;)V"⟩
abbrev b_n_floor : ByteArray := prog_2_method_23_code
def y_d_divide : MethodName := ⟨"LimbDesk", "divide", "(ZIIII)I"⟩
abbrev b_d_divide : ByteArray := prog_1_method_13_code
def y_d_shift : MethodName := ⟨"LimbDesk", "shift", "(III)I"⟩
abbrev b_d_shift : ByteArray := prog_1_method_14_code
def y_n_endless : MethodName := ⟨"LimbDesk$Num", "endless", "(LLimbDesk$Num;IZ)I"⟩
abbrev b_n_endless : ByteArray := prog_2_method_24_code
def y_n_bitwise : MethodName := ⟨"LimbDesk$Num", "bitwise", "(ILLimbDesk$Num;LLimbDesk$Num;)V"⟩
abbrev b_n_bitwise : ByteArray := prog_2_method_25_code
def y_d_bits : MethodName := ⟨"LimbDesk", "bits", "(IIII)I"⟩
abbrev b_d_bits : ByteArray := prog_1_method_15_code
def y_jL_nlz : MethodName := ⟨"java/lang/Long", "numberOfLeadingZeros", "(J)I"⟩
abbrev b_jL_nlz : ByteArray := prog_11_method_48_code
def y_n_power : MethodName := ⟨"LimbDesk$Num", "power", "(LLimbDesk$Num;JILLimbDesk$Num;)Z"⟩
abbrev b_n_power : ByteArray := prog_2_method_26_code
def y_d_power : MethodName := ⟨"LimbDesk", "power", "(III)I"⟩
abbrev b_d_power : ByteArray := prog_1_method_16_code
def y_d_residue : MethodName := ⟨"LimbDesk", "residue", "(IIII)I"⟩
abbrev b_d_residue : ByteArray := prog_1_method_17_code
def y_n_compare : MethodName := ⟨"LimbDesk$Num", "compare", "(LLimbDesk$Num;)I"⟩
abbrev b_n_compare : ByteArray := prog_2_method_11_code
def y_d_compare : MethodName := ⟨"LimbDesk", "compare", "(II)I"⟩
abbrev b_d_compare : ByteArray := prog_1_method_18_code
def y_n_fits : MethodName := ⟨"LimbDesk$Num", "fits", "()Z"⟩
abbrev b_n_fits : ByteArray := prog_2_method_6_code
def y_n_small : MethodName := ⟨"LimbDesk$Num", "small", "()J"⟩
abbrev b_n_small : ByteArray := prog_2_method_7_code
def y_d_small : MethodName := ⟨"LimbDesk", "small", "(I)J"⟩
abbrev b_d_small : ByteArray := prog_1_method_19_code
def y_d_low : MethodName := ⟨"LimbDesk", "low", "(I)J"⟩
abbrev b_d_low : ByteArray := prog_1_method_20_code
def y_n_folded : MethodName := ⟨"LimbDesk$Num", "folded", "()J"⟩
abbrev b_n_folded : ByteArray := prog_2_method_27_code
def y_d_folded : MethodName := ⟨"LimbDesk", "folded", "(I)J"⟩
abbrev b_d_folded : ByteArray := prog_1_method_21_code
def y_d_size : MethodName := ⟨"LimbDesk", "size", "(I)I"⟩
abbrev b_d_size : ByteArray := prog_1_method_22_code
def y_m_thrown : MethodName := ⟨"LimbDeskModel", "thrown", "()I"⟩
abbrev b_m_thrown : ByteArray := prog_4_method_2_code
def y_m_compared : MethodName := ⟨"LimbDeskModel", "compared", "([II[II)I"⟩
abbrev b_m_compared : ByteArray := prog_4_method_3_code
def y_m_trim : MethodName := ⟨"LimbDeskModel", "trim", "([II)I"⟩
abbrev b_m_trim : ByteArray := prog_4_method_6_code
def y_m_plus : MethodName := ⟨"LimbDeskModel", "plus", "([II[II[I)I"⟩
abbrev b_m_plus : ByteArray := prog_4_method_4_code
def y_m_less : MethodName := ⟨"LimbDeskModel", "less", "([II[II[I)I"⟩
abbrev b_m_less : ByteArray := prog_4_method_5_code
def y_m_times : MethodName := ⟨"LimbDeskModel", "times", "([II[II[I)I"⟩
abbrev b_m_times : ByteArray := prog_4_method_7_code
def y_m_divided : MethodName := ⟨"LimbDeskModel", "divided", "([II[II[I)I"⟩
abbrev b_m_divided : ByteArray := prog_4_method_8_code
def y_m_shiftedLeft : MethodName := ⟨"LimbDeskModel", "shiftedLeft", "([III[I)I"⟩
abbrev b_m_shiftedLeft : ByteArray := prog_4_method_9_code
def y_m_isBit : MethodName := ⟨"LimbDeskModel", "isBit", "([III)Z"⟩
abbrev b_m_isBit : ByteArray := prog_4_method_10_code
def y_m_in : MethodName := ⟨"LimbDeskModel", "in", "(III)Z"⟩
abbrev b_m_in : ByteArray := prog_4_method_11_code
def y_m_fails : MethodName := ⟨"LimbDeskModel", "fails", "(ZI)Z"⟩
abbrev b_m_fails : ByteArray := prog_4_method_12_code
def y_m_isRegister : MethodName := ⟨"LimbDeskModel", "isRegister", "(I)Z"⟩
abbrev b_m_isRegister : ByteArray := prog_4_method_13_code
def y_m_load : MethodName := ⟨"LimbDeskModel", "load", "(I[I)I"⟩
abbrev b_m_load : ByteArray := prog_4_method_14_code
def y_m_bits0 : MethodName := ⟨"LimbDeskModel", "bits", "([II)I"⟩
abbrev b_m_bits0 : ByteArray := prog_4_method_15_code
def y_m_size0 : MethodName := ⟨"LimbDeskModel", "size0", "(I)I"⟩
abbrev b_m_size0 : ByteArray := prog_4_method_16_code
def y_m_keep : MethodName := ⟨"LimbDeskModel", "keep", "(II[III)Z"⟩
abbrev b_m_keep : ByteArray := prog_4_method_17_code
def y_m_set : MethodName := ⟨"LimbDeskModel", "set", "(IJ)I"⟩
abbrev b_m_set : ByteArray := prog_4_method_18_code
def y_m_line : MethodName := ⟨"LimbDeskModel", "line", "(J)I"⟩
abbrev b_m_line : ByteArray := prog_4_method_19_code
def y_m_digit : MethodName := ⟨"LimbDeskModel", "digit", "(I)I"⟩
abbrev b_m_digit : ByteArray := prog_4_method_20_code
def y_m_timesSmall : MethodName := ⟨"LimbDeskModel", "timesSmall", "([IIII)I"⟩
abbrev b_m_timesSmall : ByteArray := prog_4_method_21_code
def y_m_read : MethodName := ⟨"LimbDeskModel", "read", "(II)I"⟩
abbrev b_m_read : ByteArray := prog_4_method_22_code
def y_m_show : MethodName := ⟨"LimbDeskModel", "show", "(II)I"⟩
abbrev b_m_show : ByteArray := prog_4_method_23_code
def y_m_letter : MethodName := ⟨"LimbDeskModel", "letter", "(I)I"⟩
abbrev b_m_letter : ByteArray := prog_4_method_24_code
def y_m_work : MethodName := ⟨"LimbDeskModel", "work", "(IIII)I"⟩
abbrev b_m_work : ByteArray := prog_4_method_25_code
def y_m_divide : MethodName := ⟨"LimbDeskModel", "divide", "(ZIIII)I"⟩
abbrev b_m_divide : ByteArray := prog_4_method_26_code
def y_m_shift : MethodName := ⟨"LimbDeskModel", "shift", "(III)I"⟩
abbrev b_m_shift : ByteArray := prog_4_method_27_code
def y_m_twos : MethodName := ⟨"LimbDeskModel", "twos", "([IIIZ)V"⟩
abbrev b_m_twos : ByteArray := prog_4_method_28_code
def y_m_bits : MethodName := ⟨"LimbDeskModel", "bits", "(IIII)I"⟩
abbrev b_m_bits : ByteArray := prog_4_method_29_code
def y_m_power : MethodName := ⟨"LimbDeskModel", "power", "(III)I"⟩
abbrev b_m_power : ByteArray := prog_4_method_30_code
def y_m_residue : MethodName := ⟨"LimbDeskModel", "residue", "(IIII)I"⟩
abbrev b_m_residue : ByteArray := prog_4_method_31_code
def y_m_compare : MethodName := ⟨"LimbDeskModel", "compare", "(II)I"⟩
abbrev b_m_compare : ByteArray := prog_4_method_32_code
def y_m_low64 : MethodName := ⟨"LimbDeskModel", "low64", "(I)J"⟩
abbrev b_m_low64 : ByteArray := prog_4_method_34_code
def y_m_small : MethodName := ⟨"LimbDeskModel", "small", "(I)J"⟩
abbrev b_m_small : ByteArray := prog_4_method_33_code
def y_m_low : MethodName := ⟨"LimbDeskModel", "low", "(I)J"⟩
abbrev b_m_low : ByteArray := prog_4_method_35_code
def y_m_folded : MethodName := ⟨"LimbDeskModel", "folded", "(I)J"⟩
abbrev b_m_folded : ByteArray := prog_4_method_36_code
def y_m_size : MethodName := ⟨"LimbDeskModel", "size", "(I)I"⟩
abbrev b_m_size : ByteArray := prog_4_method_37_code
def y_jM_max : MethodName := ⟨"java/lang/Math", "max", "(II)I"⟩
abbrev b_jM_max : ByteArray := prog_12_method_65_code
def y_jM_min : MethodName := ⟨"java/lang/Math", "min", "(II)I"⟩
abbrev b_jM_min : ByteArray := prog_12_method_69_code
set_option maxRecDepth 20000 in
theorem k_1 : Cond.initialized "LimbDesk" ∈ zT := List.mem_filter.mpr ⟨List.mem_append_right _ (List.mem_of_getElem? (i := 1) rfl), rfl⟩
set_option maxRecDepth 20000 in
theorem k_12 : Cond.initialized "java/lang/ArithmeticException" ∈ zT := List.mem_filter.mpr ⟨List.mem_append_right _ (List.mem_of_getElem? (i := 12) rfl), rfl⟩
set_option maxRecDepth 20000 in
theorem k_13 : Cond.initialized "java/lang/Math" ∈ zT := List.mem_filter.mpr ⟨List.mem_append_right _ (List.mem_of_getElem? (i := 13) rfl), rfl⟩
set_option maxRecDepth 20000 in
theorem k_14 : Cond.initialized "java/lang/Long" ∈ zT := List.mem_filter.mpr ⟨List.mem_append_right _ (List.mem_of_getElem? (i := 14) rfl), rfl⟩
set_option maxRecDepth 20000 in
theorem k_152 : Cond.methodLink "LimbDesk" 52 y_n_bits ∈ zT := List.mem_filter.mpr ⟨List.mem_append_right _ (List.mem_of_getElem? (i := 152) rfl), rfl⟩
set_option maxRecDepth 20000 in
theorem k_153 : Cond.instanceMethod y_n_bits ∈ zT := List.mem_filter.mpr ⟨List.mem_append_right _ (List.mem_of_getElem? (i := 153) rfl), rfl⟩
set_option maxRecDepth 20000 in
theorem k_154 : Cond.selects "LimbDesk$Num" y_n_bits y_n_bits ∈ zT := List.mem_filter.mpr ⟨List.mem_append_right _ (List.mem_of_getElem? (i := 154) rfl), rfl⟩
set_option maxRecDepth 20000 in
theorem k_155 : Cond.code y_n_bits b_n_bits 1 (some .int) ∈ zT := List.mem_filter.mpr ⟨List.mem_append_right _ (List.mem_of_getElem? (i := 155) rfl), rfl⟩
set_option maxRecDepth 20000 in
theorem k_156 : Cond.methodLink "LimbDesk$Num" 37 y_jI_nlz ∈ zT := List.mem_filter.mpr ⟨List.mem_append_right _ (List.mem_of_getElem? (i := 156) rfl), rfl⟩
set_option maxRecDepth 20000 in
theorem k_157 : Cond.static y_jI_nlz ∈ zT := List.mem_filter.mpr ⟨List.mem_append_right _ (List.mem_of_getElem? (i := 157) rfl), rfl⟩
set_option maxRecDepth 20000 in
theorem k_158 : Cond.code y_jI_nlz b_jI_nlz 2 (some .int) ∈ zT := List.mem_filter.mpr ⟨List.mem_append_right _ (List.mem_of_getElem? (i := 158) rfl), rfl⟩
set_option maxRecDepth 20000 in
theorem k_159 : Cond.constant "java/lang/Integer" 264 65536 ∈ zT := List.mem_filter.mpr ⟨List.mem_append_right _ (List.mem_of_getElem? (i := 159) rfl), rfl⟩
set_option maxRecDepth 20000 in
theorem k_160 : Cond.methodLink "LimbDesk" 67 y_n_set ∈ zT := List.mem_filter.mpr ⟨List.mem_append_right _ (List.mem_of_getElem? (i := 160) rfl), rfl⟩
set_option maxRecDepth 20000 in
theorem k_161 : Cond.instanceMethod y_n_set ∈ zT := List.mem_filter.mpr ⟨List.mem_append_right _ (List.mem_of_getElem? (i := 161) rfl), rfl⟩
set_option maxRecDepth 20000 in
theorem k_162 : Cond.selects "LimbDesk$Num" y_n_set y_n_set ∈ zT := List.mem_filter.mpr ⟨List.mem_append_right _ (List.mem_of_getElem? (i := 162) rfl), rfl⟩
set_option maxRecDepth 20000 in
theorem k_163 : Cond.code y_n_set b_n_set 6 none ∈ zT := List.mem_filter.mpr ⟨List.mem_append_right _ (List.mem_of_getElem? (i := 163) rfl), rfl⟩
set_option maxRecDepth 20000 in
theorem k_164 : Cond.constantLong "LimbDesk$Num" 20 (16777215) ∈ zT := List.mem_filter.mpr ⟨List.mem_append_right _ (List.mem_of_getElem? (i := 164) rfl), rfl⟩
set_option maxRecDepth 20000 in
theorem k_165 : Cond.methodLink "LimbDesk$Num" 22 y_n_trim ∈ zT := List.mem_filter.mpr ⟨List.mem_append_right _ (List.mem_of_getElem? (i := 165) rfl), rfl⟩
set_option maxRecDepth 20000 in
theorem k_167 : Cond.instanceMethod y_n_trim ∈ zT := List.mem_filter.mpr ⟨List.mem_append_right _ (List.mem_of_getElem? (i := 167) rfl), rfl⟩
set_option maxRecDepth 20000 in
theorem k_168 : Cond.code y_n_trim b_n_trim 3 none ∈ zT := List.mem_filter.mpr ⟨List.mem_append_right _ (List.mem_of_getElem? (i := 168) rfl), rfl⟩
set_option maxRecDepth 20000 in
theorem k_2 : Cond.initialized "LimbDesk$Num" ∈ zT := List.mem_filter.mpr ⟨List.mem_append_right _ (List.mem_of_getElem? (i := 2) rfl), rfl⟩
set_option maxRecDepth 20000 in
theorem k_208 : Cond.constantLong "LimbDesk" 71 (255) ∈ zT := List.mem_filter.mpr ⟨List.mem_append_right _ (List.mem_of_getElem? (i := 208) rfl), rfl⟩
set_option maxRecDepth 20000 in
theorem k_209 : Cond.classLink "LimbDesk" 77 "java/lang/IndexOutOfBoundsException" ∈ zT := List.mem_filter.mpr ⟨List.mem_append_right _ (List.mem_of_getElem? (i := 209) rfl), rfl⟩
set_option maxRecDepth 20000 in
theorem k_210 : Cond.instantiable "java/lang/IndexOutOfBoundsException" 6 ∈ zT := List.mem_filter.mpr ⟨List.mem_append_right _ (List.mem_of_getElem? (i := 210) rfl), rfl⟩
set_option maxRecDepth 20000 in
theorem k_228 : Cond.instantiable "java/lang/ArithmeticException" 6 ∈ zT := List.mem_filter.mpr ⟨List.mem_append_right _ (List.mem_of_getElem? (i := 228) rfl), rfl⟩
set_option maxRecDepth 20000 in
theorem k_245 : Cond.methodLink "LimbDesk" 80 y_n_digit ∈ zT := List.mem_filter.mpr ⟨List.mem_append_right _ (List.mem_of_getElem? (i := 245) rfl), rfl⟩
set_option maxRecDepth 20000 in
theorem k_246 : Cond.static y_n_digit ∈ zT := List.mem_filter.mpr ⟨List.mem_append_right _ (List.mem_of_getElem? (i := 246) rfl), rfl⟩
set_option maxRecDepth 20000 in
theorem k_247 : Cond.code y_n_digit b_n_digit 1 (some .int) ∈ zT := List.mem_filter.mpr ⟨List.mem_append_right _ (List.mem_of_getElem? (i := 247) rfl), rfl⟩
set_option maxRecDepth 20000 in
theorem k_248 : Cond.methodLink "LimbDesk" 56 y_d_fits ∈ zT := List.mem_filter.mpr ⟨List.mem_append_right _ (List.mem_of_getElem? (i := 248) rfl), rfl⟩
set_option maxRecDepth 20000 in
theorem k_249 : Cond.static y_d_fits ∈ zT := List.mem_filter.mpr ⟨List.mem_append_right _ (List.mem_of_getElem? (i := 249) rfl), rfl⟩
set_option maxRecDepth 20000 in
theorem k_250 : Cond.code y_d_fits b_d_fits 1 none ∈ zT := List.mem_filter.mpr ⟨List.mem_append_right _ (List.mem_of_getElem? (i := 250) rfl), rfl⟩
set_option maxRecDepth 20000 in
theorem k_251 : Cond.classLink "LimbDesk" 41 "java/lang/ArithmeticException" ∈ zT := List.mem_filter.mpr ⟨List.mem_append_right _ (List.mem_of_getElem? (i := 251) rfl), rfl⟩
set_option maxRecDepth 20000 in
theorem k_256 : Cond.methodLink "LimbDesk" 84 y_n_parse ∈ zT := List.mem_filter.mpr ⟨List.mem_append_right _ (List.mem_of_getElem? (i := 256) rfl), rfl⟩
set_option maxRecDepth 20000 in
theorem k_257 : Cond.instanceMethod y_n_parse ∈ zT := List.mem_filter.mpr ⟨List.mem_append_right _ (List.mem_of_getElem? (i := 257) rfl), rfl⟩
set_option maxRecDepth 20000 in
theorem k_258 : Cond.selects "LimbDesk$Num" y_n_parse y_n_parse ∈ zT := List.mem_filter.mpr ⟨List.mem_append_right _ (List.mem_of_getElem? (i := 258) rfl), rfl⟩
set_option maxRecDepth 20000 in
theorem k_259 : Cond.code y_n_parse b_n_parse 15 none ∈ zT := List.mem_filter.mpr ⟨List.mem_append_right _ (List.mem_of_getElem? (i := 259) rfl), rfl⟩
set_option maxRecDepth 20000 in
theorem k_260 : Cond.methodLink "LimbDesk$Num" 102 y_n_digit ∈ zT := List.mem_filter.mpr ⟨List.mem_append_right _ (List.mem_of_getElem? (i := 260) rfl), rfl⟩
set_option maxRecDepth 20000 in
theorem k_261 : Cond.constant "LimbDesk$Num" 50 16777215 ∈ zT := List.mem_filter.mpr ⟨List.mem_append_right _ (List.mem_of_getElem? (i := 261) rfl), rfl⟩
set_option maxRecDepth 20000 in
theorem k_262 : Cond.methodLink "LimbDesk" 91 y_d_into ∈ zT := List.mem_filter.mpr ⟨List.mem_append_right _ (List.mem_of_getElem? (i := 262) rfl), rfl⟩
set_option maxRecDepth 20000 in
theorem k_264 : Cond.instanceMethod y_d_into ∈ zT := List.mem_filter.mpr ⟨List.mem_append_right _ (List.mem_of_getElem? (i := 264) rfl), rfl⟩
set_option maxRecDepth 20000 in
theorem k_265 : Cond.code y_d_into b_d_into 2 (some (.object "LimbDesk$Num")) ∈ zT := List.mem_filter.mpr ⟨List.mem_append_right _ (List.mem_of_getElem? (i := 265) rfl), rfl⟩
set_option maxRecDepth 20000 in
theorem k_266 : Cond.methodLink "LimbDesk" 59 y_n_take ∈ zT := List.mem_filter.mpr ⟨List.mem_append_right _ (List.mem_of_getElem? (i := 266) rfl), rfl⟩
set_option maxRecDepth 20000 in
theorem k_267 : Cond.instanceMethod y_n_take ∈ zT := List.mem_filter.mpr ⟨List.mem_append_right _ (List.mem_of_getElem? (i := 267) rfl), rfl⟩
set_option maxRecDepth 20000 in
theorem k_268 : Cond.selects "LimbDesk$Num" y_n_take y_n_take ∈ zT := List.mem_filter.mpr ⟨List.mem_append_right _ (List.mem_of_getElem? (i := 268) rfl), rfl⟩
set_option maxRecDepth 20000 in
theorem k_269 : Cond.code y_n_take b_n_take 3 none ∈ zT := List.mem_filter.mpr ⟨List.mem_append_right _ (List.mem_of_getElem? (i := 269) rfl), rfl⟩
set_option maxRecDepth 20000 in
theorem k_277 : Cond.methodLink "LimbDesk" 95 y_n_text ∈ zT := List.mem_filter.mpr ⟨List.mem_append_right _ (List.mem_of_getElem? (i := 277) rfl), rfl⟩
set_option maxRecDepth 20000 in
theorem k_278 : Cond.instanceMethod y_n_text ∈ zT := List.mem_filter.mpr ⟨List.mem_append_right _ (List.mem_of_getElem? (i := 278) rfl), rfl⟩
set_option maxRecDepth 20000 in
theorem k_279 : Cond.selects "LimbDesk$Num" y_n_text y_n_text ∈ zT := List.mem_filter.mpr ⟨List.mem_append_right _ (List.mem_of_getElem? (i := 279) rfl), rfl⟩
set_option maxRecDepth 20000 in
theorem k_280 : Cond.code y_n_text b_n_text 13 (some .int) ∈ zT := List.mem_filter.mpr ⟨List.mem_append_right _ (List.mem_of_getElem? (i := 280) rfl), rfl⟩
set_option maxRecDepth 20000 in
theorem k_295 : Cond.methodLink "LimbDesk" 99 y_n_sum ∈ zT := List.mem_filter.mpr ⟨List.mem_append_right _ (List.mem_of_getElem? (i := 295) rfl), rfl⟩
set_option maxRecDepth 20000 in
theorem k_296 : Cond.instanceMethod y_n_sum ∈ zT := List.mem_filter.mpr ⟨List.mem_append_right _ (List.mem_of_getElem? (i := 296) rfl), rfl⟩
set_option maxRecDepth 20000 in
theorem k_297 : Cond.selects "LimbDesk$Num" y_n_sum y_n_sum ∈ zT := List.mem_filter.mpr ⟨List.mem_append_right _ (List.mem_of_getElem? (i := 297) rfl), rfl⟩
set_option maxRecDepth 20000 in
theorem k_298 : Cond.code y_n_sum b_n_sum 3 none ∈ zT := List.mem_filter.mpr ⟨List.mem_append_right _ (List.mem_of_getElem? (i := 298) rfl), rfl⟩
set_option maxRecDepth 20000 in
theorem k_299 : Cond.methodLink "LimbDesk$Num" 51 y_n_sum3 ∈ zT := List.mem_filter.mpr ⟨List.mem_append_right _ (List.mem_of_getElem? (i := 299) rfl), rfl⟩
set_option maxRecDepth 20000 in
theorem k_3 : Cond.initialized "LimbDeskModel" ∈ zT := List.mem_filter.mpr ⟨List.mem_append_right _ (List.mem_of_getElem? (i := 3) rfl), rfl⟩
set_option maxRecDepth 20000 in
theorem k_30 : Cond.fieldLink "LimbDesk$Num" 9 "LimbDesk$Num" "d" "[I" ∈ zT := List.mem_filter.mpr ⟨List.mem_append_right _ (List.mem_of_getElem? (i := 30) rfl), rfl⟩
set_option maxRecDepth 20000 in
theorem k_301 : Cond.instanceMethod y_n_sum3 ∈ zT := List.mem_filter.mpr ⟨List.mem_append_right _ (List.mem_of_getElem? (i := 301) rfl), rfl⟩
set_option maxRecDepth 20000 in
theorem k_302 : Cond.code y_n_sum3 b_n_sum3 16 none ∈ zT := List.mem_filter.mpr ⟨List.mem_append_right _ (List.mem_of_getElem? (i := 302) rfl), rfl⟩
set_option maxRecDepth 20000 in
theorem k_303 : Cond.methodLink "LimbDesk$Num" 47 y_jM_max ∈ zT := List.mem_filter.mpr ⟨List.mem_append_right _ (List.mem_of_getElem? (i := 303) rfl), rfl⟩
set_option maxRecDepth 20000 in
theorem k_304 : Cond.static y_jM_max ∈ zT := List.mem_filter.mpr ⟨List.mem_append_right _ (List.mem_of_getElem? (i := 304) rfl), rfl⟩
set_option maxRecDepth 20000 in
theorem k_305 : Cond.code y_jM_max b_jM_max 2 (some .int) ∈ zT := List.mem_filter.mpr ⟨List.mem_append_right _ (List.mem_of_getElem? (i := 305) rfl), rfl⟩
set_option maxRecDepth 20000 in
theorem k_306 : Cond.methodLink "LimbDesk$Num" 43 y_n_limbs ∈ zT := List.mem_filter.mpr ⟨List.mem_append_right _ (List.mem_of_getElem? (i := 306) rfl), rfl⟩
set_option maxRecDepth 20000 in
theorem k_307 : Cond.static y_n_limbs ∈ zT := List.mem_filter.mpr ⟨List.mem_append_right _ (List.mem_of_getElem? (i := 307) rfl), rfl⟩
set_option maxRecDepth 20000 in
theorem k_308 : Cond.code y_n_limbs b_n_limbs 3 (some .int) ∈ zT := List.mem_filter.mpr ⟨List.mem_append_right _ (List.mem_of_getElem? (i := 308) rfl), rfl⟩
set_option maxRecDepth 20000 in
theorem k_309 : Cond.methodLink "LimbDesk" 103 y_n_difference ∈ zT := List.mem_filter.mpr ⟨List.mem_append_right _ (List.mem_of_getElem? (i := 309) rfl), rfl⟩
set_option maxRecDepth 20000 in
theorem k_31 : Cond.fieldLink "LimbDesk" 131 "LimbDesk$Num" "d" "[I" ∈ zT := List.mem_filter.mpr ⟨List.mem_append_right _ (List.mem_of_getElem? (i := 31) rfl), rfl⟩
set_option maxRecDepth 20000 in
theorem k_310 : Cond.instanceMethod y_n_difference ∈ zT := List.mem_filter.mpr ⟨List.mem_append_right _ (List.mem_of_getElem? (i := 310) rfl), rfl⟩
set_option maxRecDepth 20000 in
theorem k_311 : Cond.selects "LimbDesk$Num" y_n_difference y_n_difference ∈ zT := List.mem_filter.mpr ⟨List.mem_append_right _ (List.mem_of_getElem? (i := 311) rfl), rfl⟩
set_option maxRecDepth 20000 in
theorem k_312 : Cond.code y_n_difference b_n_difference 3 none ∈ zT := List.mem_filter.mpr ⟨List.mem_append_right _ (List.mem_of_getElem? (i := 312) rfl), rfl⟩
set_option maxRecDepth 20000 in
theorem k_313 : Cond.methodLink "LimbDesk" 106 y_n_product ∈ zT := List.mem_filter.mpr ⟨List.mem_append_right _ (List.mem_of_getElem? (i := 313) rfl), rfl⟩
set_option maxRecDepth 20000 in
theorem k_314 : Cond.instanceMethod y_n_product ∈ zT := List.mem_filter.mpr ⟨List.mem_append_right _ (List.mem_of_getElem? (i := 314) rfl), rfl⟩
set_option maxRecDepth 20000 in
theorem k_315 : Cond.selects "LimbDesk$Num" y_n_product y_n_product ∈ zT := List.mem_filter.mpr ⟨List.mem_append_right _ (List.mem_of_getElem? (i := 315) rfl), rfl⟩
set_option maxRecDepth 20000 in
theorem k_316 : Cond.code y_n_product b_n_product 12 none ∈ zT := List.mem_filter.mpr ⟨List.mem_append_right _ (List.mem_of_getElem? (i := 316) rfl), rfl⟩
set_option maxRecDepth 20000 in
theorem k_32 : Cond.fieldLink "LimbDesk$Num" 13 "LimbDesk$Num" "n" "I" ∈ zT := List.mem_filter.mpr ⟨List.mem_append_right _ (List.mem_of_getElem? (i := 32) rfl), rfl⟩
set_option maxRecDepth 20000 in
theorem k_324 : Cond.methodLink "LimbDesk" 109 y_n_floor ∈ zT := List.mem_filter.mpr ⟨List.mem_append_right _ (List.mem_of_getElem? (i := 324) rfl), rfl⟩
set_option maxRecDepth 20000 in
theorem k_325 : Cond.instanceMethod y_n_floor ∈ zT := List.mem_filter.mpr ⟨List.mem_append_right _ (List.mem_of_getElem? (i := 325) rfl), rfl⟩
set_option maxRecDepth 20000 in
theorem k_326 : Cond.selects "LimbDesk$Num" y_n_floor y_n_floor ∈ zT := List.mem_filter.mpr ⟨List.mem_append_right _ (List.mem_of_getElem? (i := 326) rfl), rfl⟩
set_option maxRecDepth 20000 in
theorem k_327 : Cond.code y_n_floor b_n_floor 5 none ∈ zT := List.mem_filter.mpr ⟨List.mem_append_right _ (List.mem_of_getElem? (i := 327) rfl), rfl⟩
set_option maxRecDepth 20000 in
theorem k_328 : Cond.methodLink "LimbDesk$Num" 81 y_n_quotient ∈ zT := List.mem_filter.mpr ⟨List.mem_append_right _ (List.mem_of_getElem? (i := 328) rfl), rfl⟩
set_option maxRecDepth 20000 in
theorem k_329 : Cond.instanceMethod y_n_quotient ∈ zT := List.mem_filter.mpr ⟨List.mem_append_right _ (List.mem_of_getElem? (i := 329) rfl), rfl⟩
set_option maxRecDepth 20000 in
theorem k_33 : Cond.fieldLink "LimbDesk$Num" 17 "LimbDesk$Num" "sign" "I" ∈ zT := List.mem_filter.mpr ⟨List.mem_append_right _ (List.mem_of_getElem? (i := 33) rfl), rfl⟩
set_option maxRecDepth 20000 in
theorem k_330 : Cond.selects "LimbDesk$Num" y_n_quotient y_n_quotient ∈ zT := List.mem_filter.mpr ⟨List.mem_append_right _ (List.mem_of_getElem? (i := 330) rfl), rfl⟩
set_option maxRecDepth 20000 in
theorem k_331 : Cond.code y_n_quotient b_n_quotient 14 none ∈ zT := List.mem_filter.mpr ⟨List.mem_append_right _ (List.mem_of_getElem? (i := 331) rfl), rfl⟩
set_option maxRecDepth 20000 in
theorem k_332 : Cond.methodLink "LimbDesk$Num" 62 y_n_take ∈ zT := List.mem_filter.mpr ⟨List.mem_append_right _ (List.mem_of_getElem? (i := 332) rfl), rfl⟩
set_option maxRecDepth 20000 in
theorem k_333 : Cond.methodLink "LimbDesk$Num" 66 y_n_set ∈ zT := List.mem_filter.mpr ⟨List.mem_append_right _ (List.mem_of_getElem? (i := 333) rfl), rfl⟩
set_option maxRecDepth 20000 in
theorem k_334 : Cond.methodLink "LimbDesk$Num" 70 y_n_left ∈ zT := List.mem_filter.mpr ⟨List.mem_append_right _ (List.mem_of_getElem? (i := 334) rfl), rfl⟩
set_option maxRecDepth 20000 in
theorem k_335 : Cond.instanceMethod y_n_left ∈ zT := List.mem_filter.mpr ⟨List.mem_append_right _ (List.mem_of_getElem? (i := 335) rfl), rfl⟩
set_option maxRecDepth 20000 in
theorem k_336 : Cond.selects "LimbDesk$Num" y_n_left y_n_left ∈ zT := List.mem_filter.mpr ⟨List.mem_append_right _ (List.mem_of_getElem? (i := 336) rfl), rfl⟩
set_option maxRecDepth 20000 in
theorem k_337 : Cond.code y_n_left b_n_left 9 none ∈ zT := List.mem_filter.mpr ⟨List.mem_append_right _ (List.mem_of_getElem? (i := 337) rfl), rfl⟩
set_option maxRecDepth 20000 in
theorem k_338 : Cond.methodLink "LimbDesk$Num" 74 y_n_step ∈ zT := List.mem_filter.mpr ⟨List.mem_append_right _ (List.mem_of_getElem? (i := 338) rfl), rfl⟩
set_option maxRecDepth 20000 in
theorem k_339 : Cond.static y_n_step ∈ zT := List.mem_filter.mpr ⟨List.mem_append_right _ (List.mem_of_getElem? (i := 339) rfl), rfl⟩
set_option maxRecDepth 20000 in
theorem k_34 : Cond.fieldLink "LimbDesk" 88 "LimbDesk$Num" "sign" "I" ∈ zT := List.mem_filter.mpr ⟨List.mem_append_right _ (List.mem_of_getElem? (i := 34) rfl), rfl⟩
set_option maxRecDepth 20000 in
theorem k_340 : Cond.code y_n_step b_n_step 17 (some .int) ∈ zT := List.mem_filter.mpr ⟨List.mem_append_right _ (List.mem_of_getElem? (i := 340) rfl), rfl⟩
set_option maxRecDepth 20000 in
theorem k_341 : Cond.methodLink "LimbDesk$Num" 78 y_n_right ∈ zT := List.mem_filter.mpr ⟨List.mem_append_right _ (List.mem_of_getElem? (i := 341) rfl), rfl⟩
set_option maxRecDepth 20000 in
theorem k_342 : Cond.instanceMethod y_n_right ∈ zT := List.mem_filter.mpr ⟨List.mem_append_right _ (List.mem_of_getElem? (i := 342) rfl), rfl⟩
set_option maxRecDepth 20000 in
theorem k_343 : Cond.selects "LimbDesk$Num" y_n_right y_n_right ∈ zT := List.mem_filter.mpr ⟨List.mem_append_right _ (List.mem_of_getElem? (i := 343) rfl), rfl⟩
set_option maxRecDepth 20000 in
theorem k_344 : Cond.code y_n_right b_n_right 9 none ∈ zT := List.mem_filter.mpr ⟨List.mem_append_right _ (List.mem_of_getElem? (i := 344) rfl), rfl⟩
set_option maxRecDepth 20000 in
theorem k_345 : Cond.methodLink "LimbDesk$Num" 55 y_n_more ∈ zT := List.mem_filter.mpr ⟨List.mem_append_right _ (List.mem_of_getElem? (i := 345) rfl), rfl⟩
set_option maxRecDepth 20000 in
theorem k_347 : Cond.instanceMethod y_n_more ∈ zT := List.mem_filter.mpr ⟨List.mem_append_right _ (List.mem_of_getElem? (i := 347) rfl), rfl⟩
set_option maxRecDepth 20000 in
theorem k_348 : Cond.code y_n_more b_n_more 3 none ∈ zT := List.mem_filter.mpr ⟨List.mem_append_right _ (List.mem_of_getElem? (i := 348) rfl), rfl⟩
set_option maxRecDepth 20000 in
theorem k_349 : Cond.methodLink "LimbDesk$Num" 85 y_n_sum ∈ zT := List.mem_filter.mpr ⟨List.mem_append_right _ (List.mem_of_getElem? (i := 349) rfl), rfl⟩
set_option maxRecDepth 20000 in
theorem k_350 : Cond.methodLink "LimbDesk" 113 y_n_quotient ∈ zT := List.mem_filter.mpr ⟨List.mem_append_right _ (List.mem_of_getElem? (i := 350) rfl), rfl⟩
set_option maxRecDepth 20000 in
theorem k_358 : Cond.methodLink "LimbDesk" 116 y_n_right ∈ zT := List.mem_filter.mpr ⟨List.mem_append_right _ (List.mem_of_getElem? (i := 358) rfl), rfl⟩
set_option maxRecDepth 20000 in
theorem k_359 : Cond.methodLink "LimbDesk" 120 y_n_left ∈ zT := List.mem_filter.mpr ⟨List.mem_append_right _ (List.mem_of_getElem? (i := 359) rfl), rfl⟩
set_option maxRecDepth 20000 in
theorem k_367 : Cond.methodLink "LimbDesk" 123 y_n_bitwise ∈ zT := List.mem_filter.mpr ⟨List.mem_append_right _ (List.mem_of_getElem? (i := 367) rfl), rfl⟩
set_option maxRecDepth 20000 in
theorem k_368 : Cond.instanceMethod y_n_bitwise ∈ zT := List.mem_filter.mpr ⟨List.mem_append_right _ (List.mem_of_getElem? (i := 368) rfl), rfl⟩
set_option maxRecDepth 20000 in
theorem k_369 : Cond.selects "LimbDesk$Num" y_n_bitwise y_n_bitwise ∈ zT := List.mem_filter.mpr ⟨List.mem_append_right _ (List.mem_of_getElem? (i := 369) rfl), rfl⟩
set_option maxRecDepth 20000 in
theorem k_370 : Cond.code y_n_bitwise b_n_bitwise 13 none ∈ zT := List.mem_filter.mpr ⟨List.mem_append_right _ (List.mem_of_getElem? (i := 370) rfl), rfl⟩
set_option maxRecDepth 20000 in
theorem k_371 : Cond.methodLink "LimbDesk$Num" 88 y_n_endless ∈ zT := List.mem_filter.mpr ⟨List.mem_append_right _ (List.mem_of_getElem? (i := 371) rfl), rfl⟩
set_option maxRecDepth 20000 in
theorem k_372 : Cond.static y_n_endless ∈ zT := List.mem_filter.mpr ⟨List.mem_append_right _ (List.mem_of_getElem? (i := 372) rfl), rfl⟩
set_option maxRecDepth 20000 in
theorem k_373 : Cond.code y_n_endless b_n_endless 4 (some .int) ∈ zT := List.mem_filter.mpr ⟨List.mem_append_right _ (List.mem_of_getElem? (i := 373) rfl), rfl⟩
set_option maxRecDepth 20000 in
theorem k_381 : Cond.methodLink "LimbDesk" 127 y_n_power ∈ zT := List.mem_filter.mpr ⟨List.mem_append_right _ (List.mem_of_getElem? (i := 381) rfl), rfl⟩
set_option maxRecDepth 20000 in
theorem k_382 : Cond.instanceMethod y_n_power ∈ zT := List.mem_filter.mpr ⟨List.mem_append_right _ (List.mem_of_getElem? (i := 382) rfl), rfl⟩
set_option maxRecDepth 20000 in
theorem k_383 : Cond.selects "LimbDesk$Num" y_n_power y_n_power ∈ zT := List.mem_filter.mpr ⟨List.mem_append_right _ (List.mem_of_getElem? (i := 383) rfl), rfl⟩
set_option maxRecDepth 20000 in
theorem k_384 : Cond.code y_n_power b_n_power 7 (some .boolean) ∈ zT := List.mem_filter.mpr ⟨List.mem_append_right _ (List.mem_of_getElem? (i := 384) rfl), rfl⟩
set_option maxRecDepth 20000 in
theorem k_385 : Cond.methodLink "LimbDesk$Num" 26 y_n_bits ∈ zT := List.mem_filter.mpr ⟨List.mem_append_right _ (List.mem_of_getElem? (i := 385) rfl), rfl⟩
set_option maxRecDepth 20000 in
theorem k_386 : Cond.methodLink "LimbDesk$Num" 92 y_jL_nlz ∈ zT := List.mem_filter.mpr ⟨List.mem_append_right _ (List.mem_of_getElem? (i := 386) rfl), rfl⟩
set_option maxRecDepth 20000 in
theorem k_387 : Cond.static y_jL_nlz ∈ zT := List.mem_filter.mpr ⟨List.mem_append_right _ (List.mem_of_getElem? (i := 387) rfl), rfl⟩
set_option maxRecDepth 20000 in
theorem k_388 : Cond.code y_jL_nlz b_jL_nlz 3 (some .int) ∈ zT := List.mem_filter.mpr ⟨List.mem_append_right _ (List.mem_of_getElem? (i := 388) rfl), rfl⟩
set_option maxRecDepth 20000 in
theorem k_389 : Cond.methodLink "java/lang/Long" 308 y_jI_nlz ∈ zT := List.mem_filter.mpr ⟨List.mem_append_right _ (List.mem_of_getElem? (i := 389) rfl), rfl⟩
set_option maxRecDepth 20000 in
theorem k_390 : Cond.methodLink "LimbDesk$Num" 97 y_n_product ∈ zT := List.mem_filter.mpr ⟨List.mem_append_right _ (List.mem_of_getElem? (i := 390) rfl), rfl⟩
set_option maxRecDepth 20000 in
theorem k_405 : Cond.methodLink "LimbDesk" 135 y_n_compare ∈ zT := List.mem_filter.mpr ⟨List.mem_append_right _ (List.mem_of_getElem? (i := 405) rfl), rfl⟩
set_option maxRecDepth 20000 in
theorem k_406 : Cond.instanceMethod y_n_compare ∈ zT := List.mem_filter.mpr ⟨List.mem_append_right _ (List.mem_of_getElem? (i := 406) rfl), rfl⟩
set_option maxRecDepth 20000 in
theorem k_407 : Cond.selects "LimbDesk$Num" y_n_compare y_n_compare ∈ zT := List.mem_filter.mpr ⟨List.mem_append_right _ (List.mem_of_getElem? (i := 407) rfl), rfl⟩
set_option maxRecDepth 20000 in
theorem k_408 : Cond.code y_n_compare b_n_compare 2 (some .int) ∈ zT := List.mem_filter.mpr ⟨List.mem_append_right _ (List.mem_of_getElem? (i := 408) rfl), rfl⟩
set_option maxRecDepth 20000 in
theorem k_416 : Cond.methodLink "LimbDesk" 139 y_n_fits ∈ zT := List.mem_filter.mpr ⟨List.mem_append_right _ (List.mem_of_getElem? (i := 416) rfl), rfl⟩
set_option maxRecDepth 20000 in
theorem k_417 : Cond.instanceMethod y_n_fits ∈ zT := List.mem_filter.mpr ⟨List.mem_append_right _ (List.mem_of_getElem? (i := 417) rfl), rfl⟩
set_option maxRecDepth 20000 in
theorem k_418 : Cond.selects "LimbDesk$Num" y_n_fits y_n_fits ∈ zT := List.mem_filter.mpr ⟨List.mem_append_right _ (List.mem_of_getElem? (i := 418) rfl), rfl⟩
set_option maxRecDepth 20000 in
theorem k_419 : Cond.code y_n_fits b_n_fits 1 (some .boolean) ∈ zT := List.mem_filter.mpr ⟨List.mem_append_right _ (List.mem_of_getElem? (i := 419) rfl), rfl⟩
set_option maxRecDepth 20000 in
theorem k_420 : Cond.constant "LimbDesk$Num" 30 32768 ∈ zT := List.mem_filter.mpr ⟨List.mem_append_right _ (List.mem_of_getElem? (i := 420) rfl), rfl⟩
set_option maxRecDepth 20000 in
theorem k_421 : Cond.methodLink "LimbDesk" 142 y_n_small ∈ zT := List.mem_filter.mpr ⟨List.mem_append_right _ (List.mem_of_getElem? (i := 421) rfl), rfl⟩
set_option maxRecDepth 20000 in
theorem k_422 : Cond.instanceMethod y_n_small ∈ zT := List.mem_filter.mpr ⟨List.mem_append_right _ (List.mem_of_getElem? (i := 422) rfl), rfl⟩
set_option maxRecDepth 20000 in
theorem k_423 : Cond.selects "LimbDesk$Num" y_n_small y_n_small ∈ zT := List.mem_filter.mpr ⟨List.mem_append_right _ (List.mem_of_getElem? (i := 423) rfl), rfl⟩
set_option maxRecDepth 20000 in
theorem k_424 : Cond.code y_n_small b_n_small 4 (some .long) ∈ zT := List.mem_filter.mpr ⟨List.mem_append_right _ (List.mem_of_getElem? (i := 424) rfl), rfl⟩
set_option maxRecDepth 20000 in
theorem k_425 : Cond.methodLink "LimbDesk$Num" 31 y_jM_min ∈ zT := List.mem_filter.mpr ⟨List.mem_append_right _ (List.mem_of_getElem? (i := 425) rfl), rfl⟩
set_option maxRecDepth 20000 in
theorem k_426 : Cond.static y_jM_min ∈ zT := List.mem_filter.mpr ⟨List.mem_append_right _ (List.mem_of_getElem? (i := 426) rfl), rfl⟩
set_option maxRecDepth 20000 in
theorem k_427 : Cond.code y_jM_min b_jM_min 2 (some .int) ∈ zT := List.mem_filter.mpr ⟨List.mem_append_right _ (List.mem_of_getElem? (i := 427) rfl), rfl⟩
set_option maxRecDepth 20000 in
theorem k_43 : Cond.fieldLink "LimbDesk" 11 "LimbDesk" "registers" "[LLimbDesk$Num;" ∈ zT := List.mem_filter.mpr ⟨List.mem_append_right _ (List.mem_of_getElem? (i := 43) rfl), rfl⟩
set_option maxRecDepth 20000 in
theorem k_44 : Cond.fieldLink "LimbDesk" 18 "LimbDesk" "free" "LLimbDesk$Num;" ∈ zT := List.mem_filter.mpr ⟨List.mem_append_right _ (List.mem_of_getElem? (i := 44) rfl), rfl⟩
set_option maxRecDepth 20000 in
theorem k_442 : Cond.methodLink "LimbDesk" 146 y_n_folded ∈ zT := List.mem_filter.mpr ⟨List.mem_append_right _ (List.mem_of_getElem? (i := 442) rfl), rfl⟩
set_option maxRecDepth 20000 in
theorem k_443 : Cond.instanceMethod y_n_folded ∈ zT := List.mem_filter.mpr ⟨List.mem_append_right _ (List.mem_of_getElem? (i := 443) rfl), rfl⟩
set_option maxRecDepth 20000 in
theorem k_444 : Cond.selects "LimbDesk$Num" y_n_folded y_n_folded ∈ zT := List.mem_filter.mpr ⟨List.mem_append_right _ (List.mem_of_getElem? (i := 444) rfl), rfl⟩
set_option maxRecDepth 20000 in
theorem k_445 : Cond.code y_n_folded b_n_folded 6 (some .long) ∈ zT := List.mem_filter.mpr ⟨List.mem_append_right _ (List.mem_of_getElem? (i := 445) rfl), rfl⟩
set_option maxRecDepth 20000 in
theorem k_446 : Cond.constantLong "LimbDesk$Num" 100 (2305843009213693951) ∈ zT := List.mem_filter.mpr ⟨List.mem_append_right _ (List.mem_of_getElem? (i := 446) rfl), rfl⟩
set_option maxRecDepth 20000 in
theorem k_45 : Cond.fieldLink "LimbDesk" 22 "LimbDesk" "rest" "LLimbDesk$Num;" ∈ zT := List.mem_filter.mpr ⟨List.mem_append_right _ (List.mem_of_getElem? (i := 45) rfl), rfl⟩
set_option maxRecDepth 20000 in
theorem k_46 : Cond.fieldLink "LimbDesk" 25 "LimbDesk" "work" "LLimbDesk$Num;" ∈ zT := List.mem_filter.mpr ⟨List.mem_append_right _ (List.mem_of_getElem? (i := 46) rfl), rfl⟩
set_option maxRecDepth 20000 in
theorem k_460 : Cond.fieldLink "LimbDeskModel" 49 "LimbDeskModel" "err" "I" ∈ zT := List.mem_filter.mpr ⟨List.mem_append_right _ (List.mem_of_getElem? (i := 460) rfl), rfl⟩
set_option maxRecDepth 20000 in
theorem k_461 : Cond.fieldLink "LimbDeskModel" 97 "LimbDeskModel" "length" "I" ∈ zT := List.mem_filter.mpr ⟨List.mem_append_right _ (List.mem_of_getElem? (i := 461) rfl), rfl⟩
set_option maxRecDepth 20000 in
theorem k_462 : Cond.fieldLink "LimbDeskModel" 9 "LimbDeskModel" "limbs" "[I" ∈ zT := List.mem_filter.mpr ⟨List.mem_append_right _ (List.mem_of_getElem? (i := 462) rfl), rfl⟩
set_option maxRecDepth 20000 in
theorem k_463 : Cond.fieldLink "LimbDeskModel" 13 "LimbDeskModel" "count" "[I" ∈ zT := List.mem_filter.mpr ⟨List.mem_append_right _ (List.mem_of_getElem? (i := 463) rfl), rfl⟩
set_option maxRecDepth 20000 in
theorem k_464 : Cond.fieldLink "LimbDeskModel" 16 "LimbDeskModel" "sign" "[I" ∈ zT := List.mem_filter.mpr ⟨List.mem_append_right _ (List.mem_of_getElem? (i := 464) rfl), rfl⟩
set_option maxRecDepth 20000 in
theorem k_465 : Cond.fieldLink "LimbDeskModel" 19 "LimbDeskModel" "text" "[I" ∈ zT := List.mem_filter.mpr ⟨List.mem_append_right _ (List.mem_of_getElem? (i := 465) rfl), rfl⟩
set_option maxRecDepth 20000 in
theorem k_466 : Cond.fieldLink "LimbDeskModel" 22 "LimbDeskModel" "ra" "[I" ∈ zT := List.mem_filter.mpr ⟨List.mem_append_right _ (List.mem_of_getElem? (i := 466) rfl), rfl⟩
set_option maxRecDepth 20000 in
theorem k_467 : Cond.fieldLink "LimbDeskModel" 25 "LimbDeskModel" "rb" "[I" ∈ zT := List.mem_filter.mpr ⟨List.mem_append_right _ (List.mem_of_getElem? (i := 467) rfl), rfl⟩
set_option maxRecDepth 20000 in
theorem k_468 : Cond.fieldLink "LimbDeskModel" 28 "LimbDeskModel" "rc" "[I" ∈ zT := List.mem_filter.mpr ⟨List.mem_append_right _ (List.mem_of_getElem? (i := 468) rfl), rfl⟩
set_option maxRecDepth 20000 in
theorem k_469 : Cond.fieldLink "LimbDeskModel" 31 "LimbDeskModel" "rd" "[I" ∈ zT := List.mem_filter.mpr ⟨List.mem_append_right _ (List.mem_of_getElem? (i := 469) rfl), rfl⟩
set_option maxRecDepth 20000 in
theorem k_47 : Cond.fieldLink "LimbDesk" 28 "LimbDesk" "more" "LLimbDesk$Num;" ∈ zT := List.mem_filter.mpr ⟨List.mem_append_right _ (List.mem_of_getElem? (i := 47) rfl), rfl⟩
set_option maxRecDepth 20000 in
theorem k_470 : Cond.fieldLink "LimbDeskModel" 34 "LimbDeskModel" "rm" "[I" ∈ zT := List.mem_filter.mpr ⟨List.mem_append_right _ (List.mem_of_getElem? (i := 470) rfl), rfl⟩
set_option maxRecDepth 20000 in
theorem k_471 : Cond.fieldLink "LimbDeskModel" 37 "LimbDeskModel" "rt" "[I" ∈ zT := List.mem_filter.mpr ⟨List.mem_append_right _ (List.mem_of_getElem? (i := 471) rfl), rfl⟩
set_option maxRecDepth 20000 in
theorem k_472 : Cond.fieldLink "LimbDeskModel" 64 "LimbDeskModel" "quotientSize" "I" ∈ zT := List.mem_filter.mpr ⟨List.mem_append_right _ (List.mem_of_getElem? (i := 472) rfl), rfl⟩
set_option maxRecDepth 20000 in
theorem k_473 : Cond.fieldLink "LimbDeskModel" 40 "LimbDeskModel" "rs" "[I" ∈ zT := List.mem_filter.mpr ⟨List.mem_append_right _ (List.mem_of_getElem? (i := 473) rfl), rfl⟩
set_option maxRecDepth 20000 in
theorem k_474 : Cond.fieldLink "LimbDeskModel" 43 "LimbDeskModel" "power" "[I" ∈ zT := List.mem_filter.mpr ⟨List.mem_append_right _ (List.mem_of_getElem? (i := 474) rfl), rfl⟩
set_option maxRecDepth 20000 in
theorem k_475 : Cond.fieldLink "LimbDeskModel" 46 "LimbDeskModel" "base" "[I" ∈ zT := List.mem_filter.mpr ⟨List.mem_append_right _ (List.mem_of_getElem? (i := 475) rfl), rfl⟩
set_option maxRecDepth 20000 in
theorem k_48 : Cond.fieldLink "LimbDesk" 31 "LimbDesk" "base" "LLimbDesk$Num;" ∈ zT := List.mem_filter.mpr ⟨List.mem_append_right _ (List.mem_of_getElem? (i := 48) rfl), rfl⟩
set_option maxRecDepth 20000 in
theorem k_49 : Cond.fieldLink "LimbDesk" 34 "LimbDesk" "line" "[B" ∈ zT := List.mem_filter.mpr ⟨List.mem_append_right _ (List.mem_of_getElem? (i := 49) rfl), rfl⟩
set_option maxRecDepth 20000 in
theorem k_50 : Cond.fieldLink "LimbDesk" 73 "LimbDesk" "letters" "I" ∈ zT := List.mem_filter.mpr ⟨List.mem_append_right _ (List.mem_of_getElem? (i := 50) rfl), rfl⟩
set_option maxRecDepth 20000 in
theorem k_517 : Cond.methodLink "LimbDeskModel" 83 y_m_isRegister ∈ zT := List.mem_filter.mpr ⟨List.mem_append_right _ (List.mem_of_getElem? (i := 517) rfl), rfl⟩
set_option maxRecDepth 20000 in
theorem k_518 : Cond.static y_m_isRegister ∈ zT := List.mem_filter.mpr ⟨List.mem_append_right _ (List.mem_of_getElem? (i := 518) rfl), rfl⟩
set_option maxRecDepth 20000 in
theorem k_519 : Cond.code y_m_isRegister b_m_isRegister 1 (some .boolean) ∈ zT := List.mem_filter.mpr ⟨List.mem_append_right _ (List.mem_of_getElem? (i := 519) rfl), rfl⟩
set_option maxRecDepth 20000 in
theorem k_520 : Cond.methodLink "LimbDeskModel" 68 y_m_in ∈ zT := List.mem_filter.mpr ⟨List.mem_append_right _ (List.mem_of_getElem? (i := 520) rfl), rfl⟩
set_option maxRecDepth 20000 in
theorem k_521 : Cond.static y_m_in ∈ zT := List.mem_filter.mpr ⟨List.mem_append_right _ (List.mem_of_getElem? (i := 521) rfl), rfl⟩
set_option maxRecDepth 20000 in
theorem k_522 : Cond.code y_m_in b_m_in 3 (some .boolean) ∈ zT := List.mem_filter.mpr ⟨List.mem_append_right _ (List.mem_of_getElem? (i := 522) rfl), rfl⟩
set_option maxRecDepth 20000 in
theorem k_523 : Cond.methodLink "LimbDeskModel" 79 y_m_fails ∈ zT := List.mem_filter.mpr ⟨List.mem_append_right _ (List.mem_of_getElem? (i := 523) rfl), rfl⟩
set_option maxRecDepth 20000 in
theorem k_525 : Cond.instanceMethod y_m_fails ∈ zT := List.mem_filter.mpr ⟨List.mem_append_right _ (List.mem_of_getElem? (i := 525) rfl), rfl⟩
set_option maxRecDepth 20000 in
theorem k_526 : Cond.code y_m_fails b_m_fails 3 (some .boolean) ∈ zT := List.mem_filter.mpr ⟨List.mem_append_right _ (List.mem_of_getElem? (i := 526) rfl), rfl⟩
set_option maxRecDepth 20000 in
theorem k_527 : Cond.methodLink "LimbDeskModel" 87 y_m_size0 ∈ zT := List.mem_filter.mpr ⟨List.mem_append_right _ (List.mem_of_getElem? (i := 527) rfl), rfl⟩
set_option maxRecDepth 20000 in
theorem k_529 : Cond.instanceMethod y_m_size0 ∈ zT := List.mem_filter.mpr ⟨List.mem_append_right _ (List.mem_of_getElem? (i := 529) rfl), rfl⟩
set_option maxRecDepth 20000 in
theorem k_530 : Cond.code y_m_size0 b_m_size0 3 (some .int) ∈ zT := List.mem_filter.mpr ⟨List.mem_append_right _ (List.mem_of_getElem? (i := 530) rfl), rfl⟩
set_option maxRecDepth 20000 in
theorem k_531 : Cond.methodLink "LimbDeskModel" 72 y_m_load ∈ zT := List.mem_filter.mpr ⟨List.mem_append_right _ (List.mem_of_getElem? (i := 531) rfl), rfl⟩
set_option maxRecDepth 20000 in
theorem k_533 : Cond.instanceMethod y_m_load ∈ zT := List.mem_filter.mpr ⟨List.mem_append_right _ (List.mem_of_getElem? (i := 533) rfl), rfl⟩
set_option maxRecDepth 20000 in
theorem k_534 : Cond.code y_m_load b_m_load 4 (some .int) ∈ zT := List.mem_filter.mpr ⟨List.mem_append_right _ (List.mem_of_getElem? (i := 534) rfl), rfl⟩
set_option maxRecDepth 20000 in
theorem k_535 : Cond.methodLink "LimbDeskModel" 76 y_m_bits0 ∈ zT := List.mem_filter.mpr ⟨List.mem_append_right _ (List.mem_of_getElem? (i := 535) rfl), rfl⟩
set_option maxRecDepth 20000 in
theorem k_536 : Cond.static y_m_bits0 ∈ zT := List.mem_filter.mpr ⟨List.mem_append_right _ (List.mem_of_getElem? (i := 536) rfl), rfl⟩
set_option maxRecDepth 20000 in
theorem k_537 : Cond.code y_m_bits0 b_m_bits0 4 (some .int) ∈ zT := List.mem_filter.mpr ⟨List.mem_append_right _ (List.mem_of_getElem? (i := 537) rfl), rfl⟩
set_option maxRecDepth 20000 in
theorem k_538 : Cond.constantLong "LimbDeskModel" 58 (65535) ∈ zT := List.mem_filter.mpr ⟨List.mem_append_right _ (List.mem_of_getElem? (i := 538) rfl), rfl⟩
set_option maxRecDepth 20000 in
theorem k_539 : Cond.methodLink "LimbDeskModel" 91 y_m_keep ∈ zT := List.mem_filter.mpr ⟨List.mem_append_right _ (List.mem_of_getElem? (i := 539) rfl), rfl⟩
set_option maxRecDepth 20000 in
theorem k_541 : Cond.instanceMethod y_m_keep ∈ zT := List.mem_filter.mpr ⟨List.mem_append_right _ (List.mem_of_getElem? (i := 541) rfl), rfl⟩
set_option maxRecDepth 20000 in
theorem k_542 : Cond.code y_m_keep b_m_keep 8 (some .boolean) ∈ zT := List.mem_filter.mpr ⟨List.mem_append_right _ (List.mem_of_getElem? (i := 542) rfl), rfl⟩
set_option maxRecDepth 20000 in
theorem k_543 : Cond.methodLink "LimbDeskModel" 54 y_m_trim ∈ zT := List.mem_filter.mpr ⟨List.mem_append_right _ (List.mem_of_getElem? (i := 543) rfl), rfl⟩
set_option maxRecDepth 20000 in
theorem k_544 : Cond.static y_m_trim ∈ zT := List.mem_filter.mpr ⟨List.mem_append_right _ (List.mem_of_getElem? (i := 544) rfl), rfl⟩
set_option maxRecDepth 20000 in
theorem k_545 : Cond.code y_m_trim b_m_trim 3 (some .int) ∈ zT := List.mem_filter.mpr ⟨List.mem_append_right _ (List.mem_of_getElem? (i := 545) rfl), rfl⟩
set_option maxRecDepth 20000 in
theorem k_550 : Cond.constantLong "LimbDeskModel" 95 (255) ∈ zT := List.mem_filter.mpr ⟨List.mem_append_right _ (List.mem_of_getElem? (i := 550) rfl), rfl⟩
set_option maxRecDepth 20000 in
theorem k_555 : Cond.methodLink "LimbDeskModel" 100 y_m_digit ∈ zT := List.mem_filter.mpr ⟨List.mem_append_right _ (List.mem_of_getElem? (i := 555) rfl), rfl⟩
set_option maxRecDepth 20000 in
theorem k_556 : Cond.static y_m_digit ∈ zT := List.mem_filter.mpr ⟨List.mem_append_right _ (List.mem_of_getElem? (i := 556) rfl), rfl⟩
set_option maxRecDepth 20000 in
theorem k_557 : Cond.code y_m_digit b_m_digit 1 (some .int) ∈ zT := List.mem_filter.mpr ⟨List.mem_append_right _ (List.mem_of_getElem? (i := 557) rfl), rfl⟩
set_option maxRecDepth 20000 in
theorem k_558 : Cond.methodLink "LimbDeskModel" 103 y_m_timesSmall ∈ zT := List.mem_filter.mpr ⟨List.mem_append_right _ (List.mem_of_getElem? (i := 558) rfl), rfl⟩
set_option maxRecDepth 20000 in
theorem k_559 : Cond.static y_m_timesSmall ∈ zT := List.mem_filter.mpr ⟨List.mem_append_right _ (List.mem_of_getElem? (i := 559) rfl), rfl⟩
set_option maxRecDepth 20000 in
theorem k_560 : Cond.code y_m_timesSmall b_m_timesSmall 7 (some .int) ∈ zT := List.mem_filter.mpr ⟨List.mem_append_right _ (List.mem_of_getElem? (i := 560) rfl), rfl⟩
set_option maxRecDepth 20000 in
theorem k_573 : Cond.methodLink "LimbDeskModel" 107 y_m_times ∈ zT := List.mem_filter.mpr ⟨List.mem_append_right _ (List.mem_of_getElem? (i := 573) rfl), rfl⟩
set_option maxRecDepth 20000 in
theorem k_574 : Cond.static y_m_times ∈ zT := List.mem_filter.mpr ⟨List.mem_append_right _ (List.mem_of_getElem? (i := 574) rfl), rfl⟩
set_option maxRecDepth 20000 in
theorem k_575 : Cond.code y_m_times b_m_times 9 (some .int) ∈ zT := List.mem_filter.mpr ⟨List.mem_append_right _ (List.mem_of_getElem? (i := 575) rfl), rfl⟩
set_option maxRecDepth 20000 in
theorem k_576 : Cond.methodLink "LimbDeskModel" 111 y_m_plus ∈ zT := List.mem_filter.mpr ⟨List.mem_append_right _ (List.mem_of_getElem? (i := 576) rfl), rfl⟩
set_option maxRecDepth 20000 in
theorem k_577 : Cond.static y_m_plus ∈ zT := List.mem_filter.mpr ⟨List.mem_append_right _ (List.mem_of_getElem? (i := 577) rfl), rfl⟩
set_option maxRecDepth 20000 in
theorem k_578 : Cond.code y_m_plus b_m_plus 8 (some .int) ∈ zT := List.mem_filter.mpr ⟨List.mem_append_right _ (List.mem_of_getElem? (i := 578) rfl), rfl⟩
set_option maxRecDepth 20000 in
theorem k_579 : Cond.constant "LimbDeskModel" 53 65535 ∈ zT := List.mem_filter.mpr ⟨List.mem_append_right _ (List.mem_of_getElem? (i := 579) rfl), rfl⟩
set_option maxRecDepth 20000 in
theorem k_580 : Cond.methodLink "LimbDeskModel" 60 y_m_compared ∈ zT := List.mem_filter.mpr ⟨List.mem_append_right _ (List.mem_of_getElem? (i := 580) rfl), rfl⟩
set_option maxRecDepth 20000 in
theorem k_581 : Cond.static y_m_compared ∈ zT := List.mem_filter.mpr ⟨List.mem_append_right _ (List.mem_of_getElem? (i := 581) rfl), rfl⟩
set_option maxRecDepth 20000 in
theorem k_582 : Cond.code y_m_compared b_m_compared 5 (some .int) ∈ zT := List.mem_filter.mpr ⟨List.mem_append_right _ (List.mem_of_getElem? (i := 582) rfl), rfl⟩
set_option maxRecDepth 20000 in
theorem k_583 : Cond.methodLink "LimbDeskModel" 114 y_m_less ∈ zT := List.mem_filter.mpr ⟨List.mem_append_right _ (List.mem_of_getElem? (i := 583) rfl), rfl⟩
set_option maxRecDepth 20000 in
theorem k_584 : Cond.static y_m_less ∈ zT := List.mem_filter.mpr ⟨List.mem_append_right _ (List.mem_of_getElem? (i := 584) rfl), rfl⟩
set_option maxRecDepth 20000 in
theorem k_585 : Cond.code y_m_less b_m_less 7 (some .int) ∈ zT := List.mem_filter.mpr ⟨List.mem_append_right _ (List.mem_of_getElem? (i := 585) rfl), rfl⟩
set_option maxRecDepth 20000 in
theorem k_590 : Cond.methodLink "LimbDeskModel" 117 y_m_divided ∈ zT := List.mem_filter.mpr ⟨List.mem_append_right _ (List.mem_of_getElem? (i := 590) rfl), rfl⟩
set_option maxRecDepth 20000 in
theorem k_592 : Cond.instanceMethod y_m_divided ∈ zT := List.mem_filter.mpr ⟨List.mem_append_right _ (List.mem_of_getElem? (i := 592) rfl), rfl⟩
set_option maxRecDepth 20000 in
theorem k_593 : Cond.code y_m_divided b_m_divided 18 (some .int) ∈ zT := List.mem_filter.mpr ⟨List.mem_append_right _ (List.mem_of_getElem? (i := 593) rfl), rfl⟩
set_option maxRecDepth 20000 in
theorem k_594 : Cond.constant "LimbDeskModel" 67 32768 ∈ zT := List.mem_filter.mpr ⟨List.mem_append_right _ (List.mem_of_getElem? (i := 594) rfl), rfl⟩
set_option maxRecDepth 20000 in
theorem k_599 : Cond.methodLink "LimbDeskModel" 120 y_m_shiftedLeft ∈ zT := List.mem_filter.mpr ⟨List.mem_append_right _ (List.mem_of_getElem? (i := 599) rfl), rfl⟩
set_option maxRecDepth 20000 in
theorem k_600 : Cond.static y_m_shiftedLeft ∈ zT := List.mem_filter.mpr ⟨List.mem_append_right _ (List.mem_of_getElem? (i := 600) rfl), rfl⟩
set_option maxRecDepth 20000 in
theorem k_601 : Cond.code y_m_shiftedLeft b_m_shiftedLeft 7 (some .int) ∈ zT := List.mem_filter.mpr ⟨List.mem_append_right _ (List.mem_of_getElem? (i := 601) rfl), rfl⟩
set_option maxRecDepth 20000 in
theorem k_602 : Cond.methodLink "LimbDeskModel" 124 y_m_isBit ∈ zT := List.mem_filter.mpr ⟨List.mem_append_right _ (List.mem_of_getElem? (i := 602) rfl), rfl⟩
set_option maxRecDepth 20000 in
theorem k_603 : Cond.static y_m_isBit ∈ zT := List.mem_filter.mpr ⟨List.mem_append_right _ (List.mem_of_getElem? (i := 603) rfl), rfl⟩
set_option maxRecDepth 20000 in
theorem k_604 : Cond.code y_m_isBit b_m_isBit 3 (some .boolean) ∈ zT := List.mem_filter.mpr ⟨List.mem_append_right _ (List.mem_of_getElem? (i := 604) rfl), rfl⟩
set_option maxRecDepth 20000 in
theorem k_609 : Cond.methodLink "LimbDeskModel" 128 y_m_twos ∈ zT := List.mem_filter.mpr ⟨List.mem_append_right _ (List.mem_of_getElem? (i := 609) rfl), rfl⟩
set_option maxRecDepth 20000 in
theorem k_610 : Cond.static y_m_twos ∈ zT := List.mem_filter.mpr ⟨List.mem_append_right _ (List.mem_of_getElem? (i := 610) rfl), rfl⟩
set_option maxRecDepth 20000 in
theorem k_611 : Cond.code y_m_twos b_m_twos 6 none ∈ zT := List.mem_filter.mpr ⟨List.mem_append_right _ (List.mem_of_getElem? (i := 611) rfl), rfl⟩
set_option maxRecDepth 20000 in
theorem k_616 : Cond.constantLong "LimbDeskModel" 132 (2048) ∈ zT := List.mem_filter.mpr ⟨List.mem_append_right _ (List.mem_of_getElem? (i := 616) rfl), rfl⟩
set_option maxRecDepth 20000 in
theorem k_629 : Cond.methodLink "LimbDeskModel" 134 y_m_low64 ∈ zT := List.mem_filter.mpr ⟨List.mem_append_right _ (List.mem_of_getElem? (i := 629) rfl), rfl⟩
set_option maxRecDepth 20000 in
theorem k_631 : Cond.instanceMethod y_m_low64 ∈ zT := List.mem_filter.mpr ⟨List.mem_append_right _ (List.mem_of_getElem? (i := 631) rfl), rfl⟩
set_option maxRecDepth 20000 in
theorem k_632 : Cond.code y_m_low64 b_m_low64 5 (some .long) ∈ zT := List.mem_filter.mpr ⟨List.mem_append_right _ (List.mem_of_getElem? (i := 632) rfl), rfl⟩
set_option maxRecDepth 20000 in
theorem k_633 : Cond.constantLong "LimbDeskModel" 140 (-9223372036854775808) ∈ zT := List.mem_filter.mpr ⟨List.mem_append_right _ (List.mem_of_getElem? (i := 633) rfl), rfl⟩
set_option maxRecDepth 20000 in
theorem k_642 : Cond.constantLong "LimbDeskModel" 142 (2305843009213693951) ∈ zT := List.mem_filter.mpr ⟨List.mem_append_right _ (List.mem_of_getElem? (i := 642) rfl), rfl⟩
set_option maxRecDepth 20000 in
theorem k_643 : Cond.constantLong "LimbDeskModel" 144 (2) ∈ zT := List.mem_filter.mpr ⟨List.mem_append_right _ (List.mem_of_getElem? (i := 643) rfl), rfl⟩
set_option maxRecDepth 20000 in
theorem k_7 : Cond.initialized "java/lang/IllegalArgumentException" ∈ zT := List.mem_filter.mpr ⟨List.mem_append_right _ (List.mem_of_getElem? (i := 7) rfl), rfl⟩
set_option maxRecDepth 20000 in
theorem k_77 : Cond.methodLink "LimbDesk" 63 y_d_at ∈ zT := List.mem_filter.mpr ⟨List.mem_append_right _ (List.mem_of_getElem? (i := 77) rfl), rfl⟩
set_option maxRecDepth 20000 in
theorem k_79 : Cond.instanceMethod y_d_at ∈ zT := List.mem_filter.mpr ⟨List.mem_append_right _ (List.mem_of_getElem? (i := 79) rfl), rfl⟩
set_option maxRecDepth 20000 in
theorem k_8 : Cond.initialized "java/lang/Integer" ∈ zT := List.mem_filter.mpr ⟨List.mem_append_right _ (List.mem_of_getElem? (i := 8) rfl), rfl⟩
set_option maxRecDepth 20000 in
theorem k_80 : Cond.code y_d_at b_d_at 2 (some (.object "LimbDesk$Num")) ∈ zT := List.mem_filter.mpr ⟨List.mem_append_right _ (List.mem_of_getElem? (i := 80) rfl), rfl⟩
set_option maxRecDepth 20000 in
theorem k_81 : Cond.methodLink "LimbDesk" 44 y_d_in ∈ zT := List.mem_filter.mpr ⟨List.mem_append_right _ (List.mem_of_getElem? (i := 81) rfl), rfl⟩
set_option maxRecDepth 20000 in
theorem k_82 : Cond.static y_d_in ∈ zT := List.mem_filter.mpr ⟨List.mem_append_right _ (List.mem_of_getElem? (i := 82) rfl), rfl⟩
set_option maxRecDepth 20000 in
theorem k_83 : Cond.code y_d_in b_d_in 3 (some .boolean) ∈ zT := List.mem_filter.mpr ⟨List.mem_append_right _ (List.mem_of_getElem? (i := 83) rfl), rfl⟩
set_option maxRecDepth 20000 in
theorem k_84 : Cond.methodLink "LimbDesk" 48 y_d_good ∈ zT := List.mem_filter.mpr ⟨List.mem_append_right _ (List.mem_of_getElem? (i := 84) rfl), rfl⟩
set_option maxRecDepth 20000 in
theorem k_85 : Cond.static y_d_good ∈ zT := List.mem_filter.mpr ⟨List.mem_append_right _ (List.mem_of_getElem? (i := 85) rfl), rfl⟩
set_option maxRecDepth 20000 in
theorem k_86 : Cond.code y_d_good b_d_good 1 none ∈ zT := List.mem_filter.mpr ⟨List.mem_append_right _ (List.mem_of_getElem? (i := 86) rfl), rfl⟩
set_option maxRecDepth 20000 in
theorem k_87 : Cond.classLink "LimbDesk" 38 "java/lang/IllegalArgumentException" ∈ zT := List.mem_filter.mpr ⟨List.mem_append_right _ (List.mem_of_getElem? (i := 87) rfl), rfl⟩
set_option maxRecDepth 20000 in
theorem k_88 : Cond.instantiable "java/lang/IllegalArgumentException" 6 ∈ zT := List.mem_filter.mpr ⟨List.mem_append_right _ (List.mem_of_getElem? (i := 88) rfl), rfl⟩
set_option maxRecDepth 20000 in
theorem k_9 : Cond.initialized "java/lang/IndexOutOfBoundsException" ∈ zT := List.mem_filter.mpr ⟨List.mem_append_right _ (List.mem_of_getElem? (i := 9) rfl), rfl⟩
set_option maxRecDepth 20000 in
theorem k_s0 : Cond.selects "LimbDesk" y_d_at y_d_at ∈ zT := List.mem_filter.mpr ⟨List.mem_append_left _ (List.mem_of_getElem? (i := 0) rfl), rfl⟩
set_option maxRecDepth 20000 in
theorem k_s10 : Cond.selects "LimbDeskModel" y_m_divided y_m_divided ∈ zT := List.mem_filter.mpr ⟨List.mem_append_left _ (List.mem_of_getElem? (i := 10) rfl), rfl⟩
set_option maxRecDepth 20000 in
theorem k_s11 : Cond.selects "LimbDeskModel" y_m_low64 y_m_low64 ∈ zT := List.mem_filter.mpr ⟨List.mem_append_left _ (List.mem_of_getElem? (i := 11) rfl), rfl⟩
set_option maxRecDepth 20000 in
theorem k_s2 : Cond.selects "LimbDesk$Num" y_n_trim y_n_trim ∈ zT := List.mem_filter.mpr ⟨List.mem_append_left _ (List.mem_of_getElem? (i := 2) rfl), rfl⟩
set_option maxRecDepth 20000 in
theorem k_s3 : Cond.selects "LimbDesk" y_d_into y_d_into ∈ zT := List.mem_filter.mpr ⟨List.mem_append_left _ (List.mem_of_getElem? (i := 3) rfl), rfl⟩
set_option maxRecDepth 20000 in
theorem k_s4 : Cond.selects "LimbDesk$Num" y_n_sum3 y_n_sum3 ∈ zT := List.mem_filter.mpr ⟨List.mem_append_left _ (List.mem_of_getElem? (i := 4) rfl), rfl⟩
set_option maxRecDepth 20000 in
theorem k_s5 : Cond.selects "LimbDesk$Num" y_n_more y_n_more ∈ zT := List.mem_filter.mpr ⟨List.mem_append_left _ (List.mem_of_getElem? (i := 5) rfl), rfl⟩
set_option maxRecDepth 20000 in
theorem k_s6 : Cond.selects "LimbDeskModel" y_m_fails y_m_fails ∈ zT := List.mem_filter.mpr ⟨List.mem_append_left _ (List.mem_of_getElem? (i := 6) rfl), rfl⟩
set_option maxRecDepth 20000 in
theorem k_s7 : Cond.selects "LimbDeskModel" y_m_size0 y_m_size0 ∈ zT := List.mem_filter.mpr ⟨List.mem_append_left _ (List.mem_of_getElem? (i := 7) rfl), rfl⟩
set_option maxRecDepth 20000 in
theorem k_s8 : Cond.selects "LimbDeskModel" y_m_load y_m_load ∈ zT := List.mem_filter.mpr ⟨List.mem_append_left _ (List.mem_of_getElem? (i := 8) rfl), rfl⟩
set_option maxRecDepth 20000 in
theorem k_s9 : Cond.selects "LimbDeskModel" y_m_keep y_m_keep ∈ zT := List.mem_filter.mpr ⟨List.mem_append_left _ (List.mem_of_getElem? (i := 9) rfl), rfl⟩
