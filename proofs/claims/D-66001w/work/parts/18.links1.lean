theorem cb_Code_add : Cb m_Code_add 2 := ⟨(tb4 35 rfl), by decide +kernel, ⟨by decide, by decide⟩, by decide +kernel, by decide⟩
theorem cb_Pars_opens : Cb m_Pars_opens 1 := ⟨(tb4 39 rfl), by decide +kernel, ⟨by decide, by decide⟩, by decide +kernel, by decide⟩
theorem cb_Pars_shuts : Cb m_Pars_shuts 1 := ⟨(tb4 43 rfl), by decide +kernel, ⟨by decide, by decide⟩, by decide +kernel, by decide⟩
theorem cb_Pars_aggregate : Cb m_Pars_aggregate 1 := ⟨(tb4 46 rfl), by decide +kernel, ⟨by decide, by decide⟩, by decide +kernel, by decide⟩
theorem cb_Pars_kind : Cb m_Pars_kind 0 := ⟨(tb4 50 rfl), by decide +kernel, ⟨by decide, by decide⟩, by decide +kernel, by decide⟩
theorem cb_Pars_condition : Cb m_Pars_condition 2 := ⟨(tb4 53 rfl), by decide +kernel, ⟨by decide, by decide⟩, by decide +kernel, by decide⟩
theorem cb_Pars_named : Cb m_Pars_named 1 := ⟨(tb4 57 rfl), by decide +kernel, ⟨by decide, by decide⟩, by decide +kernel, by decide⟩
theorem cb_Pars_variable : Cb m_Pars_variable 0 := ⟨(tb4 61 rfl), by decide +kernel, ⟨by decide, by decide⟩, by decide +kernel, by decide⟩
theorem cb_Mean_variableOf : Cb m_Mean_variableOf 1 := ⟨(tb4 65 rfl), by decide +kernel, ⟨by decide, by decide⟩, by decide +kernel, by decide⟩
theorem cb_Pars_declare : Cb m_Pars_declare 0 := ⟨(tb4 69 rfl), by decide +kernel, ⟨by decide, by decide⟩, by decide +kernel, by decide⟩
theorem cb_Pars_insert : Cb m_Pars_insert 1 := ⟨(tb4 73 rfl), by decide +kernel, ⟨by decide, by decide⟩, by decide +kernel, by decide⟩
theorem cb_Pars_row : Cb m_Pars_row 2 := ⟨(tb4 77 rfl), by decide +kernel, ⟨by decide, by decide⟩, by decide +kernel, by decide⟩
theorem cb_Pars_changes : Cb m_Pars_changes 2 := ⟨(tb4 80 rfl), by decide +kernel, ⟨by decide, by decide⟩, by decide +kernel, by decide⟩
theorem cb_Pars_expression : Cb m_Pars_expression 2 := ⟨(tb4 83 rfl), by decide +kernel, ⟨by decide, by decide⟩, by decide +kernel, by decide⟩
theorem cb_Pars_each : Cb m_Pars_each 2 := ⟨(tb4 86 rfl), by decide +kernel, ⟨by decide, by decide⟩, by decide +kernel, by decide⟩
theorem cb_Pars_block : Cb m_Pars_block 1 := ⟨(tb4 89 rfl), by decide +kernel, ⟨by decide, by decide⟩, by decide +kernel, by decide⟩
theorem cb_Law_run : Cb m_Law_run 3 := ⟨(tb4 93 rfl), by decide +kernel, ⟨by decide, by decide⟩, by decide +kernel, by decide⟩
theorem cb_AR_run : Cb m_AR_run 1 := ⟨(tb4 97 rfl), by decide +kernel, ⟨by decide, by decide⟩, by decide +kernel, by decide⟩
theorem cb_Mach_all : Cb m_Mach_all 2 := ⟨(tb4 100 rfl), by decide +kernel, ⟨by decide, by decide⟩, by decide +kernel, by decide⟩
theorem cb_Mach_spends : Cb m_Mach_spends 0 := ⟨(tb4 104 rfl), by decide +kernel, ⟨by decide, by decide⟩, by decide +kernel, by decide⟩
theorem cb_Mach_does : Cb m_Mach_does 2 := ⟨(tb4 107 rfl), by decide +kernel, ⟨by decide, by decide⟩, by decide +kernel, by decide⟩
theorem cb_Mach_insert : Cb m_Mach_insert 1 := ⟨(tb4 111 rfl), by decide +kernel, ⟨by decide, by decide⟩, by decide +kernel, by decide⟩
theorem cb_Mach_number : Cb m_Mach_number 2 := ⟨(tb4 115 rfl), by decide +kernel, ⟨by decide, by decide⟩, by decide +kernel, by decide⟩
theorem cb_Mach_cursor : Cb m_Mach_cursor 1 := ⟨(tb4 119 rfl), by decide +kernel, ⟨by decide, by decide⟩, by decide +kernel, by decide⟩
theorem cb_Mach_isThere : Cb m_Mach_isThere 1 := ⟨(tb4 123 rfl), by decide +kernel, ⟨by decide, by decide⟩, by decide +kernel, by decide⟩
theorem cb_Stor_read : Cb m_Stor_read 3 := ⟨(tb4 128 rfl), by decide +kernel, ⟨by decide, by decide⟩, by decide +kernel, by decide⟩
theorem cb_Mach_aggregate : Cb m_Mach_aggregate 1 := ⟨(tb4 132 rfl), by decide +kernel, ⟨by decide, by decide⟩, by decide +kernel, by decide⟩
theorem cb_Mach_chosen : Cb m_Mach_chosen 3 := ⟨(tb4 136 rfl), by decide +kernel, ⟨by decide, by decide⟩, by decide +kernel, by decide⟩
theorem cb_Mach_rows : Cb m_Mach_rows 2 := ⟨(tb4 140 rfl), by decide +kernel, ⟨by decide, by decide⟩, by decide +kernel, by decide⟩
theorem cb_Stck_push : Cb m_Stck_push 1 := ⟨(tb4 144 rfl), by decide +kernel, ⟨by decide, by decide⟩, by decide +kernel, by decide⟩
theorem cb_Stck_at : Cb m_Stck_at 1 := ⟨(tb4 148 rfl), by decide +kernel, ⟨by decide, by decide⟩, by decide +kernel, by decide⟩
theorem cb_Stck_load : Cb m_Stck_load 3 := ⟨(tb4 152 rfl), by decide +kernel, ⟨by decide, by decide⟩, by decide +kernel, by decide⟩
theorem cb_Stck_negate0 : Cb m_Stck_negate0 0 := ⟨(tb4 156 rfl), by decide +kernel, ⟨by decide, by decide⟩, by decide +kernel, by decide⟩
theorem cb_Stck_negate1 : Cb m_Stck_negate1 2 := ⟨(tb4 161 rfl), by decide +kernel, ⟨by decide, by decide⟩, by decide +kernel, by decide⟩
theorem cb_Stck_not : Cb m_Stck_not 0 := ⟨(tb4 165 rfl), by decide +kernel, ⟨by decide, by decide⟩, by decide +kernel, by decide⟩
theorem cb_Stck_truth : Cb m_Stck_truth 1 := ⟨(tb4 169 rfl), by decide +kernel, ⟨by decide, by decide⟩, by decide +kernel, by decide⟩
theorem cb_Stck_put : Cb m_Stck_put 2 := ⟨(tb4 173 rfl), by decide +kernel, ⟨by decide, by decide⟩, by decide +kernel, by decide⟩
theorem cb_Stck_does : Cb m_Stck_does 1 := ⟨(tb4 177 rfl), by decide +kernel, ⟨by decide, by decide⟩, by decide +kernel, by decide⟩
theorem cb_Stck_compare : Cb m_Stck_compare 0 := ⟨(tb4 181 rfl), by decide +kernel, ⟨by decide, by decide⟩, by decide +kernel, by decide⟩
theorem cb_Stck_add : Cb m_Stck_add 1 := ⟨(tb4 185 rfl), by decide +kernel, ⟨by decide, by decide⟩, by decide +kernel, by decide⟩
theorem cb_Stck_multiply : Cb m_Stck_multiply 0 := ⟨(tb4 189 rfl), by decide +kernel, ⟨by decide, by decide⟩, by decide +kernel, by decide⟩
theorem cb_Stck_divide : Cb m_Stck_divide 1 := ⟨(tb4 193 rfl), by decide +kernel, ⟨by decide, by decide⟩, by decide +kernel, by decide⟩
theorem cb_Stor_all : Cb m_Stor_all 1 := ⟨(tb4 197 rfl), by decide +kernel, ⟨by decide, by decide⟩, by decide +kernel, by decide⟩
theorem cb_Stor_best : Cb m_Stor_best 4 := ⟨(tb4 203 rfl), by decide +kernel, ⟨by decide, by decide⟩, by decide +kernel, by decide⟩
theorem cb_JLong_numberOfTrailingZeros : Cb m_JLong_numberOfTrailingZeros 1 := ⟨(tb4 206 rfl), by decide +kernel, ⟨by decide, by decide⟩, by decide +kernel, by decide⟩
theorem cb_JInt_numberOfTrailingZeros : Cb m_JInt_numberOfTrailingZeros 1 := ⟨(tb4 209 rfl), by decide +kernel, ⟨by decide, by decide⟩, by decide +kernel, by decide⟩
theorem cb_Mach_operate : Cb m_Mach_operate 1 := ⟨(tb4 214 rfl), by decide +kernel, ⟨by decide, by decide⟩, by decide +kernel, by decide⟩
theorem cb_Stor_birth : Cb m_Stor_birth 2 := ⟨(tb4 218 rfl), by decide +kernel, ⟨by decide, by decide⟩, by decide +kernel, by decide⟩
theorem cb_Stor_write : Cb m_Stor_write 4 := ⟨(tb4 222 rfl), by decide +kernel, ⟨by decide, by decide⟩, by decide +kernel, by decide⟩
theorem cb_Stor_clear : Cb m_Stor_clear 1 := ⟨(tb4 226 rfl), by decide +kernel, ⟨by decide, by decide⟩, by decide +kernel, by decide⟩
theorem cb_Mach_set : Cb m_Mach_set 1 := ⟨(tb4 230 rfl), by decide +kernel, ⟨by decide, by decide⟩, by decide +kernel, by decide⟩
theorem cb_Mach_each : Cb m_Mach_each 2 := ⟨(tb4 234 rfl), by decide +kernel, ⟨by decide, by decide⟩, by decide +kernel, by decide⟩
theorem cb_Mach_repeats : Cb m_Mach_repeats 2 := ⟨(tb4 238 rfl), by decide +kernel, ⟨by decide, by decide⟩, by decide +kernel, by decide⟩
theorem cb_Mach_put : Cb m_Mach_put 1 := ⟨(tb5 2 rfl), by decide +kernel, ⟨by decide, by decide⟩, by decide +kernel, by decide⟩
theorem cb_Law_print : Cb m_Law_print 3 := ⟨(tb5 5 rfl), by decide +kernel, ⟨by decide, by decide⟩, by decide +kernel, by decide⟩
theorem cb_AR_print : Cb m_AR_print 1 := ⟨(tb5 10 rfl), by decide +kernel, ⟨by decide, by decide⟩, by decide +kernel, by decide⟩
theorem cb_Law_word : Cb m_Law_word 4 := ⟨(tb5 28 rfl), by decide +kernel, ⟨by decide, by decide⟩, by decide +kernel, by decide⟩
theorem cb_AR_word : Cb m_AR_word 2 := ⟨(tb5 32 rfl), by decide +kernel, ⟨by decide, by decide⟩, by decide +kernel, by decide⟩
theorem cb_Mod_init : Cb m_Mod_init 0 := ⟨(tb5 38 rfl), by decide +kernel, ⟨by decide, by decide⟩, by decide +kernel, by decide⟩
theorem cb_Mod_wordIs : Cb m_Mod_wordIs 2 := ⟨(tb5 44 rfl), by decide +kernel, ⟨by decide, by decide⟩, by decide +kernel, by decide⟩
theorem cb_Mod_nameOf : Cb m_Mod_nameOf 1 := ⟨(tb5 47 rfl), by decide +kernel, ⟨by decide, by decide⟩, by decide +kernel, by decide⟩
theorem cb_Mod_thrown : Cb m_Mod_thrown 0 := ⟨(tb5 219 rfl), by decide +kernel, ⟨by decide, by decide⟩, by decide +kernel, by decide⟩
theorem cb_Mod_feed : Cb m_Mod_feed 2 := ⟨(tb5 223 rfl), by decide +kernel, ⟨by decide, by decide⟩, by decide +kernel, by decide⟩
theorem cb_Mod_load : Cb m_Mod_load 0 := ⟨(tb5 227 rfl), by decide +kernel, ⟨by decide, by decide⟩, by decide +kernel, by decide⟩
theorem cb_Mod_scan : Cb m_Mod_scan 0 := ⟨(tb5 231 rfl), by decide +kernel, ⟨by decide, by decide⟩, by decide +kernel, by decide⟩
theorem cb_Mod_byteAt : Cb m_Mod_byteAt 1 := ⟨(tb5 235 rfl), by decide +kernel, ⟨by decide, by decide⟩, by decide +kernel, by decide⟩
theorem cb_Mod_token : Cb m_Mod_token 1 := ⟨(tb5 239 rfl), by decide +kernel, ⟨by decide, by decide⟩, by decide +kernel, by decide⟩
theorem cb_Mod_letter : Cb m_Mod_letter 1 := ⟨(tb6 2 rfl), by decide +kernel, ⟨by decide, by decide⟩, by decide +kernel, by decide⟩
theorem cb_Mod_digit : Cb m_Mod_digit 1 := ⟨(tb6 5 rfl), by decide +kernel, ⟨by decide, by decide⟩, by decide +kernel, by decide⟩
theorem cb_Mod_compile : Cb m_Mod_compile 0 := ⟨(tb6 12 rfl), by decide +kernel, ⟨by decide, by decide⟩, by decide +kernel, by decide⟩
theorem cb_Mod_statement : Cb m_Mod_statement 0 := ⟨(tb6 16 rfl), by decide +kernel, ⟨by decide, by decide⟩, by decide +kernel, by decide⟩
theorem cb_Mod_isSign : Cb m_Mod_isSign 1 := ⟨(tb6 20 rfl), by decide +kernel, ⟨by decide, by decide⟩, by decide +kernel, by decide⟩
theorem cb_Mod_ends : Cb m_Mod_ends 0 := ⟨(tb6 24 rfl), by decide +kernel, ⟨by decide, by decide⟩, by decide +kernel, by decide⟩
theorem cb_Mod_wrong : Cb m_Mod_wrong 0 := ⟨(tb6 28 rfl), by decide +kernel, ⟨by decide, by decide⟩, by decide +kernel, by decide⟩
theorem cb_Mod_emit : Cb m_Mod_emit 1 := ⟨(tb6 32 rfl), by decide +kernel, ⟨by decide, by decide⟩, by decide +kernel, by decide⟩
theorem cb_Mod_isWord : Cb m_Mod_isWord 1 := ⟨(tb6 36 rfl), by decide +kernel, ⟨by decide, by decide⟩, by decide +kernel, by decide⟩
theorem cb_Mod_block : Cb m_Mod_block 4 := ⟨(tb6 40 rfl), by decide +kernel, ⟨by decide, by decide⟩, by decide +kernel, by decide⟩
theorem cb_Mod_opens : Cb m_Mod_opens 0 := ⟨(tb6 44 rfl), by decide +kernel, ⟨by decide, by decide⟩, by decide +kernel, by decide⟩
theorem cb_Mod_bracket : Cb m_Mod_bracket 0 := ⟨(tb6 48 rfl), by decide +kernel, ⟨by decide, by decide⟩, by decide +kernel, by decide⟩
theorem cb_Mod_cursor : Cb m_Mod_cursor 1 := ⟨(tb6 52 rfl), by decide +kernel, ⟨by decide, by decide⟩, by decide +kernel, by decide⟩
theorem cb_Mod_kindOf : Cb m_Mod_kindOf 1 := ⟨(tb6 56 rfl), by decide +kernel, ⟨by decide, by decide⟩, by decide +kernel, by decide⟩
theorem cb_Mod_levelOf : Cb m_Mod_levelOf 1 := ⟨(tb6 60 rfl), by decide +kernel, ⟨by decide, by decide⟩, by decide +kernel, by decide⟩
theorem cb_Mod_sign : Cb m_Mod_sign 1 := ⟨(tb6 64 rfl), by decide +kernel, ⟨by decide, by decide⟩, by decide +kernel, by decide⟩
theorem cb_Mod_takeField : Cb m_Mod_takeField 1 := ⟨(tb6 68 rfl), by decide +kernel, ⟨by decide, by decide⟩, by decide +kernel, by decide⟩
theorem cb_Mod_fieldOf : Cb m_Mod_fieldOf 2 := ⟨(tb6 72 rfl), by decide +kernel, ⟨by decide, by decide⟩, by decide +kernel, by decide⟩
theorem cb_Mod_inline : Cb m_Mod_inline 0 := ⟨(tb6 76 rfl), by decide +kernel, ⟨by decide, by decide⟩, by decide +kernel, by decide⟩
theorem cb_Mod_measured : Cb m_Mod_measured 1 := ⟨(tb6 80 rfl), by decide +kernel, ⟨by decide, by decide⟩, by decide +kernel, by decide⟩
theorem cb_Mod_expression : Cb m_Mod_expression 1 := ⟨(tb6 84 rfl), by decide +kernel, ⟨by decide, by decide⟩, by decide +kernel, by decide⟩
theorem cb_Mod_operand : Cb m_Mod_operand 2 := ⟨(tb6 88 rfl), by decide +kernel, ⟨by decide, by decide⟩, by decide +kernel, by decide⟩
theorem cb_Mod_push : Cb m_Mod_push 1 := ⟨(tb6 92 rfl), by decide +kernel, ⟨by decide, by decide⟩, by decide +kernel, by decide⟩
theorem cb_Mod_strength : Cb m_Mod_strength 1 := ⟨(tb6 95 rfl), by decide +kernel, ⟨by decide, by decide⟩, by decide +kernel, by decide⟩
theorem cb_Mod_aggregate : Cb m_Mod_aggregate 0 := ⟨(tb6 100 rfl), by decide +kernel, ⟨by decide, by decide⟩, by decide +kernel, by decide⟩
theorem cb_Mod_takeKind : Cb m_Mod_takeKind 0 := ⟨(tb6 104 rfl), by decide +kernel, ⟨by decide, by decide⟩, by decide +kernel, by decide⟩
theorem cb_Mod_takeVariable : Cb m_Mod_takeVariable 0 := ⟨(tb6 108 rfl), by decide +kernel, ⟨by decide, by decide⟩, by decide +kernel, by decide⟩
theorem cb_Mod_varOf : Cb m_Mod_varOf 1 := ⟨(tb6 112 rfl), by decide +kernel, ⟨by decide, by decide⟩, by decide +kernel, by decide⟩
theorem cb_Mod_operation : Cb m_Mod_operation 0 := ⟨(tb6 116 rfl), by decide +kernel, ⟨by decide, by decide⟩, by decide +kernel, by decide⟩
theorem cb_Mod_binary : Cb m_Mod_binary 2 := ⟨(tb6 122 rfl), by decide +kernel, ⟨by decide, by decide⟩, by decide +kernel, by decide⟩
theorem cb_Mod_unwind : Cb m_Mod_unwind 2 := ⟨(tb6 126 rfl), by decide +kernel, ⟨by decide, by decide⟩, by decide +kernel, by decide⟩
theorem cb_Mod_closes : Cb m_Mod_closes 1 := ⟨(tb6 130 rfl), by decide +kernel, ⟨by decide, by decide⟩, by decide +kernel, by decide⟩
theorem cb_Mod_newKind : Cb m_Mod_newKind 0 := ⟨(tb6 134 rfl), by decide +kernel, ⟨by decide, by decide⟩, by decide +kernel, by decide⟩
theorem cb_Mod_onKind : Cb m_Mod_onKind 1 := ⟨(tb6 140 rfl), by decide +kernel, ⟨by decide, by decide⟩, by decide +kernel, by decide⟩
theorem cb_Mod_puts : Cb m_Mod_puts 2 := ⟨(tb6 144 rfl), by decide +kernel, ⟨by decide, by decide⟩, by decide +kernel, by decide⟩
theorem cb_Mod_whereOf : Cb m_Mod_whereOf 1 := ⟨(tb6 148 rfl), by decide +kernel, ⟨by decide, by decide⟩, by decide +kernel, by decide⟩
theorem cb_Mod_letOrPrint : Cb m_Mod_letOrPrint 1 := ⟨(tb6 152 rfl), by decide +kernel, ⟨by decide, by decide⟩, by decide +kernel, by decide⟩
theorem cb_Mod_each : Cb m_Mod_each 0 := ⟨(tb6 156 rfl), by decide +kernel, ⟨by decide, by decide⟩, by decide +kernel, by decide⟩
theorem cb_Mod_keyword : Cb m_Mod_keyword 1 := ⟨(tb6 160 rfl), by decide +kernel, ⟨by decide, by decide⟩, by decide +kernel, by decide⟩
theorem cb_Mod_levels : Cb m_Mod_levels 0 := ⟨(tb6 164 rfl), by decide +kernel, ⟨by decide, by decide⟩, by decide +kernel, by decide⟩
theorem cb_Mod_condition : Cb m_Mod_condition 1 := ⟨(tb6 168 rfl), by decide +kernel, ⟨by decide, by decide⟩, by decide +kernel, by decide⟩
theorem cb_Mod_place : Cb m_Mod_place 0 := ⟨(tb6 172 rfl), by decide +kernel, ⟨by decide, by decide⟩, by decide +kernel, by decide⟩
theorem cb_Mod_run : Cb m_Mod_run 1 := ⟨(tb6 176 rfl), by decide +kernel, ⟨by decide, by decide⟩, by decide +kernel, by decide⟩
theorem cb_Mod_step : Cb m_Mod_step 1 := ⟨(tb6 180 rfl), by decide +kernel, ⟨by decide, by decide⟩, by decide +kernel, by decide⟩
theorem cb_Mod_pay : Cb m_Mod_pay 0 := ⟨(tb6 184 rfl), by decide +kernel, ⟨by decide, by decide⟩, by decide +kernel, by decide⟩
theorem cb_Mod_insert : Cb m_Mod_insert 1 := ⟨(tb6 188 rfl), by decide +kernel, ⟨by decide, by decide⟩, by decide +kernel, by decide⟩
theorem cb_Mod_cut : Cb m_Mod_cut 3 := ⟨(tb6 192 rfl), by decide +kernel, ⟨by decide, by decide⟩, by decide +kernel, by decide⟩
theorem cb_Mod_choose : Cb m_Mod_choose 2 := ⟨(tb6 196 rfl), by decide +kernel, ⟨by decide, by decide⟩, by decide +kernel, by decide⟩
theorem cb_Mod_eval : Cb m_Mod_eval 3 := ⟨(tb6 200 rfl), by decide +kernel, ⟨by decide, by decide⟩, by decide +kernel, by decide⟩
theorem cb_Mod_valueOf : Cb m_Mod_valueOf 2 := ⟨(tb6 204 rfl), by decide +kernel, ⟨by decide, by decide⟩, by decide +kernel, by decide⟩
theorem cb_Mod_cursorThere : Cb m_Mod_cursorThere 1 := ⟨(tb6 208 rfl), by decide +kernel, ⟨by decide, by decide⟩, by decide +kernel, by decide⟩
theorem cb_Mod_nextOf : Cb m_Mod_nextOf 2 := ⟨(tb6 212 rfl), by decide +kernel, ⟨by decide, by decide⟩, by decide +kernel, by decide⟩
theorem cb_Mod_endOf : Cb m_Mod_endOf 1 := ⟨(tb6 216 rfl), by decide +kernel, ⟨by decide, by decide⟩, by decide +kernel, by decide⟩
theorem cb_Mod_aggregated : Cb m_Mod_aggregated 4 := ⟨(tb6 220 rfl), by decide +kernel, ⟨by decide, by decide⟩, by decide +kernel, by decide⟩
theorem cb_Mod_operate : Cb m_Mod_operate 3 := ⟨(tb6 223 rfl), by decide +kernel, ⟨by decide, by decide⟩, by decide +kernel, by decide⟩
theorem cb_Mod_setAll : Cb m_Mod_setAll 1 := ⟨(tb6 227 rfl), by decide +kernel, ⟨by decide, by decide⟩, by decide +kernel, by decide⟩
theorem cb_Mod_beginEach : Cb m_Mod_beginEach 1 := ⟨(tb6 231 rfl), by decide +kernel, ⟨by decide, by decide⟩, by decide +kernel, by decide⟩
theorem cb_Mod_nextEach : Cb m_Mod_nextEach 1 := ⟨(tb6 235 rfl), by decide +kernel, ⟨by decide, by decide⟩, by decide +kernel, by decide⟩
theorem cb_Mod_put : Cb m_Mod_put 1 := ⟨(tb6 239 rfl), by decide +kernel, ⟨by decide, by decide⟩, by decide +kernel, by decide⟩
theorem cb_Mod_steps : Cb m_Mod_steps 0 := ⟨(tb7 3 rfl), by decide +kernel, ⟨by decide, by decide⟩, by decide +kernel, by decide⟩
theorem cb_Mod_printed : Cb m_Mod_printed 0 := ⟨(tb7 7 rfl), by decide +kernel, ⟨by decide, by decide⟩, by decide +kernel, by decide⟩
theorem cb_Mod_print : Cb m_Mod_print 1 := ⟨(tb7 11 rfl), by decide +kernel, ⟨by decide, by decide⟩, by decide +kernel, by decide⟩
theorem cb_Mod_word : Cb m_Mod_word 2 := ⟨(tb7 15 rfl), by decide +kernel, ⟨by decide, by decide⟩, by decide +kernel, by decide⟩
theorem cb_Mod_records : Cb m_Mod_records 0 := ⟨(tb7 19 rfl), by decide +kernel, ⟨by decide, by decide⟩, by decide +kernel, by decide⟩
theorem cv_AR_15 : Ci "ArrayRecords" 15 m_Mean_init 0 := ⟨cb_Mean_init, Or.inr (tb1 37 rfl), (tb1 38 rfl), rfl, rfl, rfl⟩
theorem cv_AR_22 : Ci "ArrayRecords" 22 m_Scan_init 0 := ⟨cb_Scan_init, Or.inr (tb1 90 rfl), (tb1 91 rfl), rfl, rfl, rfl⟩
theorem cv_AR_29 : Ci "ArrayRecords" 29 m_Code_init 0 := ⟨cb_Code_init, Or.inr (tb1 149 rfl), (tb1 150 rfl), rfl, rfl, rfl⟩
theorem cv_AR_36 : Ci "ArrayRecords" 36 m_Stat_init 0 := ⟨cb_Stat_init, Or.inr (tb1 199 rfl), (tb1 200 rfl), rfl, rfl, rfl⟩
theorem cv_AR_43 : Ci "ArrayRecords" 43 m_Pars_init 4 := ⟨cb_Pars_init, Or.inl (tb2 39 rfl), (tb2 40 rfl), rfl, rfl, rfl⟩
theorem cv_AR_52 : Ci "ArrayRecords" 52 m_Mach_init 3 := ⟨cb_Mach_init, Or.inl (tb2 73 rfl), (tb2 74 rfl), rfl, rfl, rfl⟩
theorem cv_AR_69 : Cst "ArrayRecords" 69 m_AR_need 1 := ⟨cb_AR_need, Or.inl (tb3 12 rfl), (tb3 13 rfl), (tb1 1 rfl)⟩
theorem cv_AR_76 : Cst "ArrayRecords" 76 m_AR_must 1 := ⟨cb_AR_must, Or.inl (tb3 79 rfl), (tb3 80 rfl), (tb1 1 rfl)⟩
theorem cv_AR_96 : Cv "ArrayRecords" 96 "ArrayRecords$Scanner" m_Scan_begin 0 := ⟨cb_Scan_begin, (tb3 112 rfl), (tb3 113 rfl), (tb3 114 rfl)⟩
theorem cv_AR_99 : Cst "ArrayRecords" 99 m_Pars_all 2 := ⟨cb_Pars_all, Or.inr (tb3 215 rfl), (tb3 216 rfl), (tb1 7 rfl)⟩
theorem cv_AR_131 : Cv "ArrayRecords" 131 "ArrayRecords" m_AR_reads 0 := ⟨cb_AR_reads, (tb3 107 rfl), (tb3 109 rfl), (sl_ (q := m_AR_reads.1) 10 (List.mem_append_left _ (List.mem_of_getElem? (i := 1) rfl)))⟩
theorem cv_AR_162 : Cst "ArrayRecords" 162 m_Mach_all 2 := ⟨cb_Mach_all, Or.inr (tb4 98 rfl), (tb4 99 rfl), (tb1 8 rfl)⟩
theorem cv_AR_179 : Cv "ArrayRecords" 179 "ArrayRecords$Store" m_Stor_read 3 := ⟨cb_Stor_read, (tb5 33 rfl), (tb4 126 rfl), (tb4 127 rfl)⟩
theorem cv_AR_194 : Cv "ArrayRecords" 194 "ArrayRecords$Store" m_Stor_free 0 := ⟨cb_Stor_free, (tb2 232 rfl), (tb2 233 rfl), (tb2 234 rfl)⟩
theorem cv_AR_198 : Cst "ArrayRecords" 198 m_JLong_bitCount 1 := ⟨cb_JLong_bitCount, Or.inl (tb2 237 rfl), (tb2 238 rfl), (tb1 24 rfl)⟩
theorem cv_Mach_11 : Ci "ArrayRecords$Machine" 11 m_Stor_init 0 := ⟨cb_Stor_init, Or.inr (tb2 79 rfl), (tb2 80 rfl), rfl, rfl, rfl⟩
theorem cv_Mach_20 : Ci "ArrayRecords$Machine" 20 m_Stck_init 0 := ⟨cb_Stck_init, Or.inr (tb2 98 rfl), (tb2 99 rfl), rfl, rfl, rfl⟩
theorem cv_Mach_57 : Cv "ArrayRecords$Machine" 57 "ArrayRecords$Store" m_Stor_free 0 := ⟨cb_Stor_free, (tb4 124 rfl), (tb2 233 rfl), (tb2 234 rfl)⟩
theorem cv_Mach_61 : Cv "ArrayRecords$Machine" 61 "ArrayRecords$Machine" m_Mach_isThere 1 := ⟨cb_Mach_isThere, (tb4 120 rfl), (tb4 122 rfl), (sl_ (q := m_Mach_isThere.1) 17 (List.mem_append_right _ (List.mem_append_left _ (List.mem_of_getElem? (i := 7) rfl))))⟩
theorem cv_Mach_73 : Cv "ArrayRecords$Machine" 73 "ArrayRecords$Store" m_Stor_read 3 := ⟨cb_Stor_read, (tb4 125 rfl), (tb4 126 rfl), (tb4 127 rfl)⟩
theorem cv_Mach_92 : Cv "ArrayRecords$Machine" 92 "ArrayRecords$Machine" m_Mach_cursor 1 := ⟨cb_Mach_cursor, (tb4 116 rfl), (tb4 118 rfl), (sl_ (q := m_Mach_cursor.1) 17 (List.mem_append_right _ (List.mem_append_left _ (List.mem_of_getElem? (i := 6) rfl))))⟩
theorem cv_Mach_96 : Cv "ArrayRecords$Machine" 96 "ArrayRecords$Machine" m_Mach_aggregate 1 := ⟨cb_Mach_aggregate, (tb4 129 rfl), (tb4 131 rfl), (sl_ (q := m_Mach_aggregate.1) 17 (List.mem_append_right _ (List.mem_append_left _ (List.mem_of_getElem? (i := 8) rfl))))⟩
theorem cv_Mach_99 : Cv "ArrayRecords$Machine" 99 "ArrayRecords$Machine" m_Mach_operate 1 := ⟨cb_Mach_operate, (tb4 211 rfl), (tb4 213 rfl), (sl_ (q := m_Mach_operate.1) 17 (List.mem_append_right _ (List.mem_append_right _ (List.mem_append_left _ (List.mem_of_getElem? (i := 2) rfl)))))⟩
theorem cv_Mach_103 : Cv "ArrayRecords$Machine" 103 "ArrayRecords$Stack" m_Stck_push 1 := ⟨cb_Stck_push, (tb4 141 rfl), (tb4 142 rfl), (tb4 143 rfl)⟩
theorem cv_Mach_106 : Cv "ArrayRecords$Machine" 106 "ArrayRecords$Stack" m_Stck_load 3 := ⟨cb_Stck_load, (tb4 149 rfl), (tb4 150 rfl), (tb4 151 rfl)⟩
theorem cv_Mach_110 : Cv "ArrayRecords$Machine" 110 "ArrayRecords$Stack" m_Stck_negate0 0 := ⟨cb_Stck_negate0, (tb4 153 rfl), (tb4 154 rfl), (tb4 155 rfl)⟩
theorem cv_Mach_113 : Cv "ArrayRecords$Machine" 113 "ArrayRecords$Stack" m_Stck_not 0 := ⟨cb_Stck_not, (tb4 162 rfl), (tb4 163 rfl), (tb4 164 rfl)⟩
theorem cv_Mach_116 : Cv "ArrayRecords$Machine" 116 "ArrayRecords$Stack" m_Stck_does 1 := ⟨cb_Stck_does, (tb4 174 rfl), (tb4 175 rfl), (tb4 176 rfl)⟩
theorem cv_Mach_119 : Cv "ArrayRecords$Machine" 119 "ArrayRecords$Machine" m_Mach_rows 2 := ⟨cb_Mach_rows, (tb4 137 rfl), (tb4 139 rfl), (sl_ (q := m_Mach_rows.1) 17 (List.mem_append_right _ (List.mem_append_left _ (List.mem_of_getElem? (i := 10) rfl))))⟩
theorem cv_Mach_124 : Cv "ArrayRecords$Machine" 124 "ArrayRecords$Store" m_Stor_all 1 := ⟨cb_Stor_all, (tb4 194 rfl), (tb4 195 rfl), (tb4 196 rfl)⟩
theorem cv_Mach_128 : Cv "ArrayRecords$Machine" 128 "ArrayRecords$Stack" m_Stck_truth 1 := ⟨cb_Stck_truth, (tb4 198 rfl), (tb4 167 rfl), (tb4 168 rfl)⟩
theorem cv_Mach_140 : Cv "ArrayRecords$Machine" 140 "ArrayRecords$Machine" m_Mach_chosen 3 := ⟨cb_Mach_chosen, (tb4 133 rfl), (tb4 135 rfl), (sl_ (q := m_Mach_chosen.1) 17 (List.mem_append_right _ (List.mem_append_left _ (List.mem_of_getElem? (i := 9) rfl))))⟩
theorem cv_Mach_150 : Cst "ArrayRecords$Machine" 150 m_JLong_bitCount 1 := ⟨cb_JLong_bitCount, Or.inl (tb4 199 rfl), (tb2 238 rfl), (tb1 24 rfl)⟩
theorem cv_Mach_156 : Cv "ArrayRecords$Machine" 156 "ArrayRecords$Store" m_Stor_best 4 := ⟨cb_Stor_best, (tb4 200 rfl), (tb4 201 rfl), (tb4 202 rfl)⟩
theorem cv_Mach_160 : Cst "ArrayRecords$Machine" 160 m_JLong_numberOfTrailingZeros 1 := ⟨cb_JLong_numberOfTrailingZeros, Or.inl (tb4 204 rfl), (tb4 205 rfl), (tb1 24 rfl)⟩
theorem cv_Mach_176 : Cv "ArrayRecords$Machine" 176 "ArrayRecords$Machine" m_Mach_spends 0 := ⟨cb_Mach_spends, (tb4 101 rfl), (tb4 103 rfl), (sl_ (q := m_Mach_spends.1) 17 (List.mem_append_right _ (List.mem_append_left _ (List.mem_of_getElem? (i := 3) rfl))))⟩
theorem cv_Mach_180 : Cst "ArrayRecords$Machine" 180 m_Mach_does 2 := ⟨cb_Mach_does, Or.inl (tb4 105 rfl), (tb4 106 rfl), (tb1 8 rfl)⟩
theorem cv_Mach_191 : Cv "ArrayRecords$Machine" 191 "ArrayRecords$Machine" m_Mach_insert 1 := ⟨cb_Mach_insert, (tb4 108 rfl), (tb4 110 rfl), (sl_ (q := m_Mach_insert.1) 17 (List.mem_append_right _ (List.mem_append_left _ (List.mem_of_getElem? (i := 4) rfl))))⟩
theorem cv_Mach_197 : Cv "ArrayRecords$Machine" 197 "ArrayRecords$Store" m_Stor_clear 1 := ⟨cb_Stor_clear, (tb4 223 rfl), (tb4 224 rfl), (tb4 225 rfl)⟩
theorem cv_Mach_201 : Cv "ArrayRecords$Machine" 201 "ArrayRecords$Machine" m_Mach_set 1 := ⟨cb_Mach_set, (tb4 227 rfl), (tb4 229 rfl), (sl_ (q := m_Mach_set.1) 17 (List.mem_append_right _ (List.mem_append_right _ (List.mem_append_left _ (List.mem_of_getElem? (i := 3) rfl)))))⟩
theorem cv_Mach_204 : Cv "ArrayRecords$Machine" 204 "ArrayRecords$Machine" m_Mach_number 2 := ⟨cb_Mach_number, (tb4 112 rfl), (tb4 114 rfl), (sl_ (q := m_Mach_number.1) 17 (List.mem_append_right _ (List.mem_append_left _ (List.mem_of_getElem? (i := 5) rfl))))⟩
theorem cv_Mach_211 : Cst "ArrayRecords$Machine" 211 m_Mach_each 2 := ⟨cb_Mach_each, Or.inl (tb4 232 rfl), (tb4 233 rfl), (tb1 8 rfl)⟩
theorem cv_Mach_220 : Cst "ArrayRecords$Machine" 220 m_Mach_all 2 := ⟨cb_Mach_all, Or.inl (tb4 235 rfl), (tb4 99 rfl), (tb1 8 rfl)⟩
theorem cv_Mach_222 : Cst "ArrayRecords$Machine" 222 m_Mach_repeats 2 := ⟨cb_Mach_repeats, Or.inl (tb4 236 rfl), (tb4 237 rfl), (tb1 8 rfl)⟩
theorem cv_Mach_225 : Cv "ArrayRecords$Machine" 225 "ArrayRecords$Machine" m_Mach_put 1 := ⟨cb_Mach_put, (tb4 239 rfl), (tb5 1 rfl), (sl_ (q := m_Mach_put.1) 17 (List.mem_append_right _ (List.mem_append_right _ (List.mem_append_left _ (List.mem_of_getElem? (i := 4) rfl)))))⟩
theorem cv_Mach_240 : Cv "ArrayRecords$Machine" 240 "ArrayRecords$Store" m_Stor_birth 2 := ⟨cb_Stor_birth, (tb4 215 rfl), (tb4 216 rfl), (tb4 217 rfl)⟩
theorem cv_Mach_244 : Cv "ArrayRecords$Machine" 244 "ArrayRecords$Store" m_Stor_write 4 := ⟨cb_Stor_write, (tb4 219 rfl), (tb4 220 rfl), (tb4 221 rfl)⟩
theorem cv_Pars_37 : Cv "ArrayRecords$Parser" 37 "ArrayRecords$Scanner" m_Scan_fail 0 := ⟨cb_Scan_fail, (tb3 229 rfl), (tb3 140 rfl), (tb3 141 rfl)⟩
theorem cv_Pars_40 : Cv "ArrayRecords$Parser" 40 "ArrayRecords$Scanner" m_Scan_next 0 := ⟨cb_Scan_next, (tb3 234 rfl), (tb3 117 rfl), (tb3 118 rfl)⟩
theorem cv_Pars_46 : Cv "ArrayRecords$Parser" 46 "ArrayRecords$Parser" m_Pars_take 1 := ⟨cb_Pars_take, (tb3 235 rfl), (tb3 237 rfl), (sl_ (q := m_Pars_take.1) 8 (List.mem_append_left _ (List.mem_of_getElem? (i := 8) rfl)))⟩
theorem cv_Pars_53 : Cv "ArrayRecords$Parser" 53 "ArrayRecords$Meaning" m_Mean_kindOf 1 := ⟨cb_Mean_kindOf, (tb3 230 rfl), (tb3 231 rfl), (tb3 232 rfl)⟩
theorem cv_Pars_59 : Cv "ArrayRecords$Parser" 59 "ArrayRecords$Parser" m_Pars_name 0 := ⟨cb_Pars_name, (tb3 225 rfl), (tb3 227 rfl), (sl_ (q := m_Pars_name.1) 8 (List.mem_append_left _ (List.mem_of_getElem? (i := 7) rfl)))⟩
theorem cv_Pars_63 : Cv "ArrayRecords$Parser" 63 "ArrayRecords$Meaning" m_Mean_fieldOf 2 := ⟨cb_Mean_fieldOf, (tb4 3 rfl), (tb4 4 rfl), (tb4 5 rfl)⟩
theorem cv_Pars_70 : Cv "ArrayRecords$Parser" 70 "ArrayRecords$Meaning" m_Mean_variableOf 1 := ⟨cb_Mean_variableOf, (tb4 62 rfl), (tb4 63 rfl), (tb4 64 rfl)⟩
theorem cv_Pars_81 : Cst "ArrayRecords$Parser" 81 m_Pars_both 1 := ⟨cb_Pars_both, Or.inl (tb4 14 rfl), (tb4 15 rfl), (tb1 7 rfl)⟩
theorem cv_Pars_85 : Cv "ArrayRecords$Parser" 85 "ArrayRecords$Code" m_Code_add 2 := ⟨cb_Code_add, (tb4 32 rfl), (tb4 33 rfl), (tb4 34 rfl)⟩
theorem cv_Pars_90 : Cst "ArrayRecords$Parser" 90 m_Pars_negation 1 := ⟨cb_Pars_negation, Or.inl (tb4 17 rfl), (tb4 18 rfl), (tb1 7 rfl)⟩
theorem cv_Pars_93 : Cst "ArrayRecords$Parser" 93 m_Pars_sum 1 := ⟨cb_Pars_sum, Or.inl (tb4 20 rfl), (tb4 21 rfl), (tb1 7 rfl)⟩
theorem cv_Pars_96 : Cst "ArrayRecords$Parser" 96 m_Pars_product 1 := ⟨cb_Pars_product, Or.inl (tb4 23 rfl), (tb4 24 rfl), (tb1 7 rfl)⟩
theorem cv_Pars_99 : Cst "ArrayRecords$Parser" 99 m_Pars_signed 1 := ⟨cb_Pars_signed, Or.inl (tb4 26 rfl), (tb4 27 rfl), (tb1 7 rfl)⟩
theorem cv_Pars_102 : Cst "ArrayRecords$Parser" 102 m_Pars_atom 1 := ⟨cb_Pars_atom, Or.inl (tb4 29 rfl), (tb4 30 rfl), (tb1 7 rfl)⟩
theorem cv_Pars_105 : Cv "ArrayRecords$Parser" 105 "ArrayRecords$Parser" m_Pars_opens 1 := ⟨cb_Pars_opens, (tb4 36 rfl), (tb4 38 rfl), (sl_ (q := m_Pars_opens.1) 8 (List.mem_append_left _ (List.mem_of_getElem? (i := 11) rfl)))⟩
theorem cv_Pars_108 : Cst "ArrayRecords$Parser" 108 m_Pars_either 1 := ⟨cb_Pars_either, Or.inl (tb4 11 rfl), (tb4 12 rfl), (tb1 7 rfl)⟩
theorem cv_Pars_111 : Cv "ArrayRecords$Parser" 111 "ArrayRecords$Parser" m_Pars_shuts 1 := ⟨cb_Pars_shuts, (tb4 40 rfl), (tb4 42 rfl), (sl_ (q := m_Pars_shuts.1) 8 (List.mem_append_left _ (List.mem_of_getElem? (i := 12) rfl)))⟩
theorem cv_Pars_117 : Cst "ArrayRecords$Parser" 117 m_Pars_aggregate 1 := ⟨cb_Pars_aggregate, Or.inl (tb4 44 rfl), (tb4 45 rfl), (tb1 7 rfl)⟩
theorem cv_Pars_120 : Cv "ArrayRecords$Parser" 120 "ArrayRecords$Parser" m_Pars_named 1 := ⟨cb_Pars_named, (tb4 54 rfl), (tb4 56 rfl), (sl_ (q := m_Pars_named.1) 8 (List.mem_append_left _ (List.mem_of_getElem? (i := 14) rfl)))⟩
theorem cv_Pars_123 : Cv "ArrayRecords$Parser" 123 "ArrayRecords$Parser" m_Pars_cursor 0 := ⟨cb_Pars_cursor, (tb3 221 rfl), (tb3 223 rfl), (sl_ (q := m_Pars_cursor.1) 8 (List.mem_append_left _ (List.mem_of_getElem? (i := 6) rfl)))⟩
theorem cv_Pars_126 : Cv "ArrayRecords$Parser" 126 "ArrayRecords$Parser" m_Pars_field 1 := ⟨cb_Pars_field, (tb3 239 rfl), (tb4 1 rfl), (sl_ (q := m_Pars_field.1) 8 (List.mem_append_left _ (List.mem_of_getElem? (i := 9) rfl)))⟩
theorem cv_Pars_129 : Cv "ArrayRecords$Parser" 129 "ArrayRecords$Parser" m_Pars_variable 0 := ⟨cb_Pars_variable, (tb4 58 rfl), (tb4 60 rfl), (sl_ (q := m_Pars_variable.1) 8 (List.mem_append_left _ (List.mem_of_getElem? (i := 15) rfl)))⟩
theorem cv_Pars_131 : Cv "ArrayRecords$Parser" 131 "ArrayRecords$Parser" m_Pars_kind 0 := ⟨cb_Pars_kind, (tb4 47 rfl), (tb4 49 rfl), (sl_ (q := m_Pars_kind.1) 8 (List.mem_append_left _ (List.mem_of_getElem? (i := 13) rfl)))⟩
theorem cv_Pars_133 : Cst "ArrayRecords$Parser" 133 m_Pars_condition 2 := ⟨cb_Pars_condition, Or.inl (tb4 51 rfl), (tb4 52 rfl), (tb1 7 rfl)⟩
theorem cv_Pars_163 : Cst "ArrayRecords$Parser" 163 m_Pars_statement 1 := ⟨cb_Pars_statement, Or.inl (tb3 218 rfl), (tb3 219 rfl), (tb1 7 rfl)⟩
theorem cv_Pars_169 : Cst "ArrayRecords$Parser" 169 m_Pars_all 2 := ⟨cb_Pars_all, Or.inl (tb4 90 rfl), (tb3 216 rfl), (tb1 7 rfl)⟩
theorem cv_Pars_193 : Cv "ArrayRecords$Parser" 193 "ArrayRecords$Parser" m_Pars_puts 2 := ⟨cb_Pars_puts, (tb4 7 rfl), (tb4 9 rfl), (sl_ (q := m_Pars_puts.1) 8 (List.mem_append_left _ (List.mem_of_getElem? (i := 10) rfl)))⟩
theorem cv_Pars_196 : Cv "ArrayRecords$Parser" 196 "ArrayRecords$Parser" m_Pars_declare 0 := ⟨cb_Pars_declare, (tb4 66 rfl), (tb4 68 rfl), (sl_ (q := m_Pars_declare.1) 8 (List.mem_append_right _ (List.mem_append_left _ (List.mem_of_getElem? (i := 0) rfl))))⟩
theorem cv_Pars_199 : Cv "ArrayRecords$Parser" 199 "ArrayRecords$Parser" m_Pars_insert 1 := ⟨cb_Pars_insert, (tb4 70 rfl), (tb4 72 rfl), (sl_ (q := m_Pars_insert.1) 8 (List.mem_append_right _ (List.mem_append_left _ (List.mem_of_getElem? (i := 1) rfl))))⟩
theorem cv_Pars_202 : Cst "ArrayRecords$Parser" 202 m_Pars_changes 2 := ⟨cb_Pars_changes, Or.inl (tb4 78 rfl), (tb4 79 rfl), (tb1 7 rfl)⟩
theorem cv_Pars_205 : Cst "ArrayRecords$Parser" 205 m_Pars_expression 2 := ⟨cb_Pars_expression, Or.inl (tb4 81 rfl), (tb4 82 rfl), (tb1 7 rfl)⟩
theorem cv_Pars_208 : Cst "ArrayRecords$Parser" 208 m_Pars_each 2 := ⟨cb_Pars_each, Or.inl (tb4 84 rfl), (tb4 85 rfl), (tb1 7 rfl)⟩
theorem cv_Pars_211 : Cst "ArrayRecords$Parser" 211 m_Pars_block 1 := ⟨cb_Pars_block, Or.inl (tb4 87 rfl), (tb4 88 rfl), (tb1 7 rfl)⟩
theorem cv_Pars_237 : Cv "ArrayRecords$Parser" 237 "ArrayRecords$Parser" m_Pars_row 2 := ⟨cb_Pars_row, (tb4 74 rfl), (tb4 76 rfl), (sl_ (q := m_Pars_row.1) 8 (List.mem_append_right _ (List.mem_append_left _ (List.mem_of_getElem? (i := 2) rfl))))⟩
theorem cv_Scan_17 : Ci "ArrayRecords$Scanner" 17 m_Name_init 0 := ⟨cb_Name_init, Or.inr (tb1 96 rfl), (tb1 97 rfl), rfl, rfl, rfl⟩
theorem cv_Scan_36 : Cv "ArrayRecords$Scanner" 36 "ArrayRecords$Scanner" m_Scan_next 0 := ⟨cb_Scan_next, (tb3 116 rfl), (tb3 117 rfl), (tb3 118 rfl)⟩
theorem cv_Scan_48 : Cv "ArrayRecords$Scanner" 48 "ArrayRecords$Scanner" m_Scan_see 1 := ⟨cb_Scan_see, (tb3 120 rfl), (tb3 122 rfl), (sl_ (q := m_Scan_see.1) 10 (List.mem_append_left _ (List.mem_of_getElem? (i := 2) rfl)))⟩
theorem cv_Scan_52 : Cv "ArrayRecords$Scanner" 52 "ArrayRecords$Scanner" m_Scan_fail 0 := ⟨cb_Scan_fail, (tb3 139 rfl), (tb3 140 rfl), (tb3 141 rfl)⟩
theorem cv_Scan_55 : Cv "ArrayRecords$Scanner" 55 "ArrayRecords$Scanner" m_Scan_letters 0 := ⟨cb_Scan_letters, (tb3 143 rfl), (tb3 145 rfl), (sl_ (q := m_Scan_letters.1) 10 (List.mem_append_left _ (List.mem_of_getElem? (i := 3) rfl)))⟩
theorem cv_Scan_58 : Cv "ArrayRecords$Scanner" 58 "ArrayRecords$Scanner" m_Scan_digits 0 := ⟨cb_Scan_digits, (tb3 200 rfl), (tb3 202 rfl), (sl_ (q := m_Scan_digits.1) 10 (List.mem_append_left _ (List.mem_of_getElem? (i := 4) rfl)))⟩
theorem cv_Scan_61 : Cv "ArrayRecords$Scanner" 61 "ArrayRecords$Scanner" m_Scan_sign 1 := ⟨cb_Scan_sign, (tb3 211 rfl), (tb3 213 rfl), (sl_ (q := m_Scan_sign.1) 10 (List.mem_append_left _ (List.mem_of_getElem? (i := 5) rfl)))⟩
theorem cv_Scan_70 : Cv "ArrayRecords$Scanner" 70 "java/lang/String" m_JStr_length 0 := ⟨cb_JStr_length, (tb3 148 rfl), (tb3 149 rfl), (tb3 150 rfl)⟩
theorem cv_Scan_76 : Cv "ArrayRecords$Scanner" 76 "java/lang/String" m_JStr_charAt 1 := ⟨cb_JStr_charAt, (tb3 158 rfl), (tb3 159 rfl), (tb3 160 rfl)⟩
theorem cv_Scan_80 : Cv "ArrayRecords$Scanner" 80 "ArrayRecords$Names" m_Name_of 1 := ⟨cb_Name_of, (tb3 196 rfl), (tb3 197 rfl), (tb3 198 rfl)⟩
theorem cv_Stck_25 : Cv "ArrayRecords$Stack" 25 "ArrayRecords$Stack" m_Stck_at 1 := ⟨cb_Stck_at, (tb4 145 rfl), (tb4 147 rfl), (sl_ (q := m_Stck_at.1) 6 (List.mem_append_right _ (List.mem_append_left _ (List.mem_of_getElem? (i := 11) rfl))))⟩
theorem cv_Stck_34 : Cv "ArrayRecords$Stack" 34 "ArrayRecords$Stack" m_Stck_truth 1 := ⟨cb_Stck_truth, (tb4 166 rfl), (tb4 167 rfl), (tb4 168 rfl)⟩
theorem cv_Stck_40 : Cv "ArrayRecords$Stack" 40 "ArrayRecords$Stack" m_Stck_put 2 := ⟨cb_Stck_put, (tb4 170 rfl), (tb4 172 rfl), (sl_ (q := m_Stck_put.1) 6 (List.mem_append_right _ (List.mem_append_left _ (List.mem_of_getElem? (i := 13) rfl))))⟩
theorem cv_Stck_44 : Cv "ArrayRecords$Stack" 44 "ArrayRecords$Stack" m_Stck_negate1 2 := ⟨cb_Stck_negate1, (tb4 158 rfl), (tb4 160 rfl), (sl_ (q := m_Stck_negate1.1) 6 (List.mem_append_right _ (List.mem_append_left _ (List.mem_of_getElem? (i := 12) rfl))))⟩
theorem cv_Stck_54 : Cv "ArrayRecords$Stack" 54 "ArrayRecords$Stack" m_Stck_compare 0 := ⟨cb_Stck_compare, (tb4 178 rfl), (tb4 180 rfl), (sl_ (q := m_Stck_compare.1) 6 (List.mem_append_right _ (List.mem_append_left _ (List.mem_of_getElem? (i := 14) rfl))))⟩
theorem cv_Stck_57 : Cv "ArrayRecords$Stack" 57 "ArrayRecords$Stack" m_Stck_add 1 := ⟨cb_Stck_add, (tb4 182 rfl), (tb4 184 rfl), (sl_ (q := m_Stck_add.1) 6 (List.mem_append_right _ (List.mem_append_left _ (List.mem_of_getElem? (i := 15) rfl))))⟩
theorem cv_Stck_61 : Cv "ArrayRecords$Stack" 61 "ArrayRecords$Stack" m_Stck_multiply 0 := ⟨cb_Stck_multiply, (tb4 186 rfl), (tb4 188 rfl), (sl_ (q := m_Stck_multiply.1) 6 (List.mem_append_right _ (List.mem_append_right _ (List.mem_append_left _ (List.mem_of_getElem? (i := 0) rfl)))))⟩
theorem cv_Stck_64 : Cv "ArrayRecords$Stack" 64 "ArrayRecords$Stack" m_Stck_divide 1 := ⟨cb_Stck_divide, (tb4 190 rfl), (tb4 192 rfl), (sl_ (q := m_Stck_divide.1) 6 (List.mem_append_right _ (List.mem_append_right _ (List.mem_append_left _ (List.mem_of_getElem? (i := 1) rfl)))))⟩
theorem cv_Law_7 : Cv "ArrayRecordsLaw" 7 "ArrayRecords" m_AR_feed 2 := ⟨cb_AR_feed, (tb3 8 rfl), (tb3 9 rfl), (tb3 10 rfl)⟩
theorem cv_Law_17 : Cv "ArrayRecordsLaw" 17 "ArrayRecords" m_AR_load 0 := ⟨cb_AR_load, (tb3 100 rfl), (tb3 101 rfl), (tb3 102 rfl)⟩
theorem cv_Law_21 : Cv "ArrayRecordsLaw" 21 "ArrayRecords" m_AR_run 1 := ⟨cb_AR_run, (tb4 94 rfl), (tb4 95 rfl), (tb4 96 rfl)⟩
theorem cv_Law_25 : Cv "ArrayRecordsLaw" 25 "ArrayRecords" m_AR_print 1 := ⟨cb_AR_print, (tb5 7 rfl), (tb5 8 rfl), (tb5 9 rfl)⟩
theorem cv_Law_30 : Cv "ArrayRecordsLaw" 30 "ArrayRecords" m_AR_word 2 := ⟨cb_AR_word, (tb5 29 rfl), (tb5 30 rfl), (tb5 31 rfl)⟩
theorem cv_Law_34 : Ci "ArrayRecordsLaw" 34 m_AR_init 0 := ⟨cb_AR_init, Or.inl (tb1 29 rfl), (tb1 30 rfl), rfl, rfl, rfl⟩
theorem cv_Law_37 : Ci "ArrayRecordsLaw" 37 m_Mod_init 0 := ⟨cb_Mod_init, Or.inl (tb5 36 rfl), (tb5 37 rfl), rfl, rfl, rfl⟩
theorem cv_Law_40 : Cst "ArrayRecordsLaw" 40 m_Law_feed 4 := ⟨cb_Law_feed, Or.inl (tb3 3 rfl), (tb3 4 rfl), (tb1 0 rfl)⟩
theorem cv_Law_45 : Cv "ArrayRecordsLaw" 45 "ArrayRecordsModel" m_Mod_feed 2 := ⟨cb_Mod_feed, (tb5 220 rfl), (tb5 221 rfl), (tb5 222 rfl)⟩
theorem cv_Law_46 : Cv "ArrayRecordsLaw" 46 "ArrayRecordsModel" m_Mod_thrown 0 := ⟨cb_Mod_thrown, (tb5 216 rfl), (tb5 217 rfl), (tb5 218 rfl)⟩
theorem cv_Law_49 : Cst "ArrayRecordsLaw" 49 m_Law_load 2 := ⟨cb_Law_load, Or.inl (tb3 97 rfl), (tb3 98 rfl), (tb1 0 rfl)⟩
theorem cv_Law_52 : Cv "ArrayRecordsLaw" 52 "ArrayRecordsModel" m_Mod_load 0 := ⟨cb_Mod_load, (tb5 224 rfl), (tb5 225 rfl), (tb5 226 rfl)⟩
theorem cv_Law_53 : Cv "ArrayRecordsLaw" 53 "ArrayRecords" m_AR_place 0 := ⟨cb_AR_place, (tb2 216 rfl), (tb2 217 rfl), (tb2 218 rfl)⟩
theorem cv_Law_56 : Cv "ArrayRecordsLaw" 56 "ArrayRecordsModel" m_Mod_place 0 := ⟨cb_Mod_place, (tb6 169 rfl), (tb6 170 rfl), (tb6 171 rfl)⟩
theorem cv_Law_57 : Cst "ArrayRecordsLaw" 57 m_Law_run 3 := ⟨cb_Law_run, Or.inl (tb4 91 rfl), (tb4 92 rfl), (tb1 0 rfl)⟩
theorem cv_Law_60 : Cv "ArrayRecordsLaw" 60 "ArrayRecordsModel" m_Mod_run 1 := ⟨cb_Mod_run, (tb6 173 rfl), (tb6 174 rfl), (tb6 175 rfl)⟩
theorem cv_Law_61 : Cv "ArrayRecordsLaw" 61 "ArrayRecords" m_AR_steps 0 := ⟨cb_AR_steps, (tb2 220 rfl), (tb2 221 rfl), (tb2 222 rfl)⟩
theorem cv_Law_64 : Cv "ArrayRecordsLaw" 64 "ArrayRecordsModel" m_Mod_steps 0 := ⟨cb_Mod_steps, (tb7 0 rfl), (tb7 1 rfl), (tb7 2 rfl)⟩
theorem cv_Law_65 : Cv "ArrayRecordsLaw" 65 "ArrayRecords" m_AR_printed 0 := ⟨cb_AR_printed, (tb2 224 rfl), (tb2 225 rfl), (tb2 226 rfl)⟩
theorem cv_Law_68 : Cv "ArrayRecordsLaw" 68 "ArrayRecordsModel" m_Mod_printed 0 := ⟨cb_Mod_printed, (tb7 4 rfl), (tb7 5 rfl), (tb7 6 rfl)⟩
theorem cv_Law_69 : Cst "ArrayRecordsLaw" 69 m_Law_print 3 := ⟨cb_Law_print, Or.inl (tb5 3 rfl), (tb5 4 rfl), (tb1 0 rfl)⟩
theorem cv_Law_71 : Cv "ArrayRecordsLaw" 71 "ArrayRecordsModel" m_Mod_print 1 := ⟨cb_Mod_print, (tb7 8 rfl), (tb7 9 rfl), (tb7 10 rfl)⟩
theorem cv_Law_72 : Cst "ArrayRecordsLaw" 72 m_Law_word 4 := ⟨cb_Law_word, Or.inl (tb5 26 rfl), (tb5 27 rfl), (tb1 0 rfl)⟩
theorem cv_Law_75 : Cv "ArrayRecordsLaw" 75 "ArrayRecordsModel" m_Mod_word 2 := ⟨cb_Mod_word, (tb7 12 rfl), (tb7 13 rfl), (tb7 14 rfl)⟩
theorem cv_Law_76 : Cv "ArrayRecordsLaw" 76 "ArrayRecords" m_AR_records 0 := ⟨cb_AR_records, (tb2 228 rfl), (tb2 229 rfl), (tb2 230 rfl)⟩
theorem cv_Law_79 : Cv "ArrayRecordsLaw" 79 "ArrayRecordsModel" m_Mod_records 0 := ⟨cb_Mod_records, (tb7 16 rfl), (tb7 17 rfl), (tb7 18 rfl)⟩
theorem cv_Mod_160 : Cv "ArrayRecordsModel" 160 "ArrayRecordsModel" m_Mod_wordIs 2 := ⟨cb_Mod_wordIs, (tb5 41 rfl), (tb5 43 rfl), (sl_ (q := m_Mod_wordIs.1) 48 (List.mem_append_right _ (List.mem_append_right _ (List.mem_append_left _ (List.mem_of_getElem? (i := 5) rfl)))))⟩
theorem cv_Mod_208 : Cst "ArrayRecordsModel" 208 m_Mod_nameOf 1 := ⟨cb_Mod_nameOf, Or.inl (tb5 45 rfl), (tb5 46 rfl), (tb1 11 rfl)⟩
theorem cv_Mod_212 : Cv "ArrayRecordsModel" 212 "ArrayRecordsModel" m_Mod_byteAt 1 := ⟨cb_Mod_byteAt, (tb5 232 rfl), (tb5 234 rfl), (sl_ (q := m_Mod_byteAt.1) 48 (List.mem_append_right _ (List.mem_append_right _ (List.mem_append_left _ (List.mem_of_getElem? (i := 7) rfl)))))⟩
theorem cv_Mod_216 : Cst "ArrayRecordsModel" 216 m_Mod_letter 1 := ⟨cb_Mod_letter, Or.inl (tb6 0 rfl), (tb6 1 rfl), (tb1 11 rfl)⟩
theorem cv_Mod_220 : Cst "ArrayRecordsModel" 220 m_Mod_digit 1 := ⟨cb_Mod_digit, Or.inl (tb6 3 rfl), (tb6 4 rfl), (tb1 11 rfl)⟩
theorem cv_Mod_229 : Cv "ArrayRecordsModel" 229 "ArrayRecordsModel" m_Mod_token 1 := ⟨cb_Mod_token, (tb5 236 rfl), (tb5 238 rfl), (sl_ (q := m_Mod_token.1) 48 (List.mem_append_right _ (List.mem_append_right _ (List.mem_append_left _ (List.mem_of_getElem? (i := 8) rfl)))))⟩
theorem cv_Mod_232 : Cv "ArrayRecordsModel" 232 "ArrayRecordsModel" m_Mod_isSign 1 := ⟨cb_Mod_isSign, (tb6 17 rfl), (tb6 19 rfl), (sl_ (q := m_Mod_isSign.1) 48 (List.mem_append_right _ (List.mem_append_right _ (List.mem_append_left _ (List.mem_of_getElem? (i := 11) rfl)))))⟩
theorem cv_Mod_235 : Cv "ArrayRecordsModel" 235 "ArrayRecordsModel" m_Mod_wrong 0 := ⟨cb_Mod_wrong, (tb6 25 rfl), (tb6 27 rfl), (sl_ (q := m_Mod_wrong.1) 48 (List.mem_append_right _ (List.mem_append_right _ (List.mem_append_left _ (List.mem_of_getElem? (i := 13) rfl)))))⟩
theorem cv_Mod_239 : Cv "ArrayRecordsModel" 239 "ArrayRecordsModel" m_Mod_isWord 1 := ⟨cb_Mod_isWord, (tb6 33 rfl), (tb6 35 rfl), (sl_ (q := m_Mod_isWord.1) 48 (List.mem_append_right _ (List.mem_append_right _ (List.mem_append_left _ (List.mem_of_getElem? (i := 15) rfl)))))⟩
theorem cv_Mod_242 : Cv "ArrayRecordsModel" 242 "ArrayRecordsModel" m_Mod_kindOf 1 := ⟨cb_Mod_kindOf, (tb6 53 rfl), (tb6 55 rfl), (sl_ (q := m_Mod_kindOf.1) 48 (List.mem_append_right _ (List.mem_append_right _ (List.mem_append_right _ (List.mem_append_left _ (List.mem_of_getElem? (i := 4) rfl))))))⟩
theorem cv_Mod_246 : Cv "ArrayRecordsModel" 246 "ArrayRecordsModel" m_Mod_fieldOf 2 := ⟨cb_Mod_fieldOf, (tb6 69 rfl), (tb6 71 rfl), (sl_ (q := m_Mod_fieldOf.1) 48 (List.mem_append_right _ (List.mem_append_right _ (List.mem_append_right _ (List.mem_append_left _ (List.mem_of_getElem? (i := 8) rfl))))))⟩
theorem cv_Mod_250 : Cv "ArrayRecordsModel" 250 "ArrayRecordsModel" m_Mod_varOf 1 := ⟨cb_Mod_varOf, (tb6 109 rfl), (tb6 111 rfl), (sl_ (q := m_Mod_varOf.1) 48 (List.mem_append_right _ (List.mem_append_right _ (List.mem_append_right _ (List.mem_append_right _ (List.mem_append_left _ (List.mem_of_getElem? (i := 1) rfl)))))))⟩
theorem cv_Mod_257 : Cv "ArrayRecordsModel" 257 "ArrayRecordsModel" m_Mod_operand 2 := ⟨cb_Mod_operand, (tb6 85 rfl), (tb6 87 rfl), (sl_ (q := m_Mod_operand.1) 48 (List.mem_append_right _ (List.mem_append_right _ (List.mem_append_right _ (List.mem_append_left _ (List.mem_of_getElem? (i := 12) rfl))))))⟩
theorem cv_Mod_261 : Cv "ArrayRecordsModel" 261 "ArrayRecordsModel" m_Mod_operation 0 := ⟨cb_Mod_operation, (tb6 113 rfl), (tb6 115 rfl), (sl_ (q := m_Mod_operation.1) 48 (List.mem_append_right _ (List.mem_append_right _ (List.mem_append_right _ (List.mem_append_right _ (List.mem_append_left _ (List.mem_of_getElem? (i := 2) rfl)))))))⟩
theorem cv_Mod_265 : Cv "ArrayRecordsModel" 265 "ArrayRecordsModel" m_Mod_binary 2 := ⟨cb_Mod_binary, (tb6 119 rfl), (tb6 121 rfl), (sl_ (q := m_Mod_binary.1) 48 (List.mem_append_right _ (List.mem_append_right _ (List.mem_append_right _ (List.mem_append_right _ (List.mem_append_left _ (List.mem_of_getElem? (i := 3) rfl)))))))⟩
theorem cv_Mod_268 : Cv "ArrayRecordsModel" 268 "ArrayRecordsModel" m_Mod_closes 1 := ⟨cb_Mod_closes, (tb6 127 rfl), (tb6 129 rfl), (sl_ (q := m_Mod_closes.1) 48 (List.mem_append_right _ (List.mem_append_right _ (List.mem_append_right _ (List.mem_append_right _ (List.mem_append_left _ (List.mem_of_getElem? (i := 5) rfl)))))))⟩
theorem cv_Mod_271 : Cv "ArrayRecordsModel" 271 "ArrayRecordsModel" m_Mod_unwind 2 := ⟨cb_Mod_unwind, (tb6 123 rfl), (tb6 125 rfl), (sl_ (q := m_Mod_unwind.1) 48 (List.mem_append_right _ (List.mem_append_right _ (List.mem_append_right _ (List.mem_append_right _ (List.mem_append_left _ (List.mem_of_getElem? (i := 4) rfl)))))))⟩
theorem cv_Mod_275 : Cst "ArrayRecordsModel" 275 m_Mod_strength 1 := ⟨cb_Mod_strength, Or.inl (tb6 93 rfl), (tb6 94 rfl), (tb1 11 rfl)⟩
theorem cv_Mod_278 : Cv "ArrayRecordsModel" 278 "ArrayRecordsModel" m_Mod_emit 1 := ⟨cb_Mod_emit, (tb6 29 rfl), (tb6 31 rfl), (sl_ (q := m_Mod_emit.1) 48 (List.mem_append_right _ (List.mem_append_right _ (List.mem_append_left _ (List.mem_of_getElem? (i := 14) rfl)))))⟩
theorem cv_Mod_282 : Cv "ArrayRecordsModel" 282 "ArrayRecordsModel" m_Mod_push 1 := ⟨cb_Mod_push, (tb6 89 rfl), (tb6 91 rfl), (sl_ (q := m_Mod_push.1) 48 (List.mem_append_right _ (List.mem_append_right _ (List.mem_append_right _ (List.mem_append_left _ (List.mem_of_getElem? (i := 13) rfl))))))⟩
theorem cv_Mod_285 : Cv "ArrayRecordsModel" 285 "ArrayRecordsModel" m_Mod_bracket 0 := ⟨cb_Mod_bracket, (tb6 45 rfl), (tb6 47 rfl), (sl_ (q := m_Mod_bracket.1) 48 (List.mem_append_right _ (List.mem_append_right _ (List.mem_append_right _ (List.mem_append_left _ (List.mem_of_getElem? (i := 2) rfl))))))⟩
theorem cv_Mod_290 : Cv "ArrayRecordsModel" 290 "ArrayRecordsModel" m_Mod_aggregate 0 := ⟨cb_Mod_aggregate, (tb6 97 rfl), (tb6 99 rfl), (sl_ (q := m_Mod_aggregate.1) 48 (List.mem_append_right _ (List.mem_append_right _ (List.mem_append_right _ (List.mem_append_left _ (List.mem_of_getElem? (i := 14) rfl))))))⟩
theorem cv_Mod_293 : Cv "ArrayRecordsModel" 293 "ArrayRecordsModel" m_Mod_takeVariable 0 := ⟨cb_Mod_takeVariable, (tb6 105 rfl), (tb6 107 rfl), (sl_ (q := m_Mod_takeVariable.1) 48 (List.mem_append_right _ (List.mem_append_right _ (List.mem_append_right _ (List.mem_append_right _ (List.mem_append_left _ (List.mem_of_getElem? (i := 0) rfl)))))))⟩
theorem cv_Mod_296 : Cv "ArrayRecordsModel" 296 "ArrayRecordsModel" m_Mod_levelOf 1 := ⟨cb_Mod_levelOf, (tb6 57 rfl), (tb6 59 rfl), (sl_ (q := m_Mod_levelOf.1) 48 (List.mem_append_right _ (List.mem_append_right _ (List.mem_append_right _ (List.mem_append_left _ (List.mem_of_getElem? (i := 5) rfl))))))⟩
theorem cv_Mod_299 : Cv "ArrayRecordsModel" 299 "ArrayRecordsModel" m_Mod_sign 1 := ⟨cb_Mod_sign, (tb6 61 rfl), (tb6 63 rfl), (sl_ (q := m_Mod_sign.1) 48 (List.mem_append_right _ (List.mem_append_right _ (List.mem_append_right _ (List.mem_append_left _ (List.mem_of_getElem? (i := 6) rfl))))))⟩
theorem cv_Mod_302 : Cv "ArrayRecordsModel" 302 "ArrayRecordsModel" m_Mod_takeField 1 := ⟨cb_Mod_takeField, (tb6 65 rfl), (tb6 67 rfl), (sl_ (q := m_Mod_takeField.1) 48 (List.mem_append_right _ (List.mem_append_right _ (List.mem_append_right _ (List.mem_append_left _ (List.mem_of_getElem? (i := 7) rfl))))))⟩
theorem cv_Mod_305 : Cv "ArrayRecordsModel" 305 "ArrayRecordsModel" m_Mod_takeKind 0 := ⟨cb_Mod_takeKind, (tb6 101 rfl), (tb6 103 rfl), (sl_ (q := m_Mod_takeKind.1) 48 (List.mem_append_right _ (List.mem_append_right _ (List.mem_append_right _ (List.mem_append_left _ (List.mem_of_getElem? (i := 15) rfl))))))⟩
theorem cv_Mod_308 : Cv "ArrayRecordsModel" 308 "ArrayRecordsModel" m_Mod_expression 1 := ⟨cb_Mod_expression, (tb6 81 rfl), (tb6 83 rfl), (sl_ (q := m_Mod_expression.1) 48 (List.mem_append_right _ (List.mem_append_right _ (List.mem_append_right _ (List.mem_append_left _ (List.mem_of_getElem? (i := 11) rfl))))))⟩
theorem cv_Mod_311 : Cv "ArrayRecordsModel" 311 "ArrayRecordsModel" m_Mod_measured 1 := ⟨cb_Mod_measured, (tb6 77 rfl), (tb6 79 rfl), (sl_ (q := m_Mod_measured.1) 48 (List.mem_append_right _ (List.mem_append_right _ (List.mem_append_right _ (List.mem_append_left _ (List.mem_of_getElem? (i := 10) rfl))))))⟩
theorem cv_Mod_318 : Cv "ArrayRecordsModel" 318 "ArrayRecordsModel" m_Mod_inline 0 := ⟨cb_Mod_inline, (tb6 73 rfl), (tb6 75 rfl), (sl_ (q := m_Mod_inline.1) 48 (List.mem_append_right _ (List.mem_append_right _ (List.mem_append_right _ (List.mem_append_left _ (List.mem_of_getElem? (i := 9) rfl))))))⟩
theorem cv_Mod_321 : Cv "ArrayRecordsModel" 321 "ArrayRecordsModel" m_Mod_keyword 1 := ⟨cb_Mod_keyword, (tb6 157 rfl), (tb6 159 rfl), (sl_ (q := m_Mod_keyword.1) 48 (List.mem_append_right _ (List.mem_append_right _ (List.mem_append_right _ (List.mem_append_right _ (List.mem_append_left _ (List.mem_of_getElem? (i := 12) rfl)))))))⟩
theorem cv_Mod_324 : Cv "ArrayRecordsModel" 324 "ArrayRecordsModel" m_Mod_levels 0 := ⟨cb_Mod_levels, (tb6 161 rfl), (tb6 163 rfl), (sl_ (q := m_Mod_levels.1) 48 (List.mem_append_right _ (List.mem_append_right _ (List.mem_append_right _ (List.mem_append_right _ (List.mem_append_left _ (List.mem_of_getElem? (i := 13) rfl)))))))⟩
theorem cv_Mod_327 : Cv "ArrayRecordsModel" 327 "ArrayRecordsModel" m_Mod_whereOf 1 := ⟨cb_Mod_whereOf, (tb6 145 rfl), (tb6 147 rfl), (sl_ (q := m_Mod_whereOf.1) 48 (List.mem_append_right _ (List.mem_append_right _ (List.mem_append_right _ (List.mem_append_right _ (List.mem_append_left _ (List.mem_of_getElem? (i := 9) rfl)))))))⟩
theorem cv_Mod_330 : Cv "ArrayRecordsModel" 330 "ArrayRecordsModel" m_Mod_block 4 := ⟨cb_Mod_block, (tb6 37 rfl), (tb6 39 rfl), (sl_ (q := m_Mod_block.1) 48 (List.mem_append_right _ (List.mem_append_right _ (List.mem_append_right _ (List.mem_append_left _ (List.mem_of_getElem? (i := 0) rfl))))))⟩
theorem cv_Mod_334 : Cv "ArrayRecordsModel" 334 "ArrayRecordsModel" m_Mod_opens 0 := ⟨cb_Mod_opens, (tb6 41 rfl), (tb6 43 rfl), (sl_ (q := m_Mod_opens.1) 48 (List.mem_append_right _ (List.mem_append_right _ (List.mem_append_right _ (List.mem_append_left _ (List.mem_of_getElem? (i := 1) rfl))))))⟩
theorem cv_Mod_337 : Cv "ArrayRecordsModel" 337 "ArrayRecordsModel" m_Mod_puts 2 := ⟨cb_Mod_puts, (tb6 141 rfl), (tb6 143 rfl), (sl_ (q := m_Mod_puts.1) 48 (List.mem_append_right _ (List.mem_append_right _ (List.mem_append_right _ (List.mem_append_right _ (List.mem_append_left _ (List.mem_of_getElem? (i := 8) rfl)))))))⟩
theorem cv_Mod_341 : Cv "ArrayRecordsModel" 341 "ArrayRecordsModel" m_Mod_ends 0 := ⟨cb_Mod_ends, (tb6 21 rfl), (tb6 23 rfl), (sl_ (q := m_Mod_ends.1) 48 (List.mem_append_right _ (List.mem_append_right _ (List.mem_append_left _ (List.mem_of_getElem? (i := 12) rfl)))))⟩
theorem cv_Mod_344 : Cv "ArrayRecordsModel" 344 "ArrayRecordsModel" m_Mod_cursor 1 := ⟨cb_Mod_cursor, (tb6 49 rfl), (tb6 51 rfl), (sl_ (q := m_Mod_cursor.1) 48 (List.mem_append_right _ (List.mem_append_right _ (List.mem_append_right _ (List.mem_append_left _ (List.mem_of_getElem? (i := 3) rfl))))))⟩
theorem cv_Mod_348 : Cv "ArrayRecordsModel" 348 "ArrayRecordsModel" m_Mod_newKind 0 := ⟨cb_Mod_newKind, (tb6 131 rfl), (tb6 133 rfl), (sl_ (q := m_Mod_newKind.1) 48 (List.mem_append_right _ (List.mem_append_right _ (List.mem_append_right _ (List.mem_append_right _ (List.mem_append_left _ (List.mem_of_getElem? (i := 6) rfl)))))))⟩
theorem cv_Mod_351 : Cv "ArrayRecordsModel" 351 "ArrayRecordsModel" m_Mod_onKind 1 := ⟨cb_Mod_onKind, (tb6 137 rfl), (tb6 139 rfl), (sl_ (q := m_Mod_onKind.1) 48 (List.mem_append_right _ (List.mem_append_right _ (List.mem_append_right _ (List.mem_append_right _ (List.mem_append_left _ (List.mem_of_getElem? (i := 7) rfl)))))))⟩
theorem cv_Mod_354 : Cv "ArrayRecordsModel" 354 "ArrayRecordsModel" m_Mod_letOrPrint 1 := ⟨cb_Mod_letOrPrint, (tb6 149 rfl), (tb6 151 rfl), (sl_ (q := m_Mod_letOrPrint.1) 48 (List.mem_append_right _ (List.mem_append_right _ (List.mem_append_right _ (List.mem_append_right _ (List.mem_append_left _ (List.mem_of_getElem? (i := 10) rfl)))))))⟩
theorem cv_Mod_357 : Cv "ArrayRecordsModel" 357 "ArrayRecordsModel" m_Mod_each 0 := ⟨cb_Mod_each, (tb6 153 rfl), (tb6 155 rfl), (sl_ (q := m_Mod_each.1) 48 (List.mem_append_right _ (List.mem_append_right _ (List.mem_append_right _ (List.mem_append_right _ (List.mem_append_left _ (List.mem_of_getElem? (i := 11) rfl)))))))⟩
theorem cv_Mod_360 : Cv "ArrayRecordsModel" 360 "ArrayRecordsModel" m_Mod_condition 1 := ⟨cb_Mod_condition, (tb6 165 rfl), (tb6 167 rfl), (sl_ (q := m_Mod_condition.1) 48 (List.mem_append_right _ (List.mem_append_right _ (List.mem_append_right _ (List.mem_append_right _ (List.mem_append_left _ (List.mem_of_getElem? (i := 14) rfl)))))))⟩
theorem cv_Mod_363 : Cv "ArrayRecordsModel" 363 "ArrayRecordsModel" m_Mod_statement 0 := ⟨cb_Mod_statement, (tb6 13 rfl), (tb6 15 rfl), (sl_ (q := m_Mod_statement.1) 48 (List.mem_append_right _ (List.mem_append_right _ (List.mem_append_left _ (List.mem_of_getElem? (i := 10) rfl)))))⟩
theorem cv_Mod_366 : Cv "ArrayRecordsModel" 366 "ArrayRecordsModel" m_Mod_valueOf 2 := ⟨cb_Mod_valueOf, (tb6 201 rfl), (tb6 203 rfl), (sl_ (q := m_Mod_valueOf.1) 48 (List.mem_append_right _ (List.mem_append_right _ (List.mem_append_right _ (List.mem_append_right _ (List.mem_append_right _ (List.mem_of_getElem? (i := 5) rfl)))))))⟩
theorem cv_Mod_370 : Cv "ArrayRecordsModel" 370 "ArrayRecordsModel" m_Mod_cursorThere 1 := ⟨cb_Mod_cursorThere, (tb6 205 rfl), (tb6 207 rfl), (sl_ (q := m_Mod_cursorThere.1) 48 (List.mem_append_right _ (List.mem_append_right _ (List.mem_append_right _ (List.mem_append_right _ (List.mem_append_right _ (List.mem_of_getElem? (i := 6) rfl)))))))⟩
theorem cv_Mod_373 : Cv "ArrayRecordsModel" 373 "ArrayRecordsModel" m_Mod_nextOf 2 := ⟨cb_Mod_nextOf, (tb6 209 rfl), (tb6 211 rfl), (sl_ (q := m_Mod_nextOf.1) 48 (List.mem_append_right _ (List.mem_append_right _ (List.mem_append_right _ (List.mem_append_right _ (List.mem_append_right _ (List.mem_of_getElem? (i := 7) rfl)))))))⟩
theorem cv_Mod_376 : Cv "ArrayRecordsModel" 376 "ArrayRecordsModel" m_Mod_endOf 1 := ⟨cb_Mod_endOf, (tb6 213 rfl), (tb6 215 rfl), (sl_ (q := m_Mod_endOf.1) 48 (List.mem_append_right _ (List.mem_append_right _ (List.mem_append_right _ (List.mem_append_right _ (List.mem_append_right _ (List.mem_of_getElem? (i := 8) rfl)))))))⟩
theorem cv_Mod_379 : Cv "ArrayRecordsModel" 379 "ArrayRecordsModel" m_Mod_aggregated 4 := ⟨cb_Mod_aggregated, (tb6 217 rfl), (tb6 219 rfl), (sl_ (q := m_Mod_aggregated.1) 48 (List.mem_append_right _ (List.mem_append_right _ (List.mem_append_right _ (List.mem_append_right _ (List.mem_append_right _ (List.mem_of_getElem? (i := 9) rfl)))))))⟩
theorem cv_Mod_383 : Cst "ArrayRecordsModel" 383 m_Mod_operate 3 := ⟨cb_Mod_operate, Or.inl (tb6 221 rfl), (tb6 222 rfl), (tb1 11 rfl)⟩
theorem cv_Mod_387 : Cv "ArrayRecordsModel" 387 "ArrayRecordsModel" m_Mod_eval 3 := ⟨cb_Mod_eval, (tb6 197 rfl), (tb6 199 rfl), (sl_ (q := m_Mod_eval.1) 48 (List.mem_append_right _ (List.mem_append_right _ (List.mem_append_right _ (List.mem_append_right _ (List.mem_append_right _ (List.mem_of_getElem? (i := 4) rfl)))))))⟩
theorem cv_Mod_390 : Cv "ArrayRecordsModel" 390 "ArrayRecordsModel" m_Mod_cut 3 := ⟨cb_Mod_cut, (tb6 189 rfl), (tb6 191 rfl), (sl_ (q := m_Mod_cut.1) 48 (List.mem_append_right _ (List.mem_append_right _ (List.mem_append_right _ (List.mem_append_right _ (List.mem_append_right _ (List.mem_of_getElem? (i := 2) rfl)))))))⟩
theorem cv_Mod_393 : Cv "ArrayRecordsModel" 393 "ArrayRecordsModel" m_Mod_choose 2 := ⟨cb_Mod_choose, (tb6 193 rfl), (tb6 195 rfl), (sl_ (q := m_Mod_choose.1) 48 (List.mem_append_right _ (List.mem_append_right _ (List.mem_append_right _ (List.mem_append_right _ (List.mem_append_right _ (List.mem_of_getElem? (i := 3) rfl)))))))⟩
theorem cv_Mod_396 : Cv "ArrayRecordsModel" 396 "ArrayRecordsModel" m_Mod_pay 0 := ⟨cb_Mod_pay, (tb6 181 rfl), (tb6 183 rfl), (sl_ (q := m_Mod_pay.1) 48 (List.mem_append_right _ (List.mem_append_right _ (List.mem_append_right _ (List.mem_append_right _ (List.mem_append_right _ (List.mem_of_getElem? (i := 0) rfl)))))))⟩
theorem cv_Mod_399 : Cv "ArrayRecordsModel" 399 "ArrayRecordsModel" m_Mod_insert 1 := ⟨cb_Mod_insert, (tb6 185 rfl), (tb6 187 rfl), (sl_ (q := m_Mod_insert.1) 48 (List.mem_append_right _ (List.mem_append_right _ (List.mem_append_right _ (List.mem_append_right _ (List.mem_append_right _ (List.mem_of_getElem? (i := 1) rfl)))))))⟩
theorem cv_Mod_402 : Cv "ArrayRecordsModel" 402 "ArrayRecordsModel" m_Mod_setAll 1 := ⟨cb_Mod_setAll, (tb6 224 rfl), (tb6 226 rfl), (sl_ (q := m_Mod_setAll.1) 48 (List.mem_append_right _ (List.mem_append_right _ (List.mem_append_right _ (List.mem_append_right _ (List.mem_append_right _ (List.mem_of_getElem? (i := 10) rfl)))))))⟩
theorem cv_Mod_405 : Cv "ArrayRecordsModel" 405 "ArrayRecordsModel" m_Mod_beginEach 1 := ⟨cb_Mod_beginEach, (tb6 228 rfl), (tb6 230 rfl), (sl_ (q := m_Mod_beginEach.1) 48 (List.mem_append_right _ (List.mem_append_right _ (List.mem_append_right _ (List.mem_append_right _ (List.mem_append_right _ (List.mem_of_getElem? (i := 11) rfl)))))))⟩
theorem cv_Mod_408 : Cv "ArrayRecordsModel" 408 "ArrayRecordsModel" m_Mod_nextEach 1 := ⟨cb_Mod_nextEach, (tb6 232 rfl), (tb6 234 rfl), (sl_ (q := m_Mod_nextEach.1) 48 (List.mem_append_right _ (List.mem_append_right _ (List.mem_append_right _ (List.mem_append_right _ (List.mem_append_right _ (List.mem_of_getElem? (i := 12) rfl)))))))⟩
theorem cv_Mod_411 : Cv "ArrayRecordsModel" 411 "ArrayRecordsModel" m_Mod_put 1 := ⟨cb_Mod_put, (tb6 236 rfl), (tb6 238 rfl), (sl_ (q := m_Mod_put.1) 48 (List.mem_append_right _ (List.mem_append_right _ (List.mem_append_right _ (List.mem_append_right _ (List.mem_append_right _ (List.mem_of_getElem? (i := 13) rfl)))))))⟩
theorem cv_Mod_414 : Cv "ArrayRecordsModel" 414 "ArrayRecordsModel" m_Mod_scan 0 := ⟨cb_Mod_scan, (tb5 228 rfl), (tb5 230 rfl), (sl_ (q := m_Mod_scan.1) 48 (List.mem_append_right _ (List.mem_append_right _ (List.mem_append_left _ (List.mem_of_getElem? (i := 6) rfl)))))⟩
theorem cv_Mod_417 : Cv "ArrayRecordsModel" 417 "ArrayRecordsModel" m_Mod_compile 0 := ⟨cb_Mod_compile, (tb6 9 rfl), (tb6 11 rfl), (sl_ (q := m_Mod_compile.1) 48 (List.mem_append_right _ (List.mem_append_right _ (List.mem_append_left _ (List.mem_of_getElem? (i := 9) rfl)))))⟩
theorem cv_Mod_420 : Cv "ArrayRecordsModel" 420 "ArrayRecordsModel" m_Mod_step 1 := ⟨cb_Mod_step, (tb6 177 rfl), (tb6 179 rfl), (sl_ (q := m_Mod_step.1) 48 (List.mem_append_right _ (List.mem_append_right _ (List.mem_append_right _ (List.mem_append_right _ (List.mem_append_left _ (List.mem_of_getElem? (i := 15) rfl)))))))⟩
theorem cv_JLong_311 : Cst "java/lang/Long" 311 m_JInt_numberOfTrailingZeros 1 := ⟨cb_JInt_numberOfTrailingZeros, Or.inl (tb4 207 rfl), (tb4 208 rfl), (tb1 25 rfl)⟩
theorem cv_JStr_335 : Cv "java/lang/String" 335 "java/lang/String" m_JStr_coder 0 := ⟨cb_JStr_coder, (tb3 152 rfl), (tb3 153 rfl), (tb3 154 rfl)⟩
theorem cv_JStr_492 : Cv "java/lang/String" 492 "java/lang/String" m_JStr_isLatin1 0 := ⟨cb_JStr_isLatin1, (tb3 162 rfl), (tb3 163 rfl), (tb3 164 rfl)⟩
theorem cv_JStr_495 : Cst "java/lang/String" 495 m_JLat_charAt 2 := ⟨cb_JLat_charAt, Or.inl (tb3 166 rfl), (tb3 167 rfl), (tb1 20 rfl)⟩
theorem cv_JStr_1059 : Cst "java/lang/String" 1059 m_JPre_checkIndex 3 := ⟨cb_JPre_checkIndex, Or.inl (tb3 174 rfl), (tb3 175 rfl), (tb1 21 rfl)⟩
theorem cv_JLat_9 : Cst "java/lang/StringLatin1" 9 m_JStr_checkIndex 2 := ⟨cb_JStr_checkIndex, Or.inl (tb3 169 rfl), (tb3 170 rfl), (tb1 19 rfl)⟩
theorem kl_Mach_248 : Cond.constantLong "ArrayRecords$Machine" 248 (-1) ∈ lw_tbl := (tb4 231 rfl)
theorem kl_Scan_87 : Cond.constantLong "ArrayRecords$Scanner" 87 (10) ∈ lw_tbl := (tb3 204 rfl)
theorem kl_Scan_89 : Cond.constantLong "ArrayRecords$Scanner" 89 (48) ∈ lw_tbl := (tb3 205 rfl)
theorem kl_Scan_91 : Cond.constantLong "ArrayRecords$Scanner" 91 (2147483648) ∈ lw_tbl := (tb3 206 rfl)
theorem kl_Scan_99 : Cond.constantLong "ArrayRecords$Scanner" 99 (2147483647) ∈ lw_tbl := (tb3 210 rfl)
theorem kl_Stck_38 : Cond.constantLong "ArrayRecords$Stack" 38 (-1) ∈ lw_tbl := (tb4 157 rfl)
theorem kl_Stor_19 : Cond.constantLong "ArrayRecords$Store" 19 (-1) ∈ lw_tbl := (tb2 236 rfl)
theorem kl_Law_38 : Cond.constantLong "ArrayRecordsLaw" 38 (4294967295) ∈ lw_tbl := (tb7 20 rfl)
theorem kl_Mod_158 : Cond.constantLong "ArrayRecordsModel" 158 (1802071652) ∈ lw_tbl := (tb5 40 rfl)
theorem kl_Mod_164 : Cond.constantLong "ArrayRecordsModel" 164 (115923103347316) ∈ lw_tbl := (tb5 51 rfl)
theorem kl_Mod_166 : Cond.constantLong "ArrayRecordsModel" 166 (110386773062757) ∈ lw_tbl := (tb5 52 rfl)
theorem kl_Mod_168 : Cond.constantLong "ArrayRecordsModel" 168 (512852587109) ∈ lw_tbl := (tb5 53 rfl)
theorem kl_Mod_170 : Cond.constantLong "ArrayRecordsModel" 170 (7562612) ∈ lw_tbl := (tb5 54 rfl)
theorem kl_Mod_172 : Cond.constantLong "ArrayRecordsModel" 172 (7103860) ∈ lw_tbl := (tb5 55 rfl)
theorem kl_Mod_174 : Cond.constantLong "ArrayRecordsModel" 174 (482955849332) ∈ lw_tbl := (tb5 56 rfl)
theorem kl_Mod_176 : Cond.constantLong "ArrayRecordsModel" 176 (1700881256) ∈ lw_tbl := (tb5 57 rfl)
theorem kl_Mod_178 : Cond.constantLong "ArrayRecordsModel" 178 (25209) ∈ lw_tbl := (tb5 58 rfl)
theorem kl_Mod_180 : Cond.constantLong "ArrayRecordsModel" 180 (26982) ∈ lw_tbl := (tb5 59 rfl)
theorem kl_Mod_182 : Cond.constantLong "ArrayRecordsModel" 182 (1701606245) ∈ lw_tbl := (tb5 60 rfl)
theorem kl_Mod_184 : Cond.constantLong "ArrayRecordsModel" 184 (512852847717) ∈ lw_tbl := (tb5 61 rfl)
theorem kl_Mod_186 : Cond.constantLong "ArrayRecordsModel" 186 (125779953284709) ∈ lw_tbl := (tb5 62 rfl)
theorem kl_Mod_188 : Cond.constantLong "ArrayRecordsModel" 188 (6385252) ∈ lw_tbl := (tb5 63 rfl)
theorem kl_Mod_190 : Cond.constantLong "ArrayRecordsModel" 190 (28530) ∈ lw_tbl := (tb5 64 rfl)
theorem kl_Mod_192 : Cond.constantLong "ArrayRecordsModel" 192 (7237492) ∈ lw_tbl := (tb5 65 rfl)
theorem kl_Mod_194 : Cond.constantLong "ArrayRecordsModel" 194 (427071729268) ∈ lw_tbl := (tb5 66 rfl)
theorem kl_Mod_196 : Cond.constantLong "ArrayRecordsModel" 196 (7566701) ∈ lw_tbl := (tb5 67 rfl)
theorem kl_Mod_198 : Cond.constantLong "ArrayRecordsModel" 198 (465557353332) ∈ lw_tbl := (tb5 68 rfl)
theorem kl_Mod_200 : Cond.constantLong "ArrayRecordsModel" 200 (7454131802490631028) ∈ lw_tbl := (tb5 69 rfl)
theorem kl_Mod_202 : Cond.constantLong "ArrayRecordsModel" 202 (255) ∈ lw_tbl := (tb5 48 rfl)
theorem kl_Mod_204 : Cond.constantLong "ArrayRecordsModel" 204 (27) ∈ lw_tbl := (tb5 49 rfl)
theorem kl_Mod_206 : Cond.constantLong "ArrayRecordsModel" 206 (96) ∈ lw_tbl := (tb5 50 rfl)
theorem kl_Mod_223 : Cond.constantLong "ArrayRecordsModel" 223 (2147483647) ∈ lw_tbl := (tb6 6 rfl)
theorem kl_Mod_225 : Cond.constantLong "ArrayRecordsModel" 225 (10) ∈ lw_tbl := (tb6 7 rfl)
theorem kl_Mod_227 : Cond.constantLong "ArrayRecordsModel" 227 (48) ∈ lw_tbl := (tb6 8 rfl)
theorem kl_Mod_253 : Cond.constantLong "ArrayRecordsModel" 253 (14) ∈ lw_tbl := (tb6 117 rfl)
theorem kl_Mod_255 : Cond.constantLong "ArrayRecordsModel" 255 (13) ∈ lw_tbl := (tb6 118 rfl)
theorem kl_Mod_288 : Cond.constantLong "ArrayRecordsModel" 288 (16) ∈ lw_tbl := (tb6 96 rfl)
theorem kl_Mod_314 : Cond.constantLong "ArrayRecordsModel" 314 (32) ∈ lw_tbl := (tb6 135 rfl)
theorem kl_Mod_316 : Cond.constantLong "ArrayRecordsModel" 316 (84) ∈ lw_tbl := (tb6 136 rfl)
theorem kl_JLong_314 : Cond.constantLong "java/lang/Long" 314 (6148914691236517205) ∈ lw_tbl := (tb3 0 rfl)
theorem kl_JLong_316 : Cond.constantLong "java/lang/Long" 316 (3689348814741910323) ∈ lw_tbl := (tb3 1 rfl)
theorem kl_JLong_318 : Cond.constantLong "java/lang/Long" 318 (1085102592571150095) ∈ lw_tbl := (tb3 2 rfl)
