/-! L1 tables: the code is what the bytes decode to; the words of each method -/
def mtC (M : Mt) : Bool := (mtI M).all fun e => decide (decode (mtB M) e.1 = .ok (e.2.1, e.2.2))
theorem mtOK_of {M : Mt} (h : mtC M = true) : mtOK M := fun e he => of_decide_eq_true (List.all_eq_true.mp h e he)
set_option maxRecDepth 100000 in
theorem gX1_begin : mtG mX1_begin := ⟨Or.inl ⟨rfl, (lw_g (lw_at lw_m3 215 rfl) rfl)⟩, mtOK_of (by decide +kernel), by decide +kernel, ⟨by decide +kernel, by decide +kernel⟩, (lw_g (lw_at lw_m1 1 rfl) rfl)⟩
set_option maxRecDepth 100000 in
theorem gX1_charAt : mtG mX1_charAt := ⟨Or.inl ⟨rfl, (lw_g (lw_at lw_m6 135 rfl) rfl)⟩, mtOK_of (by decide +kernel), by decide +kernel, ⟨by decide +kernel, by decide +kernel⟩, (lw_g (lw_at lw_m1 1 rfl) rfl)⟩
set_option maxRecDepth 100000 in
theorem gX1_check : mtG mX1_check := ⟨Or.inr (lw_g (lw_at lw_m3 209 rfl) rfl), mtOK_of (by decide +kernel), by decide +kernel, ⟨by decide +kernel, by decide +kernel⟩, (lw_g (lw_at lw_m1 1 rfl) rfl)⟩
set_option maxRecDepth 100000 in
theorem gX1_copy : mtG mX1_copy := ⟨Or.inl ⟨rfl, (lw_g (lw_at lw_m6 79 rfl) rfl)⟩, mtOK_of (by decide +kernel), by decide +kernel, ⟨by decide +kernel, by decide +kernel⟩, (lw_g (lw_at lw_m1 1 rfl) rfl)⟩
set_option maxRecDepth 100000 in
theorem gX1_declare : mtG mX1_declare := ⟨Or.inr (lw_g (lw_at lw_m6 145 rfl) rfl), mtOK_of (by decide +kernel), by decide +kernel, ⟨by decide +kernel, by decide +kernel⟩, (lw_g (lw_at lw_m1 1 rfl) rfl)⟩
set_option maxRecDepth 100000 in
theorem gX1_fault : mtG mX1_fault := ⟨Or.inl ⟨rfl, (lw_g (lw_at lw_m4 167 rfl) rfl)⟩, mtOK_of (by decide +kernel), by decide +kernel, ⟨by decide +kernel, by decide +kernel⟩, (lw_g (lw_at lw_m1 1 rfl) rfl)⟩
set_option maxRecDepth 100000 in
theorem gX1_init : mtG mX1_init := ⟨Or.inl ⟨rfl, (lw_g (lw_at lw_m1 50 rfl) rfl)⟩, mtOK_of (by decide +kernel), by decide +kernel, ⟨by decide +kernel, by decide +kernel⟩, (lw_g (lw_at lw_m1 1 rfl) rfl)⟩
set_option maxRecDepth 100000 in
theorem gX1_keep : mtG mX1_keep := ⟨Or.inl ⟨rfl, (lw_g (lw_at lw_m6 222 rfl) rfl)⟩, mtOK_of (by decide +kernel), by decide +kernel, ⟨by decide +kernel, by decide +kernel⟩, (lw_g (lw_at lw_m1 1 rfl) rfl)⟩
set_option maxRecDepth 100000 in
theorem gX1_kind : mtG mX1_kind := ⟨Or.inl ⟨rfl, (lw_g (lw_at lw_m6 93 rfl) rfl)⟩, mtOK_of (by decide +kernel), by decide +kernel, ⟨by decide +kernel, by decide +kernel⟩, (lw_g (lw_at lw_m1 1 rfl) rfl)⟩
set_option maxRecDepth 100000 in
theorem gX1_lemma : mtG mX1_lemma := ⟨Or.inl ⟨rfl, (lw_g (lw_at lw_m7 141 rfl) rfl)⟩, mtOK_of (by decide +kernel), by decide +kernel, ⟨by decide +kernel, by decide +kernel⟩, (lw_g (lw_at lw_m1 1 rfl) rfl)⟩
set_option maxRecDepth 100000 in
theorem gX1_length : mtG mX1_length := ⟨Or.inl ⟨rfl, (lw_g (lw_at lw_m6 131 rfl) rfl)⟩, mtOK_of (by decide +kernel), by decide +kernel, ⟨by decide +kernel, by decide +kernel⟩, (lw_g (lw_at lw_m1 1 rfl) rfl)⟩
set_option maxRecDepth 100000 in
theorem gX1_mustBeFree : mtG mX1_mustBeFree := ⟨Or.inl ⟨rfl, (lw_g (lw_at lw_m6 149 rfl) rfl)⟩, mtOK_of (by decide +kernel), by decide +kernel, ⟨by decide +kernel, by decide +kernel⟩, (lw_g (lw_at lw_m1 1 rfl) rfl)⟩
set_option maxRecDepth 100000 in
theorem gX1_parameters : mtG mX1_parameters := ⟨Or.inl ⟨rfl, (lw_g (lw_at lw_m6 114 rfl) rfl)⟩, mtOK_of (by decide +kernel), by decide +kernel, ⟨by decide +kernel, by decide +kernel⟩, (lw_g (lw_at lw_m1 1 rfl) rfl)⟩
set_option maxRecDepth 100000 in
theorem gX1_program : mtG mX1_program := ⟨Or.inr (lw_g (lw_at lw_m6 229 rfl) rfl), mtOK_of (by decide +kernel), by decide +kernel, ⟨by decide +kernel, by decide +kernel⟩, (lw_g (lw_at lw_m1 1 rfl) rfl)⟩
set_option maxRecDepth 100000 in
theorem gX1_retract : mtG mX1_retract := ⟨Or.inl ⟨rfl, (lw_g (lw_at lw_m7 153 rfl) rfl)⟩, mtOK_of (by decide +kernel), by decide +kernel, ⟨by decide +kernel, by decide +kernel⟩, (lw_g (lw_at lw_m1 1 rfl) rfl)⟩
set_option maxRecDepth 100000 in
theorem gX1_run : mtG mX1_run := ⟨Or.inr (lw_g (lw_at lw_m7 160 rfl) rfl), mtOK_of (by decide +kernel), by decide +kernel, ⟨by decide +kernel, by decide +kernel⟩, (lw_g (lw_at lw_m1 1 rfl) rfl)⟩
set_option maxRecDepth 100000 in
theorem gX1_steps : mtG mX1_steps := ⟨Or.inl ⟨rfl, (lw_g (lw_at lw_m6 89 rfl) rfl)⟩, mtOK_of (by decide +kernel), by decide +kernel, ⟨by decide +kernel, by decide +kernel⟩, (lw_g (lw_at lw_m1 1 rfl) rfl)⟩
set_option maxRecDepth 100000 in
theorem gX1_type : mtG mX1_type := ⟨Or.inl ⟨rfl, (lw_g (lw_at lw_m2 122 rfl) rfl)⟩, mtOK_of (by decide +kernel), by decide +kernel, ⟨by decide +kernel, by decide +kernel⟩, (lw_g (lw_at lw_m1 1 rfl) rfl)⟩
set_option maxRecDepth 100000 in
theorem gX1_wipe : mtG mX1_wipe := ⟨Or.inl ⟨rfl, (lw_g (lw_at lw_m2 228 rfl) rfl)⟩, mtOK_of (by decide +kernel), by decide +kernel, ⟨by decide +kernel, by decide +kernel⟩, (lw_g (lw_at lw_m1 1 rfl) rfl)⟩
set_option maxRecDepth 100000 in
theorem gX19_code : mtG mX19_code := ⟨Or.inl ⟨rfl, (lw_g (lw_at lw_m5 213 rfl) rfl)⟩, mtOK_of (by decide +kernel), by decide +kernel, ⟨by decide +kernel, by decide +kernel⟩, (lw_g (lw_at lw_m1 45 rfl) rfl)⟩
set_option maxRecDepth 100000 in
theorem gX19_fits : mtG mX19_fits := ⟨Or.inl ⟨rfl, (lw_g (lw_at lw_m5 195 rfl) rfl)⟩, mtOK_of (by decide +kernel), by decide +kernel, ⟨by decide +kernel, by decide +kernel⟩, (lw_g (lw_at lw_m1 45 rfl) rfl)⟩
set_option maxRecDepth 100000 in
theorem gX19_init : mtG mX19_init := ⟨Or.inl ⟨rfl, (lw_g (lw_at lw_m7 67 rfl) rfl)⟩, mtOK_of (by decide +kernel), by decide +kernel, ⟨by decide +kernel, by decide +kernel⟩, (lw_g (lw_at lw_m1 45 rfl) rfl)⟩
set_option maxRecDepth 100000 in
theorem gX19_letter : mtG mX19_letter := ⟨Or.inl ⟨rfl, (lw_g (lw_at lw_m5 205 rfl) rfl)⟩, mtOK_of (by decide +kernel), by decide +kernel, ⟨by decide +kernel, by decide +kernel⟩, (lw_g (lw_at lw_m1 45 rfl) rfl)⟩
set_option maxRecDepth 100000 in
theorem gX19_names : mtG mX19_names := ⟨Or.inl ⟨rfl, (lw_g (lw_at lw_m5 209 rfl) rfl)⟩, mtOK_of (by decide +kernel), by decide +kernel, ⟨by decide +kernel, by decide +kernel⟩, (lw_g (lw_at lw_m1 45 rfl) rfl)⟩
set_option maxRecDepth 100000 in
theorem gX19_place : mtG mX19_place := ⟨Or.inl ⟨rfl, (lw_g (lw_at lw_m7 132 rfl) rfl)⟩, mtOK_of (by decide +kernel), by decide +kernel, ⟨by decide +kernel, by decide +kernel⟩, (lw_g (lw_at lw_m1 45 rfl) rfl)⟩
set_option maxRecDepth 100000 in
theorem gX8_find : mtG mX8_find := ⟨Or.inl ⟨rfl, (lw_g (lw_at lw_m4 183 rfl) rfl)⟩, mtOK_of (by decide +kernel), by decide +kernel, ⟨by decide +kernel, by decide +kernel⟩, (lw_g (lw_at lw_m1 15 rfl) rfl)⟩
set_option maxRecDepth 100000 in
theorem gX8_fits : mtG mX8_fits := ⟨Or.inl ⟨rfl, (lw_g (lw_at lw_m6 27 rfl) rfl)⟩, mtOK_of (by decide +kernel), by decide +kernel, ⟨by decide +kernel, by decide +kernel⟩, (lw_g (lw_at lw_m1 15 rfl) rfl)⟩
set_option maxRecDepth 100000 in
theorem gX8_init : mtG mX8_init := ⟨Or.inl ⟨rfl, (lw_g (lw_at lw_m2 10 rfl) rfl)⟩, mtOK_of (by decide +kernel), by decide +kernel, ⟨by decide +kernel, by decide +kernel⟩, (lw_g (lw_at lw_m1 15 rfl) rfl)⟩
set_option maxRecDepth 100000 in
theorem gX8_look : mtG mX8_look := ⟨Or.inl ⟨rfl, (lw_g (lw_at lw_m6 212 rfl) rfl)⟩, mtOK_of (by decide +kernel), by decide +kernel, ⟨by decide +kernel, by decide +kernel⟩, (lw_g (lw_at lw_m1 15 rfl) rfl)⟩
set_option maxRecDepth 100000 in
theorem gX8_meet : mtG mX8_meet := ⟨Or.inr (lw_g (lw_at lw_m5 2 rfl) rfl), mtOK_of (by decide +kernel), by decide +kernel, ⟨by decide +kernel, by decide +kernel⟩, (lw_g (lw_at lw_m1 15 rfl) rfl)⟩
set_option maxRecDepth 100000 in
theorem gX8_need : mtG mX8_need := ⟨Or.inl ⟨rfl, (lw_g (lw_at lw_m4 195 rfl) rfl)⟩, mtOK_of (by decide +kernel), by decide +kernel, ⟨by decide +kernel, by decide +kernel⟩, (lw_g (lw_at lw_m1 15 rfl) rfl)⟩
set_option maxRecDepth 100000 in
theorem gX8_ofConstant : mtG mX8_ofConstant := ⟨Or.inl ⟨rfl, (lw_g (lw_at lw_m4 232 rfl) rfl)⟩, mtOK_of (by decide +kernel), by decide +kernel, ⟨by decide +kernel, by decide +kernel⟩, (lw_g (lw_at lw_m1 15 rfl) rfl)⟩
set_option maxRecDepth 100000 in
theorem gX8_scope : mtG mX8_scope := ⟨Or.inl ⟨rfl, (lw_g (lw_at lw_m7 168 rfl) rfl)⟩, mtOK_of (by decide +kernel), by decide +kernel, ⟨by decide +kernel, by decide +kernel⟩, (lw_g (lw_at lw_m1 15 rfl) rfl)⟩
set_option maxRecDepth 100000 in
theorem gX8_type : mtG mX8_type := ⟨Or.inl ⟨rfl, (lw_g (lw_at lw_m4 170 rfl) rfl)⟩, mtOK_of (by decide +kernel), by decide +kernel, ⟨by decide +kernel, by decide +kernel⟩, (lw_g (lw_at lw_m1 15 rfl) rfl)⟩
set_option maxRecDepth 100000 in
theorem gX8_value : mtG mX8_value := ⟨Or.inl ⟨rfl, (lw_g (lw_at lw_m5 35 rfl) rfl)⟩, mtOK_of (by decide +kernel), by decide +kernel, ⟨by decide +kernel, by decide +kernel⟩, (lw_g (lw_at lw_m1 15 rfl) rfl)⟩
set_option maxRecDepth 100000 in
theorem gX18_init : mtG mX18_init := ⟨Or.inl ⟨rfl, (lw_g (lw_at lw_m7 16 rfl) rfl)⟩, mtOK_of (by decide +kernel), by decide +kernel, ⟨by decide +kernel, by decide +kernel⟩, (lw_g (lw_at lw_m1 44 rfl) rfl)⟩
set_option maxRecDepth 100000 in
theorem gX13_init : mtG mX13_init := ⟨Or.inl ⟨rfl, (lw_g (lw_at lw_m6 187 rfl) rfl)⟩, mtOK_of (by decide +kernel), by decide +kernel, ⟨by decide +kernel, by decide +kernel⟩, (lw_g (lw_at lw_m1 36 rfl) rfl)⟩
set_option maxRecDepth 100000 in
theorem gX13_kind : mtG mX13_kind := ⟨Or.inl ⟨rfl, (lw_g (lw_at lw_m6 104 rfl) rfl)⟩, mtOK_of (by decide +kernel), by decide +kernel, ⟨by decide +kernel, by decide +kernel⟩, (lw_g (lw_at lw_m1 36 rfl) rfl)⟩
set_option maxRecDepth 100000 in
theorem gX13_parameters : mtG mX13_parameters := ⟨Or.inl ⟨rfl, (lw_g (lw_at lw_m4 227 rfl) rfl)⟩, mtOK_of (by decide +kernel), by decide +kernel, ⟨by decide +kernel, by decide +kernel⟩, (lw_g (lw_at lw_m1 36 rfl) rfl)⟩
set_option maxRecDepth 100000 in
theorem gX3_append : mtG mX3_append := ⟨Or.inl ⟨rfl, (lw_g (lw_at lw_m5 43 rfl) rfl)⟩, mtOK_of (by decide +kernel), by decide +kernel, ⟨by decide +kernel, by decide +kernel⟩, (lw_g (lw_at lw_m1 3 rfl) rfl)⟩
set_option maxRecDepth 100000 in
theorem gX3_bind : mtG mX3_bind := ⟨Or.inl ⟨rfl, (lw_g (lw_at lw_m5 81 rfl) rfl)⟩, mtOK_of (by decide +kernel), by decide +kernel, ⟨by decide +kernel, by decide +kernel⟩, (lw_g (lw_at lw_m1 3 rfl) rfl)⟩
set_option maxRecDepth 100000 in
theorem gX3_clear : mtG mX3_clear := ⟨Or.inl ⟨rfl, (lw_g (lw_at lw_m3 223 rfl) rfl)⟩, mtOK_of (by decide +kernel), by decide +kernel, ⟨by decide +kernel, by decide +kernel⟩, (lw_g (lw_at lw_m1 3 rfl) rfl)⟩
set_option maxRecDepth 100000 in
theorem gX3_init : mtG mX3_init := ⟨Or.inl ⟨rfl, (lw_g (lw_at lw_m1 64 rfl) rfl)⟩, mtOK_of (by decide +kernel), by decide +kernel, ⟨by decide +kernel, by decide +kernel⟩, (lw_g (lw_at lw_m1 3 rfl) rfl)⟩
set_option maxRecDepth 100000 in
theorem gX3_made : mtG mX3_made := ⟨Or.inl ⟨rfl, (lw_g (lw_at lw_m5 69 rfl) rfl)⟩, mtOK_of (by decide +kernel), by decide +kernel, ⟨by decide +kernel, by decide +kernel⟩, (lw_g (lw_at lw_m1 3 rfl) rfl)⟩
set_option maxRecDepth 100000 in
theorem gX3_make : mtG mX3_make := ⟨Or.inl ⟨rfl, (lw_g (lw_at lw_m5 75 rfl) rfl)⟩, mtOK_of (by decide +kernel), by decide +kernel, ⟨by decide +kernel, by decide +kernel⟩, (lw_g (lw_at lw_m1 3 rfl) rfl)⟩
set_option maxRecDepth 100000 in
theorem gX14_init : mtG mX14_init := ⟨Or.inl ⟨rfl, (lw_g (lw_at lw_m5 49 rfl) rfl)⟩, mtOK_of (by decide +kernel), by decide +kernel, ⟨by decide +kernel, by decide +kernel⟩, (lw_g (lw_at lw_m1 38 rfl) rfl)⟩
set_option maxRecDepth 100000 in
theorem gX16_init : mtG mX16_init := ⟨Or.inl ⟨rfl, (lw_g (lw_at lw_m6 32 rfl) rfl)⟩, mtOK_of (by decide +kernel), by decide +kernel, ⟨by decide +kernel, by decide +kernel⟩, (lw_g (lw_at lw_m1 42 rfl) rfl)⟩
set_option maxRecDepth 100000 in
theorem gX16_name : mtG mX16_name := ⟨Or.inl ⟨rfl, (lw_g (lw_at lw_m4 187 rfl) rfl)⟩, mtOK_of (by decide +kernel), by decide +kernel, ⟨by decide +kernel, by decide +kernel⟩, (lw_g (lw_at lw_m1 42 rfl) rfl)⟩
set_option maxRecDepth 100000 in
theorem gX16_outer : mtG mX16_outer := ⟨Or.inl ⟨rfl, (lw_g (lw_at lw_m4 191 rfl) rfl)⟩, mtOK_of (by decide +kernel), by decide +kernel, ⟨by decide +kernel, by decide +kernel⟩, (lw_g (lw_at lw_m1 42 rfl) rfl)⟩
set_option maxRecDepth 100000 in
theorem gX16_type : mtG mX16_type := ⟨Or.inl ⟨rfl, (lw_g (lw_at lw_m4 214 rfl) rfl)⟩, mtOK_of (by decide +kernel), by decide +kernel, ⟨by decide +kernel, by decide +kernel⟩, (lw_g (lw_at lw_m1 42 rfl) rfl)⟩
set_option maxRecDepth 100000 in
theorem gX16_value : mtG mX16_value := ⟨Or.inl ⟨rfl, (lw_g (lw_at lw_m5 39 rfl) rfl)⟩, mtOK_of (by decide +kernel), by decide +kernel, ⟨by decide +kernel, by decide +kernel⟩, (lw_g (lw_at lw_m1 42 rfl) rfl)⟩
set_option maxRecDepth 100000 in
theorem gX12_condition : mtG mX12_condition := ⟨Or.inl ⟨rfl, (lw_g (lw_at lw_m4 238 rfl) rfl)⟩, mtOK_of (by decide +kernel), by decide +kernel, ⟨by decide +kernel, by decide +kernel⟩, (lw_g (lw_at lw_m1 35 rfl) rfl)⟩
set_option maxRecDepth 100000 in
theorem gX12_init : mtG mX12_init := ⟨Or.inl ⟨rfl, (lw_g (lw_at lw_m6 164 rfl) rfl)⟩, mtOK_of (by decide +kernel), by decide +kernel, ⟨by decide +kernel, by decide +kernel⟩, (lw_g (lw_at lw_m1 35 rfl) rfl)⟩
set_option maxRecDepth 100000 in
theorem gX12_letter : mtG mX12_letter := ⟨Or.inl ⟨rfl, (lw_g (lw_at lw_m5 7 rfl) rfl)⟩, mtOK_of (by decide +kernel), by decide +kernel, ⟨by decide +kernel, by decide +kernel⟩, (lw_g (lw_at lw_m1 35 rfl) rfl)⟩
set_option maxRecDepth 100000 in
theorem gX12_place : mtG mX12_place := ⟨Or.inl ⟨rfl, (lw_g (lw_at lw_m6 217 rfl) rfl)⟩, mtOK_of (by decide +kernel), by decide +kernel, ⟨by decide +kernel, by decide +kernel⟩, (lw_g (lw_at lw_m1 35 rfl) rfl)⟩
set_option maxRecDepth 100000 in
theorem gX12_terms : mtG mX12_terms := ⟨Or.inl ⟨rfl, (lw_g (lw_at lw_m5 16 rfl) rfl)⟩, mtOK_of (by decide +kernel), by decide +kernel, ⟨by decide +kernel, by decide +kernel⟩, (lw_g (lw_at lw_m1 35 rfl) rfl)⟩
set_option maxRecDepth 100000 in
theorem gX12_type : mtG mX12_type := ⟨Or.inl ⟨rfl, (lw_g (lw_at lw_m6 19 rfl) rfl)⟩, mtOK_of (by decide +kernel), by decide +kernel, ⟨by decide +kernel, by decide +kernel⟩, (lw_g (lw_at lw_m1 35 rfl) rfl)⟩
set_option maxRecDepth 100000 in
theorem gX17_init : mtG mX17_init := ⟨Or.inl ⟨rfl, (lw_g (lw_at lw_m7 96 rfl) rfl)⟩, mtOK_of (by decide +kernel), by decide +kernel, ⟨by decide +kernel, by decide +kernel⟩, (lw_g (lw_at lw_m1 43 rfl) rfl)⟩
set_option maxRecDepth 100000 in
theorem gX17_kind : mtG mX17_kind := ⟨Or.inl ⟨rfl, (lw_g (lw_at lw_m6 110 rfl) rfl)⟩, mtOK_of (by decide +kernel), by decide +kernel, ⟨by decide +kernel, by decide +kernel⟩, (lw_g (lw_at lw_m1 43 rfl) rfl)⟩
set_option maxRecDepth 100000 in
theorem gX17_parameters : mtG mX17_parameters := ⟨Or.inl ⟨rfl, (lw_g (lw_at lw_m6 126 rfl) rfl)⟩, mtOK_of (by decide +kernel), by decide +kernel, ⟨by decide +kernel, by decide +kernel⟩, (lw_g (lw_at lw_m1 43 rfl) rfl)⟩
set_option maxRecDepth 100000 in
theorem gX4_begin : mtG mX4_begin := ⟨Or.inl ⟨rfl, (lw_g (lw_at lw_m3 219 rfl) rfl)⟩, mtOK_of (by decide +kernel), by decide +kernel, ⟨by decide +kernel, by decide +kernel⟩, (lw_g (lw_at lw_m1 7 rfl) rfl)⟩
set_option maxRecDepth 100000 in
theorem gX4_code : mtG mX4_code := ⟨Or.inl ⟨rfl, (lw_g (lw_at lw_m7 5 rfl) rfl)⟩, mtOK_of (by decide +kernel), by decide +kernel, ⟨by decide +kernel, by decide +kernel⟩, (lw_g (lw_at lw_m1 7 rfl) rfl)⟩
set_option maxRecDepth 100000 in
theorem gX4_codes : mtG mX4_codes := ⟨Or.inl ⟨rfl, (lw_g (lw_at lw_m7 51 rfl) rfl)⟩, mtOK_of (by decide +kernel), by decide +kernel, ⟨by decide +kernel, by decide +kernel⟩, (lw_g (lw_at lw_m1 7 rfl) rfl)⟩
set_option maxRecDepth 100000 in
theorem gX4_declaration : mtG mX4_declaration := ⟨Or.inl ⟨rfl, (lw_g (lw_at lw_m6 155 rfl) rfl)⟩, mtOK_of (by decide +kernel), by decide +kernel, ⟨by decide +kernel, by decide +kernel⟩, (lw_g (lw_at lw_m1 7 rfl) rfl)⟩
set_option maxRecDepth 100000 in
theorem gX4_digit : mtG mX4_digit := ⟨Or.inl ⟨rfl, (lw_g (lw_at lw_m4 66 rfl) rfl)⟩, mtOK_of (by decide +kernel), by decide +kernel, ⟨by decide +kernel, by decide +kernel⟩, (lw_g (lw_at lw_m1 7 rfl) rfl)⟩
set_option maxRecDepth 100000 in
theorem gX4_init : mtG mX4_init := ⟨Or.inl ⟨rfl, (lw_g (lw_at lw_m1 128 rfl) rfl)⟩, mtOK_of (by decide +kernel), by decide +kernel, ⟨by decide +kernel, by decide +kernel⟩, (lw_g (lw_at lw_m1 7 rfl) rfl)⟩
set_option maxRecDepth 100000 in
theorem gX4_isCode : mtG mX4_isCode := ⟨Or.inl ⟨rfl, (lw_g (lw_at lw_m7 55 rfl) rfl)⟩, mtOK_of (by decide +kernel), by decide +kernel, ⟨by decide +kernel, by decide +kernel⟩, (lw_g (lw_at lw_m1 7 rfl) rfl)⟩
set_option maxRecDepth 100000 in
theorem gX4_isNext : mtG mX4_isNext := ⟨Or.inl ⟨rfl, (lw_g (lw_at lw_m3 234 rfl) rfl)⟩, mtOK_of (by decide +kernel), by decide +kernel, ⟨by decide +kernel, by decide +kernel⟩, (lw_g (lw_at lw_m1 7 rfl) rfl)⟩
set_option maxRecDepth 100000 in
theorem gX4_isTerm : mtG mX4_isTerm := ⟨Or.inl ⟨rfl, (lw_g (lw_at lw_m4 150 rfl) rfl)⟩, mtOK_of (by decide +kernel), by decide +kernel, ⟨by decide +kernel, by decide +kernel⟩, (lw_g (lw_at lw_m1 7 rfl) rfl)⟩
set_option maxRecDepth 100000 in
theorem gX4_leaf : mtG mX4_leaf := ⟨Or.inl ⟨rfl, (lw_g (lw_at lw_m7 11 rfl) rfl)⟩, mtOK_of (by decide +kernel), by decide +kernel, ⟨by decide +kernel, by decide +kernel⟩, (lw_g (lw_at lw_m1 7 rfl) rfl)⟩
set_option maxRecDepth 100000 in
theorem gX4_match : mtG mX4_match := ⟨Or.inl ⟨rfl, (lw_g (lw_at lw_m7 58 rfl) rfl)⟩, mtOK_of (by decide +kernel), by decide +kernel, ⟨by decide +kernel, by decide +kernel⟩, (lw_g (lw_at lw_m1 7 rfl) rfl)⟩
set_option maxRecDepth 100000 in
theorem gX4_need : mtG mX4_need := ⟨Or.inl ⟨rfl, (lw_g (lw_at lw_m4 21 rfl) rfl)⟩, mtOK_of (by decide +kernel), by decide +kernel, ⟨by decide +kernel, by decide +kernel⟩, (lw_g (lw_at lw_m1 7 rfl) rfl)⟩
set_option maxRecDepth 100000 in
theorem gX4_oneCase : mtG mX4_oneCase := ⟨Or.inl ⟨rfl, (lw_g (lw_at lw_m7 61 rfl) rfl)⟩, mtOK_of (by decide +kernel), by decide +kernel, ⟨by decide +kernel, by decide +kernel⟩, (lw_g (lw_at lw_m1 7 rfl) rfl)⟩
set_option maxRecDepth 100000 in
theorem gX4_part : mtG mX4_part := ⟨Or.inl ⟨rfl, (lw_g (lw_at lw_m6 159 rfl) rfl)⟩, mtOK_of (by decide +kernel), by decide +kernel, ⟨by decide +kernel, by decide +kernel⟩, (lw_g (lw_at lw_m1 7 rfl) rfl)⟩
set_option maxRecDepth 100000 in
theorem gX4_passes : mtG mX4_passes := ⟨Or.inl ⟨rfl, (lw_g (lw_at lw_m4 74 rfl) rfl)⟩, mtOK_of (by decide +kernel), by decide +kernel, ⟨by decide +kernel, by decide +kernel⟩, (lw_g (lw_at lw_m1 7 rfl) rfl)⟩
set_option maxRecDepth 100000 in
theorem gX4_peek : mtG mX4_peek := ⟨Or.inl ⟨rfl, (lw_g (lw_at lw_m3 238 rfl) rfl)⟩, mtOK_of (by decide +kernel), by decide +kernel, ⟨by decide +kernel, by decide +kernel⟩, (lw_g (lw_at lw_m1 7 rfl) rfl)⟩
set_option maxRecDepth 100000 in
theorem gX4_program : mtG mX4_program := ⟨Or.inl ⟨rfl, (lw_g (lw_at lw_m6 233 rfl) rfl)⟩, mtOK_of (by decide +kernel), by decide +kernel, ⟨by decide +kernel, by decide +kernel⟩, (lw_g (lw_at lw_m1 7 rfl) rfl)⟩
set_option maxRecDepth 100000 in
theorem gX4_row : mtG mX4_row := ⟨Or.inl ⟨rfl, (lw_g (lw_at lw_m3 227 rfl) rfl)⟩, mtOK_of (by decide +kernel), by decide +kernel, ⟨by decide +kernel, by decide +kernel⟩, (lw_g (lw_at lw_m1 7 rfl) rfl)⟩
set_option maxRecDepth 100000 in
theorem gX4_take : mtG mX4_take := ⟨Or.inl ⟨rfl, (lw_g (lw_at lw_m4 17 rfl) rfl)⟩, mtOK_of (by decide +kernel), by decide +kernel, ⟨by decide +kernel, by decide +kernel⟩, (lw_g (lw_at lw_m1 7 rfl) rfl)⟩
set_option maxRecDepth 100000 in
theorem gX4_term : mtG mX4_term := ⟨Or.inl ⟨rfl, (lw_g (lw_at lw_m3 230 rfl) rfl)⟩, mtOK_of (by decide +kernel), by decide +kernel, ⟨by decide +kernel, by decide +kernel⟩, (lw_g (lw_at lw_m1 7 rfl) rfl)⟩
set_option maxRecDepth 100000 in
theorem gX4_terms : mtG mX4_terms := ⟨Or.inl ⟨rfl, (lw_g (lw_at lw_m4 82 rfl) rfl)⟩, mtOK_of (by decide +kernel), by decide +kernel, ⟨by decide +kernel, by decide +kernel⟩, (lw_g (lw_at lw_m1 7 rfl) rfl)⟩
set_option maxRecDepth 100000 in
theorem gX4_test : mtG mX4_test := ⟨Or.inl ⟨rfl, (lw_g (lw_at lw_m7 89 rfl) rfl)⟩, mtOK_of (by decide +kernel), by decide +kernel, ⟨by decide +kernel, by decide +kernel⟩, (lw_g (lw_at lw_m1 7 rfl) rfl)⟩
set_option maxRecDepth 100000 in
theorem gX4_variables : mtG mX4_variables := ⟨Or.inl ⟨rfl, (lw_g (lw_at lw_m6 237 rfl) rfl)⟩, mtOK_of (by decide +kernel), by decide +kernel, ⟨by decide +kernel, by decide +kernel⟩, (lw_g (lw_at lw_m1 7 rfl) rfl)⟩
set_option maxRecDepth 100000 in
theorem gX6_find : mtG mX6_find := ⟨Or.inl ⟨rfl, (lw_g (lw_at lw_m5 132 rfl) rfl)⟩, mtOK_of (by decide +kernel), by decide +kernel, ⟨by decide +kernel, by decide +kernel⟩, (lw_g (lw_at lw_m1 13 rfl) rfl)⟩
set_option maxRecDepth 100000 in
theorem gX6_has : mtG mX6_has := ⟨Or.inl ⟨rfl, (lw_g (lw_at lw_m7 117 rfl) rfl)⟩, mtOK_of (by decide +kernel), by decide +kernel, ⟨by decide +kernel, by decide +kernel⟩, (lw_g (lw_at lw_m1 13 rfl) rfl)⟩
set_option maxRecDepth 100000 in
theorem gX6_init : mtG mX6_init := ⟨Or.inl ⟨rfl, (lw_g (lw_at lw_m1 214 rfl) rfl)⟩, mtOK_of (by decide +kernel), by decide +kernel, ⟨by decide +kernel, by decide +kernel⟩, (lw_g (lw_at lw_m1 13 rfl) rfl)⟩
set_option maxRecDepth 100000 in
theorem gX6_look : mtG mX6_look := ⟨Or.inl ⟨rfl, (lw_g (lw_at lw_m7 113 rfl) rfl)⟩, mtOK_of (by decide +kernel), by decide +kernel, ⟨by decide +kernel, by decide +kernel⟩, (lw_g (lw_at lw_m1 13 rfl) rfl)⟩
set_option maxRecDepth 100000 in
theorem gX6_match : mtG mX6_match := ⟨Or.inl ⟨rfl, (lw_g (lw_at lw_m5 189 rfl) rfl)⟩, mtOK_of (by decide +kernel), by decide +kernel, ⟨by decide +kernel, by decide +kernel⟩, (lw_g (lw_at lw_m1 13 rfl) rfl)⟩
set_option maxRecDepth 100000 in
theorem gX6_need : mtG mX6_need := ⟨Or.inl ⟨rfl, (lw_g (lw_at lw_m5 108 rfl) rfl)⟩, mtOK_of (by decide +kernel), by decide +kernel, ⟨by decide +kernel, by decide +kernel⟩, (lw_g (lw_at lw_m1 13 rfl) rfl)⟩
set_option maxRecDepth 100000 in
theorem gX6_reckon : mtG mX6_reckon := ⟨Or.inl ⟨rfl, (lw_g (lw_at lw_m5 216 rfl) rfl)⟩, mtOK_of (by decide +kernel), by decide +kernel, ⟨by decide +kernel, by decide +kernel⟩, (lw_g (lw_at lw_m1 13 rfl) rfl)⟩
set_option maxRecDepth 100000 in
theorem gX6_start : mtG mX6_start := ⟨Or.inl ⟨rfl, (lw_g (lw_at lw_m5 104 rfl) rfl)⟩, mtOK_of (by decide +kernel), by decide +kernel, ⟨by decide +kernel, by decide +kernel⟩, (lw_g (lw_at lw_m1 13 rfl) rfl)⟩
set_option maxRecDepth 100000 in
theorem gX6_step : mtG mX6_step := ⟨Or.inl ⟨rfl, (lw_g (lw_at lw_m5 126 rfl) rfl)⟩, mtOK_of (by decide +kernel), by decide +kernel, ⟨by decide +kernel, by decide +kernel⟩, (lw_g (lw_at lw_m1 13 rfl) rfl)⟩
set_option maxRecDepth 100000 in
theorem gX6_use : mtG mX6_use := ⟨Or.inl ⟨rfl, (lw_g (lw_at lw_m5 135 rfl) rfl)⟩, mtOK_of (by decide +kernel), by decide +kernel, ⟨by decide +kernel, by decide +kernel⟩, (lw_g (lw_at lw_m1 13 rfl) rfl)⟩
set_option maxRecDepth 100000 in
theorem gX15_init : mtG mX15_init := ⟨Or.inl ⟨rfl, (lw_g (lw_at lw_m5 86 rfl) rfl)⟩, mtOK_of (by decide +kernel), by decide +kernel, ⟨by decide +kernel, by decide +kernel⟩, (lw_g (lw_at lw_m1 39 rfl) rfl)⟩
set_option maxRecDepth 100000 in
theorem gX2_constant : mtG mX2_constant := ⟨Or.inl ⟨rfl, (lw_g (lw_at lw_m4 218 rfl) rfl)⟩, mtOK_of (by decide +kernel), by decide +kernel, ⟨by decide +kernel, by decide +kernel⟩, (lw_g (lw_at lw_m1 2 rfl) rfl)⟩
set_option maxRecDepth 100000 in
theorem gX2_init : mtG mX2_init := ⟨Or.inl ⟨rfl, (lw_g (lw_at lw_m1 58 rfl) rfl)⟩, mtOK_of (by decide +kernel), by decide +kernel, ⟨by decide +kernel, by decide +kernel⟩, (lw_g (lw_at lw_m1 2 rfl) rfl)⟩
set_option maxRecDepth 100000 in
theorem gX2_meaning : mtG mX2_meaning := ⟨Or.inl ⟨rfl, (lw_g (lw_at lw_m4 222 rfl) rfl)⟩, mtOK_of (by decide +kernel), by decide +kernel, ⟨by decide +kernel, by decide +kernel⟩, (lw_g (lw_at lw_m1 2 rfl) rfl)⟩
set_option maxRecDepth 100000 in
theorem gX2_programOf : mtG mX2_programOf := ⟨Or.inl ⟨rfl, (lw_g (lw_at lw_m5 11 rfl) rfl)⟩, mtOK_of (by decide +kernel), by decide +kernel, ⟨by decide +kernel, by decide +kernel⟩, (lw_g (lw_at lw_m1 2 rfl) rfl)⟩
set_option maxRecDepth 100000 in
theorem gX11_init : mtG mX11_init := ⟨Or.inl ⟨rfl, (lw_g (lw_at lw_m4 35 rfl) rfl)⟩, mtOK_of (by decide +kernel), by decide +kernel, ⟨by decide +kernel, by decide +kernel⟩, (lw_g (lw_at lw_m1 32 rfl) rfl)⟩
set_option maxRecDepth 100000 in
theorem gX9_init : mtG mX9_init := ⟨Or.inl ⟨rfl, (lw_g (lw_at lw_m2 18 rfl) rfl)⟩, mtOK_of (by decide +kernel), by decide +kernel, ⟨by decide +kernel, by decide +kernel⟩, (lw_g (lw_at lw_m1 16 rfl) rfl)⟩
set_option maxRecDepth 100000 in
theorem gX9_is : mtG mX9_is := ⟨Or.inl ⟨rfl, (lw_g (lw_at lw_m4 180 rfl) rfl)⟩, mtOK_of (by decide +kernel), by decide +kernel, ⟨by decide +kernel, by decide +kernel⟩, (lw_g (lw_at lw_m1 16 rfl) rfl)⟩
set_option maxRecDepth 100000 in
theorem gX9_seen : mtG mX9_seen := ⟨Or.inl ⟨rfl, (lw_g (lw_at lw_m5 176 rfl) rfl)⟩, mtOK_of (by decide +kernel), by decide +kernel, ⟨by decide +kernel, by decide +kernel⟩, (lw_g (lw_at lw_m1 16 rfl) rfl)⟩
set_option maxRecDepth 100000 in
theorem gX7_begin : mtG mX7_begin := ⟨Or.inl ⟨rfl, (lw_g (lw_at lw_m5 149 rfl) rfl)⟩, mtOK_of (by decide +kernel), by decide +kernel, ⟨by decide +kernel, by decide +kernel⟩, (lw_g (lw_at lw_m1 14 rfl) rfl)⟩
set_option maxRecDepth 100000 in
theorem gX7_init : mtG mX7_init := ⟨Or.inl ⟨rfl, (lw_g (lw_at lw_m1 220 rfl) rfl)⟩, mtOK_of (by decide +kernel), by decide +kernel, ⟨by decide +kernel, by decide +kernel⟩, (lw_g (lw_at lw_m1 14 rfl) rfl)⟩
set_option maxRecDepth 100000 in
theorem gX7_level : mtG mX7_level := ⟨Or.inl ⟨rfl, (lw_g (lw_at lw_m6 2 rfl) rfl)⟩, mtOK_of (by decide +kernel), by decide +kernel, ⟨by decide +kernel, by decide +kernel⟩, (lw_g (lw_at lw_m1 14 rfl) rfl)⟩
set_option maxRecDepth 100000 in
theorem gX7_lies : mtG mX7_lies := ⟨Or.inl ⟨rfl, (lw_g (lw_at lw_m6 15 rfl) rfl)⟩, mtOK_of (by decide +kernel), by decide +kernel, ⟨by decide +kernel, by decide +kernel⟩, (lw_g (lw_at lw_m1 14 rfl) rfl)⟩
set_option maxRecDepth 100000 in
theorem gX7_nodes : mtG mX7_nodes := ⟨Or.inl ⟨rfl, (lw_g (lw_at lw_m5 145 rfl) rfl)⟩, mtOK_of (by decide +kernel), by decide +kernel, ⟨by decide +kernel, by decide +kernel⟩, (lw_g (lw_at lw_m1 14 rfl) rfl)⟩
set_option maxRecDepth 100000 in
theorem gX7_pair : mtG mX7_pair := ⟨Or.inl ⟨rfl, (lw_g (lw_at lw_m5 234 rfl) rfl)⟩, mtOK_of (by decide +kernel), by decide +kernel, ⟨by decide +kernel, by decide +kernel⟩, (lw_g (lw_at lw_m1 14 rfl) rfl)⟩
set_option maxRecDepth 100000 in
theorem gX7_pop : mtG mX7_pop := ⟨Or.inl ⟨rfl, (lw_g (lw_at lw_m5 161 rfl) rfl)⟩, mtOK_of (by decide +kernel), by decide +kernel, ⟨by decide +kernel, by decide +kernel⟩, (lw_g (lw_at lw_m1 14 rfl) rfl)⟩
set_option maxRecDepth 100000 in
theorem gX7_push : mtG mX7_push := ⟨Or.inl ⟨rfl, (lw_g (lw_at lw_m5 179 rfl) rfl)⟩, mtOK_of (by decide +kernel), by decide +kernel, ⟨by decide +kernel, by decide +kernel⟩, (lw_g (lw_at lw_m1 14 rfl) rfl)⟩
set_option maxRecDepth 100000 in
theorem gX7_same : mtG mX7_same := ⟨Or.inl ⟨rfl, (lw_g (lw_at lw_m5 230 rfl) rfl)⟩, mtOK_of (by decide +kernel), by decide +kernel, ⟨by decide +kernel, by decide +kernel⟩, (lw_g (lw_at lw_m1 14 rfl) rfl)⟩
set_option maxRecDepth 100000 in
theorem gX7_unite : mtG mX7_unite := ⟨Or.inl ⟨rfl, (lw_g (lw_at lw_m6 10 rfl) rfl)⟩, mtOK_of (by decide +kernel), by decide +kernel, ⟨by decide +kernel, by decide +kernel⟩, (lw_g (lw_at lw_m1 14 rfl) rfl)⟩
set_option maxRecDepth 100000 in
theorem gX5_init : mtG mX5_init := ⟨Or.inl ⟨rfl, (lw_g (lw_at lw_m1 193 rfl) rfl)⟩, mtOK_of (by decide +kernel), by decide +kernel, ⟨by decide +kernel, by decide +kernel⟩, (lw_g (lw_at lw_m1 12 rfl) rfl)⟩
set_option maxRecDepth 100000 in
theorem gX5_one : mtG mX5_one := ⟨Or.inl ⟨rfl, (lw_g (lw_at lw_m6 65 rfl) rfl)⟩, mtOK_of (by decide +kernel), by decide +kernel, ⟨by decide +kernel, by decide +kernel⟩, (lw_g (lw_at lw_m1 12 rfl) rfl)⟩
set_option maxRecDepth 100000 in
theorem gX5_write : mtG mX5_write := ⟨Or.inl ⟨rfl, (lw_g (lw_at lw_m6 53 rfl) rfl)⟩, mtOK_of (by decide +kernel), by decide +kernel, ⟨by decide +kernel, by decide +kernel⟩, (lw_g (lw_at lw_m1 12 rfl) rfl)⟩
set_option maxRecDepth 100000 in
theorem gX0_declare : mtG mX0_declare := ⟨Or.inr (lw_g (lw_at lw_m6 139 rfl) rfl), mtOK_of (by decide +kernel), by decide +kernel, ⟨by decide +kernel, by decide +kernel⟩, (lw_g (lw_at lw_m1 0 rfl) rfl)⟩
set_option maxRecDepth 100000 in
theorem gX0_lemma : mtG mX0_lemma := ⟨Or.inr (lw_g (lw_at lw_m7 137 rfl) rfl), mtOK_of (by decide +kernel), by decide +kernel, ⟨by decide +kernel, by decide +kernel⟩, (lw_g (lw_at lw_m1 0 rfl) rfl)⟩
set_option maxRecDepth 100000 in
theorem gX0_program : mtG mX0_program := ⟨Or.inr (lw_g (lw_at lw_m6 225 rfl) rfl), mtOK_of (by decide +kernel), by decide +kernel, ⟨by decide +kernel, by decide +kernel⟩, (lw_g (lw_at lw_m1 0 rfl) rfl)⟩
set_option maxRecDepth 100000 in
theorem gX0_retract : mtG mX0_retract := ⟨Or.inr (lw_g (lw_at lw_m7 149 rfl) rfl), mtOK_of (by decide +kernel), by decide +kernel, ⟨by decide +kernel, by decide +kernel⟩, (lw_g (lw_at lw_m1 0 rfl) rfl)⟩
set_option maxRecDepth 100000 in
theorem gX0_run : mtG mX0_run := ⟨Or.inr (lw_g (lw_at lw_m7 156 rfl) rfl), mtOK_of (by decide +kernel), by decide +kernel, ⟨by decide +kernel, by decide +kernel⟩, (lw_g (lw_at lw_m1 0 rfl) rfl)⟩
set_option maxRecDepth 100000 in
theorem gX10_add : mtG mX10_add := ⟨Or.inl ⟨rfl, (lw_g (lw_at lw_m9 136 rfl) rfl)⟩, mtOK_of (by decide +kernel), by decide +kernel, ⟨by decide +kernel, by decide +kernel⟩, (lw_g (lw_at lw_m1 19 rfl) rfl)⟩
set_option maxRecDepth 100000 in
theorem gX10_begin : mtG mX10_begin := ⟨Or.inl ⟨rfl, (lw_g (lw_at lw_m9 64 rfl) rfl)⟩, mtOK_of (by decide +kernel), by decide +kernel, ⟨by decide +kernel, by decide +kernel⟩, (lw_g (lw_at lw_m1 19 rfl) rfl)⟩
set_option maxRecDepth 100000 in
theorem gX10_beginCode : mtG mX10_beginCode := ⟨Or.inl ⟨rfl, (lw_g (lw_at lw_m9 24 rfl) rfl)⟩, mtOK_of (by decide +kernel), by decide +kernel, ⟨by decide +kernel, by decide +kernel⟩, (lw_g (lw_at lw_m1 19 rfl) rfl)⟩
set_option maxRecDepth 100000 in
theorem gX10_beginPart : mtG mX10_beginPart := ⟨Or.inl ⟨rfl, (lw_g (lw_at lw_m9 12 rfl) rfl)⟩, mtOK_of (by decide +kernel), by decide +kernel, ⟨by decide +kernel, by decide +kernel⟩, (lw_g (lw_at lw_m1 19 rfl) rfl)⟩
set_option maxRecDepth 100000 in
theorem gX10_beginPattern : mtG mX10_beginPattern := ⟨Or.inl ⟨rfl, (lw_g (lw_at lw_m9 28 rfl) rfl)⟩, mtOK_of (by decide +kernel), by decide +kernel, ⟨by decide +kernel, by decide +kernel⟩, (lw_g (lw_at lw_m1 19 rfl) rfl)⟩
set_option maxRecDepth 100000 in
theorem gX10_beginTerm : mtG mX10_beginTerm := ⟨Or.inl ⟨rfl, (lw_g (lw_at lw_m8 238 rfl) rfl)⟩, mtOK_of (by decide +kernel), by decide +kernel, ⟨by decide +kernel, by decide +kernel⟩, (lw_g (lw_at lw_m1 19 rfl) rfl)⟩
set_option maxRecDepth 100000 in
theorem gX10_behind : mtG mX10_behind := ⟨Or.inl ⟨rfl, (lw_g (lw_at lw_m9 84 rfl) rfl)⟩, mtOK_of (by decide +kernel), by decide +kernel, ⟨by decide +kernel, by decide +kernel⟩, (lw_g (lw_at lw_m1 19 rfl) rfl)⟩
set_option maxRecDepth 100000 in
theorem gX10_below : mtG mX10_below := ⟨Or.inl ⟨rfl, (lw_g (lw_at lw_m9 88 rfl) rfl)⟩, mtOK_of (by decide +kernel), by decide +kernel, ⟨by decide +kernel, by decide +kernel⟩, (lw_g (lw_at lw_m1 19 rfl) rfl)⟩
set_option maxRecDepth 100000 in
theorem gX10_bind : mtG mX10_bind := ⟨Or.inl ⟨rfl, (lw_g (lw_at lw_m9 96 rfl) rfl)⟩, mtOK_of (by decide +kernel), by decide +kernel, ⟨by decide +kernel, by decide +kernel⟩, (lw_g (lw_at lw_m1 19 rfl) rfl)⟩
set_option maxRecDepth 100000 in
theorem gX10_call : mtG mX10_call := ⟨Or.inl ⟨rfl, (lw_g (lw_at lw_m9 112 rfl) rfl)⟩, mtOK_of (by decide +kernel), by decide +kernel, ⟨by decide +kernel, by decide +kernel⟩, (lw_g (lw_at lw_m1 19 rfl) rfl)⟩
set_option maxRecDepth 100000 in
theorem gX10_charAt : mtG mX10_charAt := ⟨Or.inl ⟨rfl, (lw_g (lw_at lw_m10 5 rfl) rfl)⟩, mtOK_of (by decide +kernel), by decide +kernel, ⟨by decide +kernel, by decide +kernel⟩, (lw_g (lw_at lw_m1 19 rfl) rfl)⟩
set_option maxRecDepth 100000 in
theorem gX10_check : mtG mX10_check := ⟨Or.inl ⟨rfl, (lw_g (lw_at lw_m9 200 rfl) rfl)⟩, mtOK_of (by decide +kernel), by decide +kernel, ⟨by decide +kernel, by decide +kernel⟩, (lw_g (lw_at lw_m1 19 rfl) rfl)⟩
set_option maxRecDepth 100000 in
theorem gX10_child : mtG mX10_child := ⟨Or.inl ⟨rfl, (lw_g (lw_at lw_m9 116 rfl) rfl)⟩, mtOK_of (by decide +kernel), by decide +kernel, ⟨by decide +kernel, by decide +kernel⟩, (lw_g (lw_at lw_m1 19 rfl) rfl)⟩
set_option maxRecDepth 100000 in
theorem gX10_choose : mtG mX10_choose := ⟨Or.inl ⟨rfl, (lw_g (lw_at lw_m9 144 rfl) rfl)⟩, mtOK_of (by decide +kernel), by decide +kernel, ⟨by decide +kernel, by decide +kernel⟩, (lw_g (lw_at lw_m1 19 rfl) rfl)⟩
set_option maxRecDepth 100000 in
theorem gX10_compare : mtG mX10_compare := ⟨Or.inl ⟨rfl, (lw_g (lw_at lw_m9 148 rfl) rfl)⟩, mtOK_of (by decide +kernel), by decide +kernel, ⟨by decide +kernel, by decide +kernel⟩, (lw_g (lw_at lw_m1 19 rfl) rfl)⟩
set_option maxRecDepth 100000 in
theorem gX10_condition : mtG mX10_condition := ⟨Or.inl ⟨rfl, (lw_g (lw_at lw_m9 76 rfl) rfl)⟩, mtOK_of (by decide +kernel), by decide +kernel, ⟨by decide +kernel, by decide +kernel⟩, (lw_g (lw_at lw_m1 19 rfl) rfl)⟩
set_option maxRecDepth 100000 in
theorem gX10_declare : mtG mX10_declare := ⟨Or.inl ⟨rfl, (lw_g (lw_at lw_m8 211 rfl) rfl)⟩, mtOK_of (by decide +kernel), by decide +kernel, ⟨by decide +kernel, by decide +kernel⟩, (lw_g (lw_at lw_m1 19 rfl) rfl)⟩
set_option maxRecDepth 100000 in
theorem gX10_draw : mtG mX10_draw := ⟨Or.inl ⟨rfl, (lw_g (lw_at lw_m9 204 rfl) rfl)⟩, mtOK_of (by decide +kernel), by decide +kernel, ⟨by decide +kernel, by decide +kernel⟩, (lw_g (lw_at lw_m1 19 rfl) rfl)⟩
set_option maxRecDepth 100000 in
theorem gX10_drawOne : mtG mX10_drawOne := ⟨Or.inl ⟨rfl, (lw_g (lw_at lw_m9 208 rfl) rfl)⟩, mtOK_of (by decide +kernel), by decide +kernel, ⟨by decide +kernel, by decide +kernel⟩, (lw_g (lw_at lw_m1 19 rfl) rfl)⟩
set_option maxRecDepth 100000 in
theorem gX10_enter : mtG mX10_enter := ⟨Or.inl ⟨rfl, (lw_g (lw_at lw_m9 100 rfl) rfl)⟩, mtOK_of (by decide +kernel), by decide +kernel, ⟨by decide +kernel, by decide +kernel⟩, (lw_g (lw_at lw_m1 19 rfl) rfl)⟩
set_option maxRecDepth 100000 in
theorem gX10_firstPair : mtG mX10_firstPair := ⟨Or.inl ⟨rfl, (lw_g (lw_at lw_m9 152 rfl) rfl)⟩, mtOK_of (by decide +kernel), by decide +kernel, ⟨by decide +kernel, by decide +kernel⟩, (lw_g (lw_at lw_m1 19 rfl) rfl)⟩
set_option maxRecDepth 100000 in
theorem gX10_further : mtG mX10_further := ⟨Or.inl ⟨rfl, (lw_g (lw_at lw_m9 132 rfl) rfl)⟩, mtOK_of (by decide +kernel), by decide +kernel, ⟨by decide +kernel, by decide +kernel⟩, (lw_g (lw_at lw_m1 19 rfl) rfl)⟩
set_option maxRecDepth 100000 in
theorem gX10_give : mtG mX10_give := ⟨Or.inl ⟨rfl, (lw_g (lw_at lw_m9 108 rfl) rfl)⟩, mtOK_of (by decide +kernel), by decide +kernel, ⟨by decide +kernel, by decide +kernel⟩, (lw_g (lw_at lw_m1 19 rfl) rfl)⟩
set_option maxRecDepth 100000 in
theorem gX10_goOn : mtG mX10_goOn := ⟨Or.inl ⟨rfl, (lw_g (lw_at lw_m9 72 rfl) rfl)⟩, mtOK_of (by decide +kernel), by decide +kernel, ⟨by decide +kernel, by decide +kernel⟩, (lw_g (lw_at lw_m1 19 rfl) rfl)⟩
set_option maxRecDepth 100000 in
theorem gX10_init : mtG mX10_init := ⟨Or.inl ⟨rfl, (lw_g (lw_at lw_m7 174 rfl) rfl)⟩, mtOK_of (by decide +kernel), by decide +kernel, ⟨by decide +kernel, by decide +kernel⟩, (lw_g (lw_at lw_m1 19 rfl) rfl)⟩
set_option maxRecDepth 100000 in
theorem gX10_isBound : mtG mX10_isBound := ⟨Or.inl ⟨rfl, (lw_g (lw_at lw_m9 196 rfl) rfl)⟩, mtOK_of (by decide +kernel), by decide +kernel, ⟨by decide +kernel, by decide +kernel⟩, (lw_g (lw_at lw_m1 19 rfl) rfl)⟩
set_option maxRecDepth 100000 in
theorem gX10_isConditioned : mtG mX10_isConditioned := ⟨Or.inl ⟨rfl, (lw_g (lw_at lw_m9 68 rfl) rfl)⟩, mtOK_of (by decide +kernel), by decide +kernel, ⟨by decide +kernel, by decide +kernel⟩, (lw_g (lw_at lw_m1 19 rfl) rfl)⟩
set_option maxRecDepth 100000 in
theorem gX10_isDigit : mtG mX10_isDigit := ⟨Or.inl ⟨rfl, (lw_g (lw_at lw_m9 4 rfl) rfl)⟩, mtOK_of (by decide +kernel), by decide +kernel, ⟨by decide +kernel, by decide +kernel⟩, (lw_g (lw_at lw_m1 19 rfl) rfl)⟩
set_option maxRecDepth 100000 in
theorem gX10_isLarge : mtG mX10_isLarge := ⟨Or.inl ⟨rfl, (lw_g (lw_at lw_m9 120 rfl) rfl)⟩, mtOK_of (by decide +kernel), by decide +kernel, ⟨by decide +kernel, by decide +kernel⟩, (lw_g (lw_at lw_m1 19 rfl) rfl)⟩
set_option maxRecDepth 100000 in
theorem gX10_isLetter : mtG mX10_isLetter := ⟨Or.inl ⟨rfl, (lw_g (lw_at lw_m8 218 rfl) rfl)⟩, mtOK_of (by decide +kernel), by decide +kernel, ⟨by decide +kernel, by decide +kernel⟩, (lw_g (lw_at lw_m1 19 rfl) rfl)⟩
set_option maxRecDepth 100000 in
theorem gX10_isLevel : mtG mX10_isLevel := ⟨Or.inl ⟨rfl, (lw_g (lw_at lw_m9 156 rfl) rfl)⟩, mtOK_of (by decide +kernel), by decide +kernel, ⟨by decide +kernel, by decide +kernel⟩, (lw_g (lw_at lw_m1 19 rfl) rfl)⟩
set_option maxRecDepth 100000 in
theorem gX10_isRight : mtG mX10_isRight := ⟨Or.inl ⟨rfl, (lw_g (lw_at lw_m9 32 rfl) rfl)⟩, mtOK_of (by decide +kernel), by decide +kernel, ⟨by decide +kernel, by decide +kernel⟩, (lw_g (lw_at lw_m1 19 rfl) rfl)⟩
set_option maxRecDepth 100000 in
theorem gX10_isRightCode : mtG mX10_isRightCode := ⟨Or.inl ⟨rfl, (lw_g (lw_at lw_m9 192 rfl) rfl)⟩, mtOK_of (by decide +kernel), by decide +kernel, ⟨by decide +kernel, by decide +kernel⟩, (lw_g (lw_at lw_m1 19 rfl) rfl)⟩
set_option maxRecDepth 100000 in
theorem gX10_isRightCondition : mtG mX10_isRightCondition := ⟨Or.inl ⟨rfl, (lw_g (lw_at lw_m9 44 rfl) rfl)⟩, mtOK_of (by decide +kernel), by decide +kernel, ⟨by decide +kernel, by decide +kernel⟩, (lw_g (lw_at lw_m1 19 rfl) rfl)⟩
set_option maxRecDepth 100000 in
theorem gX10_isType : mtG mX10_isType := ⟨Or.inl ⟨rfl, (lw_g (lw_at lw_m9 180 rfl) rfl)⟩, mtOK_of (by decide +kernel), by decide +kernel, ⟨by decide +kernel, by decide +kernel⟩, (lw_g (lw_at lw_m1 19 rfl) rfl)⟩
set_option maxRecDepth 100000 in
theorem gX10_isVariable : mtG mX10_isVariable := ⟨Or.inl ⟨rfl, (lw_g (lw_at lw_m9 1 rfl) rfl)⟩, mtOK_of (by decide +kernel), by decide +kernel, ⟨by decide +kernel, by decide +kernel⟩, (lw_g (lw_at lw_m1 19 rfl) rfl)⟩
set_option maxRecDepth 100000 in
theorem gX10_kind : mtG mX10_kind := ⟨Or.inl ⟨rfl, (lw_g (lw_at lw_m9 233 rfl) rfl)⟩, mtOK_of (by decide +kernel), by decide +kernel, ⟨by decide +kernel, by decide +kernel⟩, (lw_g (lw_at lw_m1 19 rfl) rfl)⟩
set_option maxRecDepth 100000 in
theorem gX10_lemma : mtG mX10_lemma := ⟨Or.inl ⟨rfl, (lw_g (lw_at lw_m9 217 rfl) rfl)⟩, mtOK_of (by decide +kernel), by decide +kernel, ⟨by decide +kernel, by decide +kernel⟩, (lw_g (lw_at lw_m1 19 rfl) rfl)⟩
set_option maxRecDepth 100000 in
theorem gX10_length : mtG mX10_length := ⟨Or.inl ⟨rfl, (lw_g (lw_at lw_m10 1 rfl) rfl)⟩, mtOK_of (by decide +kernel), by decide +kernel, ⟨by decide +kernel, by decide +kernel⟩, (lw_g (lw_at lw_m1 19 rfl) rfl)⟩
set_option maxRecDepth 100000 in
theorem gX10_lies : mtG mX10_lies := ⟨Or.inl ⟨rfl, (lw_g (lw_at lw_m9 168 rfl) rfl)⟩, mtOK_of (by decide +kernel), by decide +kernel, ⟨by decide +kernel, by decide +kernel⟩, (lw_g (lw_at lw_m1 19 rfl) rfl)⟩
set_option maxRecDepth 100000 in
theorem gX10_makeSame : mtG mX10_makeSame := ⟨Or.inl ⟨rfl, (lw_g (lw_at lw_m9 164 rfl) rfl)⟩, mtOK_of (by decide +kernel), by decide +kernel, ⟨by decide +kernel, by decide +kernel⟩, (lw_g (lw_at lw_m1 19 rfl) rfl)⟩
set_option maxRecDepth 100000 in
theorem gX10_match : mtG mX10_match := ⟨Or.inl ⟨rfl, (lw_g (lw_at lw_m9 140 rfl) rfl)⟩, mtOK_of (by decide +kernel), by decide +kernel, ⟨by decide +kernel, by decide +kernel⟩, (lw_g (lw_at lw_m1 19 rfl) rfl)⟩
set_option maxRecDepth 100000 in
theorem gX10_mayName : mtG mX10_mayName := ⟨Or.inl ⟨rfl, (lw_g (lw_at lw_m8 215 rfl) rfl)⟩, mtOK_of (by decide +kernel), by decide +kernel, ⟨by decide +kernel, by decide +kernel⟩, (lw_g (lw_at lw_m1 19 rfl) rfl)⟩
set_option maxRecDepth 100000 in
theorem gX10_meaning : mtG mX10_meaning := ⟨Or.inl ⟨rfl, (lw_g (lw_at lw_m9 104 rfl) rfl)⟩, mtOK_of (by decide +kernel), by decide +kernel, ⟨by decide +kernel, by decide +kernel⟩, (lw_g (lw_at lw_m1 19 rfl) rfl)⟩
set_option maxRecDepth 100000 in
theorem gX10_nextPair : mtG mX10_nextPair := ⟨Or.inl ⟨rfl, (lw_g (lw_at lw_m9 160 rfl) rfl)⟩, mtOK_of (by decide +kernel), by decide +kernel, ⟨by decide +kernel, by decide +kernel⟩, (lw_g (lw_at lw_m1 19 rfl) rfl)⟩
set_option maxRecDepth 100000 in
theorem gX10_noNames : mtG mX10_noNames := ⟨Or.inl ⟨rfl, (lw_g (lw_at lw_m9 40 rfl) rfl)⟩, mtOK_of (by decide +kernel), by decide +kernel, ⟨by decide +kernel, by decide +kernel⟩, (lw_g (lw_at lw_m1 19 rfl) rfl)⟩
set_option maxRecDepth 100000 in
theorem gX10_node : mtG mX10_node := ⟨Or.inl ⟨rfl, (lw_g (lw_at lw_m9 8 rfl) rfl)⟩, mtOK_of (by decide +kernel), by decide +kernel, ⟨by decide +kernel, by decide +kernel⟩, (lw_g (lw_at lw_m1 19 rfl) rfl)⟩
set_option maxRecDepth 100000 in
theorem gX10_nothing : mtG mX10_nothing := ⟨Or.inl ⟨rfl, (lw_g (lw_at lw_m9 36 rfl) rfl)⟩, mtOK_of (by decide +kernel), by decide +kernel, ⟨by decide +kernel, by decide +kernel⟩, (lw_g (lw_at lw_m1 19 rfl) rfl)⟩
set_option maxRecDepth 100000 in
theorem gX10_parameters : mtG mX10_parameters := ⟨Or.inl ⟨rfl, (lw_g (lw_at lw_m9 237 rfl) rfl)⟩, mtOK_of (by decide +kernel), by decide +kernel, ⟨by decide +kernel, by decide +kernel⟩, (lw_g (lw_at lw_m1 19 rfl) rfl)⟩
set_option maxRecDepth 100000 in
theorem gX10_part : mtG mX10_part := ⟨Or.inl ⟨rfl, (lw_g (lw_at lw_m9 16 rfl) rfl)⟩, mtOK_of (by decide +kernel), by decide +kernel, ⟨by decide +kernel, by decide +kernel⟩, (lw_g (lw_at lw_m1 19 rfl) rfl)⟩
set_option maxRecDepth 100000 in
theorem gX10_program : mtG mX10_program := ⟨Or.inl ⟨rfl, (lw_g (lw_at lw_m9 188 rfl) rfl)⟩, mtOK_of (by decide +kernel), by decide +kernel, ⟨by decide +kernel, by decide +kernel⟩, (lw_g (lw_at lw_m1 19 rfl) rfl)⟩
set_option maxRecDepth 100000 in
theorem gX10_push : mtG mX10_push := ⟨Or.inl ⟨rfl, (lw_g (lw_at lw_m8 226 rfl) rfl)⟩, mtOK_of (by decide +kernel), by decide +kernel, ⟨by decide +kernel, by decide +kernel⟩, (lw_g (lw_at lw_m1 19 rfl) rfl)⟩
set_option maxRecDepth 100000 in
theorem gX10_read : mtG mX10_read := ⟨Or.inl ⟨rfl, (lw_g (lw_at lw_m8 222 rfl) rfl)⟩, mtOK_of (by decide +kernel), by decide +kernel, ⟨by decide +kernel, by decide +kernel⟩, (lw_g (lw_at lw_m1 19 rfl) rfl)⟩
set_option maxRecDepth 100000 in
theorem gX10_remember : mtG mX10_remember := ⟨Or.inl ⟨rfl, (lw_g (lw_at lw_m9 184 rfl) rfl)⟩, mtOK_of (by decide +kernel), by decide +kernel, ⟨by decide +kernel, by decide +kernel⟩, (lw_g (lw_at lw_m1 19 rfl) rfl)⟩
set_option maxRecDepth 100000 in
theorem gX10_retract : mtG mX10_retract := ⟨Or.inl ⟨rfl, (lw_g (lw_at lw_m9 221 rfl) rfl)⟩, mtOK_of (by decide +kernel), by decide +kernel, ⟨by decide +kernel, by decide +kernel⟩, (lw_g (lw_at lw_m1 19 rfl) rfl)⟩
set_option maxRecDepth 100000 in
theorem gX10_run : mtG mX10_run := ⟨Or.inl ⟨rfl, (lw_g (lw_at lw_m9 225 rfl) rfl)⟩, mtOK_of (by decide +kernel), by decide +kernel, ⟨by decide +kernel, by decide +kernel⟩, (lw_g (lw_at lw_m1 19 rfl) rfl)⟩
set_option maxRecDepth 100000 in
theorem gX10_runs : mtG mX10_runs := ⟨Or.inl ⟨rfl, (lw_g (lw_at lw_m9 92 rfl) rfl)⟩, mtOK_of (by decide +kernel), by decide +kernel, ⟨by decide +kernel, by decide +kernel⟩, (lw_g (lw_at lw_m1 19 rfl) rfl)⟩
set_option maxRecDepth 100000 in
theorem gX10_seen : mtG mX10_seen := ⟨Or.inl ⟨rfl, (lw_g (lw_at lw_m9 128 rfl) rfl)⟩, mtOK_of (by decide +kernel), by decide +kernel, ⟨by decide +kernel, by decide +kernel⟩, (lw_g (lw_at lw_m1 19 rfl) rfl)⟩
set_option maxRecDepth 100000 in
theorem gX10_setOut : mtG mX10_setOut := ⟨Or.inl ⟨rfl, (lw_g (lw_at lw_m9 124 rfl) rfl)⟩, mtOK_of (by decide +kernel), by decide +kernel, ⟨by decide +kernel, by decide +kernel⟩, (lw_g (lw_at lw_m1 19 rfl) rfl)⟩
set_option maxRecDepth 100000 in
theorem gX10_settle : mtG mX10_settle := ⟨Or.inl ⟨rfl, (lw_g (lw_at lw_m9 172 rfl) rfl)⟩, mtOK_of (by decide +kernel), by decide +kernel, ⟨by decide +kernel, by decide +kernel⟩, (lw_g (lw_at lw_m1 19 rfl) rfl)⟩
set_option maxRecDepth 100000 in
theorem gX10_show : mtG mX10_show := ⟨Or.inl ⟨rfl, (lw_g (lw_at lw_m9 213 rfl) rfl)⟩, mtOK_of (by decide +kernel), by decide +kernel, ⟨by decide +kernel, by decide +kernel⟩, (lw_g (lw_at lw_m1 19 rfl) rfl)⟩
set_option maxRecDepth 100000 in
theorem gX10_simple : mtG mX10_simple := ⟨Or.inl ⟨rfl, (lw_g (lw_at lw_m9 52 rfl) rfl)⟩, mtOK_of (by decide +kernel), by decide +kernel, ⟨by decide +kernel, by decide +kernel⟩, (lw_g (lw_at lw_m1 19 rfl) rfl)⟩
set_option maxRecDepth 100000 in
theorem gX10_steps : mtG mX10_steps := ⟨Or.inl ⟨rfl, (lw_g (lw_at lw_m9 229 rfl) rfl)⟩, mtOK_of (by decide +kernel), by decide +kernel, ⟨by decide +kernel, by decide +kernel⟩, (lw_g (lw_at lw_m1 19 rfl) rfl)⟩
set_option maxRecDepth 100000 in
theorem gX10_suits : mtG mX10_suits := ⟨Or.inl ⟨rfl, (lw_g (lw_at lw_m9 176 rfl) rfl)⟩, mtOK_of (by decide +kernel), by decide +kernel, ⟨by decide +kernel, by decide +kernel⟩, (lw_g (lw_at lw_m1 19 rfl) rfl)⟩
set_option maxRecDepth 100000 in
theorem gX10_take : mtG mX10_take := ⟨Or.inl ⟨rfl, (lw_g (lw_at lw_m8 230 rfl) rfl)⟩, mtOK_of (by decide +kernel), by decide +kernel, ⟨by decide +kernel, by decide +kernel⟩, (lw_g (lw_at lw_m1 19 rfl) rfl)⟩
set_option maxRecDepth 100000 in
theorem gX10_takeCoded : mtG mX10_takeCoded := ⟨Or.inl ⟨rfl, (lw_g (lw_at lw_m9 20 rfl) rfl)⟩, mtOK_of (by decide +kernel), by decide +kernel, ⟨by decide +kernel, by decide +kernel⟩, (lw_g (lw_at lw_m1 19 rfl) rfl)⟩
set_option maxRecDepth 100000 in
theorem gX10_takeDeclared : mtG mX10_takeDeclared := ⟨Or.inl ⟨rfl, (lw_g (lw_at lw_m8 234 rfl) rfl)⟩, mtOK_of (by decide +kernel), by decide +kernel, ⟨by decide +kernel, by decide +kernel⟩, (lw_g (lw_at lw_m1 19 rfl) rfl)⟩
set_option maxRecDepth 100000 in
theorem gX10_thrown : mtG mX10_thrown := ⟨Or.inl ⟨rfl, (lw_g (lw_at lw_m8 199 rfl) rfl)⟩, mtOK_of (by decide +kernel), by decide +kernel, ⟨by decide +kernel, by decide +kernel⟩, (lw_g (lw_at lw_m1 19 rfl) rfl)⟩
set_option maxRecDepth 100000 in
theorem gX10_type : mtG mX10_type := ⟨Or.inl ⟨rfl, (lw_g (lw_at lw_m8 203 rfl) rfl)⟩, mtOK_of (by decide +kernel), by decide +kernel, ⟨by decide +kernel, by decide +kernel⟩, (lw_g (lw_at lw_m1 19 rfl) rfl)⟩
set_option maxRecDepth 100000 in
theorem gX10_typeOf : mtG mX10_typeOf := ⟨Or.inl ⟨rfl, (lw_g (lw_at lw_m9 48 rfl) rfl)⟩, mtOK_of (by decide +kernel), by decide +kernel, ⟨by decide +kernel, by decide +kernel⟩, (lw_g (lw_at lw_m1 19 rfl) rfl)⟩
set_option maxRecDepth 100000 in
theorem gX10_value : mtG mX10_value := ⟨Or.inl ⟨rfl, (lw_g (lw_at lw_m9 56 rfl) rfl)⟩, mtOK_of (by decide +kernel), by decide +kernel, ⟨by decide +kernel, by decide +kernel⟩, (lw_g (lw_at lw_m1 19 rfl) rfl)⟩
set_option maxRecDepth 100000 in
theorem gX10_valueOf : mtG mX10_valueOf := ⟨Or.inl ⟨rfl, (lw_g (lw_at lw_m9 80 rfl) rfl)⟩, mtOK_of (by decide +kernel), by decide +kernel, ⟨by decide +kernel, by decide +kernel⟩, (lw_g (lw_at lw_m1 19 rfl) rfl)⟩
set_option maxRecDepth 100000 in
theorem gX10_wipe : mtG mX10_wipe := ⟨Or.inl ⟨rfl, (lw_g (lw_at lw_m8 207 rfl) rfl)⟩, mtOK_of (by decide +kernel), by decide +kernel, ⟨by decide +kernel, by decide +kernel⟩, (lw_g (lw_at lw_m1 19 rfl) rfl)⟩
set_option maxRecDepth 100000 in
theorem gX10_wrong : mtG mX10_wrong := ⟨Or.inl ⟨rfl, (lw_g (lw_at lw_m9 60 rfl) rfl)⟩, mtOK_of (by decide +kernel), by decide +kernel, ⟨by decide +kernel, by decide +kernel⟩, (lw_g (lw_at lw_m1 19 rfl) rfl)⟩
set_option maxRecDepth 100000 in
theorem gJ3_append : mtG mJ3_append := ⟨Or.inl ⟨rfl, (lw_g (lw_at lw_m2 136 rfl) rfl)⟩, mtOK_of (by decide +kernel), by decide +kernel, ⟨by decide +kernel, by decide +kernel⟩, (lw_g (lw_at lw_m1 8 rfl) rfl)⟩
set_option maxRecDepth 100000 in
theorem gJ3_append_2 : mtG mJ3_append_2 := ⟨Or.inl ⟨rfl, (lw_g (lw_at lw_m3 55 rfl) rfl)⟩, mtOK_of (by decide +kernel), by decide +kernel, ⟨by decide +kernel, by decide +kernel⟩, (lw_g (lw_at lw_m1 8 rfl) rfl)⟩
set_option maxRecDepth 100000 in
theorem gJ3_append_3 : mtG mJ3_append_3 := ⟨Or.inl ⟨rfl, (lw_g (lw_at lw_m3 102 rfl) rfl)⟩, mtOK_of (by decide +kernel), by decide +kernel, ⟨by decide +kernel, by decide +kernel⟩, (lw_g (lw_at lw_m1 8 rfl) rfl)⟩
set_option maxRecDepth 100000 in
theorem gJ3_charAt : mtG mJ3_charAt := ⟨Or.inl ⟨rfl, (lw_g (lw_at lw_m4 6 rfl) rfl)⟩, mtOK_of (by decide +kernel), by decide +kernel, ⟨by decide +kernel, by decide +kernel⟩, (lw_g (lw_at lw_m1 8 rfl) rfl)⟩
set_option maxRecDepth 100000 in
theorem gJ3_ensureCapacityInternal : mtG mJ3_ensureCapacityInternal := ⟨Or.inl ⟨rfl, (lw_g (lw_at lw_m2 140 rfl) rfl)⟩, mtOK_of (by decide +kernel), by decide +kernel, ⟨by decide +kernel, by decide +kernel⟩, (lw_g (lw_at lw_m1 8 rfl) rfl)⟩
set_option maxRecDepth 100000 in
theorem gJ3_getValue : mtG mJ3_getValue := ⟨Or.inl ⟨rfl, (lw_g (lw_at lw_m3 140 rfl) rfl)⟩, mtOK_of (by decide +kernel), by decide +kernel, ⟨by decide +kernel, by decide +kernel⟩, (lw_g (lw_at lw_m1 8 rfl) rfl)⟩
set_option maxRecDepth 100000 in
theorem gJ3_inflateIfNeededFor : mtG mJ3_inflateIfNeededFor := ⟨Or.inl ⟨rfl, (lw_g (lw_at lw_m3 88 rfl) rfl)⟩, mtOK_of (by decide +kernel), by decide +kernel, ⟨by decide +kernel, by decide +kernel⟩, (lw_g (lw_at lw_m1 8 rfl) rfl)⟩
set_option maxRecDepth 100000 in
theorem gJ3_init : mtG mJ3_init := ⟨Or.inl ⟨rfl, (lw_g (lw_at lw_m1 137 rfl) rfl)⟩, mtOK_of (by decide +kernel), by decide +kernel, ⟨by decide +kernel, by decide +kernel⟩, (lw_g (lw_at lw_m1 8 rfl) rfl)⟩
set_option maxRecDepth 100000 in
theorem gJ3_isLatin1 : mtG mJ3_isLatin1 := ⟨Or.inl ⟨rfl, (lw_g (lw_at lw_m2 176 rfl) rfl)⟩, mtOK_of (by decide +kernel), by decide +kernel, ⟨by decide +kernel, by decide +kernel⟩, (lw_g (lw_at lw_m1 8 rfl) rfl)⟩
set_option maxRecDepth 100000 in
theorem gJ3_length : mtG mJ3_length := ⟨Or.inl ⟨rfl, (lw_g (lw_at lw_m2 129 rfl) rfl)⟩, mtOK_of (by decide +kernel), by decide +kernel, ⟨by decide +kernel, by decide +kernel⟩, (lw_g (lw_at lw_m1 8 rfl) rfl)⟩
set_option maxRecDepth 100000 in
theorem gJ3_newCapacity : mtG mJ3_newCapacity := ⟨Or.inl ⟨rfl, (lw_g (lw_at lw_m2 144 rfl) rfl)⟩, mtOK_of (by decide +kernel), by decide +kernel, ⟨by decide +kernel, by decide +kernel⟩, (lw_g (lw_at lw_m1 8 rfl) rfl)⟩
set_option maxRecDepth 100000 in
theorem gJ3_putStringAt : mtG mJ3_putStringAt := ⟨Or.inl ⟨rfl, (lw_g (lw_at lw_m3 84 rfl) rfl)⟩, mtOK_of (by decide +kernel), by decide +kernel, ⟨by decide +kernel, by decide +kernel⟩, (lw_g (lw_at lw_m1 8 rfl) rfl)⟩
set_option maxRecDepth 100000 in
theorem gJ3_setLength : mtG mJ3_setLength := ⟨Or.inl ⟨rfl, (lw_g (lw_at lw_m2 235 rfl) rfl)⟩, mtOK_of (by decide +kernel), by decide +kernel, ⟨by decide +kernel, by decide +kernel⟩, (lw_g (lw_at lw_m1 8 rfl) rfl)⟩
set_option maxRecDepth 100000 in
theorem gJ7_ordinal : mtG mJ7_ordinal := ⟨Or.inl ⟨rfl, (lw_g (lw_at lw_m4 176 rfl) rfl)⟩, mtOK_of (by decide +kernel), by decide +kernel, ⟨by decide +kernel, by decide +kernel⟩, (lw_g (lw_at lw_m1 17 rfl) rfl)⟩
set_option maxRecDepth 100000 in
theorem gJ17_getChars : mtG mJ17_getChars := ⟨Or.inl ⟨rfl, (lw_g (lw_at lw_m3 108 rfl) rfl)⟩, mtOK_of (by decide +kernel), by decide +kernel, ⟨by decide +kernel, by decide +kernel⟩, (lw_g (lw_at lw_m1 30 rfl) rfl)⟩
set_option maxRecDepth 100000 in
theorem gJ17_stringSize : mtG mJ17_stringSize := ⟨Or.inl ⟨rfl, (lw_g (lw_at lw_m3 105 rfl) rfl)⟩, mtOK_of (by decide +kernel), by decide +kernel, ⟨by decide +kernel, by decide +kernel⟩, (lw_g (lw_at lw_m1 30 rfl) rfl)⟩
set_option maxRecDepth 100000 in
theorem gJ19_init : mtG mJ19_init := ⟨Or.inl ⟨rfl, (lw_g (lw_at lw_m6 35 rfl) rfl)⟩, mtOK_of (by decide +kernel), by decide +kernel, ⟨by decide +kernel, by decide +kernel⟩, (lw_g (lw_at lw_m1 34 rfl) rfl)⟩
set_option maxRecDepth 100000 in
theorem gJ5_charAt : mtG mJ5_charAt := ⟨Or.inl ⟨rfl, (lw_g (lw_at lw_m5 20 rfl) rfl)⟩, mtOK_of (by decide +kernel), by decide +kernel, ⟨by decide +kernel, by decide +kernel⟩, (lw_g (lw_at lw_m1 10 rfl) rfl)⟩
set_option maxRecDepth 100000 in
theorem gJ5_checkIndex : mtG mJ5_checkIndex := ⟨Or.inl ⟨rfl, (lw_g (lw_at lw_m2 221 rfl) rfl)⟩, mtOK_of (by decide +kernel), by decide +kernel, ⟨by decide +kernel, by decide +kernel⟩, (lw_g (lw_at lw_m1 10 rfl) rfl)⟩
set_option maxRecDepth 100000 in
theorem gJ5_coder : mtG mJ5_coder := ⟨Or.inl ⟨rfl, (lw_g (lw_at lw_m3 79 rfl) rfl)⟩, mtOK_of (by decide +kernel), by decide +kernel, ⟨by decide +kernel, by decide +kernel⟩, (lw_g (lw_at lw_m1 10 rfl) rfl)⟩
set_option maxRecDepth 100000 in
theorem gJ5_getBytes : mtG mJ5_getBytes := ⟨Or.inl ⟨rfl, (lw_g (lw_at lw_m3 93 rfl) rfl)⟩, mtOK_of (by decide +kernel), by decide +kernel, ⟨by decide +kernel, by decide +kernel⟩, (lw_g (lw_at lw_m1 10 rfl) rfl)⟩
set_option maxRecDepth 100000 in
theorem gJ5_init : mtG mJ5_init := ⟨Or.inl ⟨rfl, (lw_g (lw_at lw_m3 131 rfl) rfl)⟩, mtOK_of (by decide +kernel), by decide +kernel, ⟨by decide +kernel, by decide +kernel⟩, (lw_g (lw_at lw_m1 10 rfl) rfl)⟩
set_option maxRecDepth 100000 in
theorem gJ5_init_2 : mtG mJ5_init_2 := ⟨Or.inl ⟨rfl, (lw_g (lw_at lw_m3 134 rfl) rfl)⟩, mtOK_of (by decide +kernel), by decide +kernel, ⟨by decide +kernel, by decide +kernel⟩, (lw_g (lw_at lw_m1 10 rfl) rfl)⟩
set_option maxRecDepth 100000 in
theorem gJ5_isLatin1 : mtG mJ5_isLatin1 := ⟨Or.inl ⟨rfl, (lw_g (lw_at lw_m5 24 rfl) rfl)⟩, mtOK_of (by decide +kernel), by decide +kernel, ⟨by decide +kernel, by decide +kernel⟩, (lw_g (lw_at lw_m1 10 rfl) rfl)⟩
set_option maxRecDepth 100000 in
theorem gJ5_length : mtG mJ5_length := ⟨Or.inl ⟨rfl, (lw_g (lw_at lw_m3 75 rfl) rfl)⟩, mtOK_of (by decide +kernel), by decide +kernel, ⟨by decide +kernel, by decide +kernel⟩, (lw_g (lw_at lw_m1 10 rfl) rfl)⟩
set_option maxRecDepth 100000 in
theorem gJ4_append : mtG mJ4_append := ⟨Or.inl ⟨rfl, (lw_g (lw_at lw_m2 133 rfl) rfl)⟩, mtOK_of (by decide +kernel), by decide +kernel, ⟨by decide +kernel, by decide +kernel⟩, (lw_g (lw_at lw_m1 9 rfl) rfl)⟩
set_option maxRecDepth 100000 in
theorem gJ4_append_2 : mtG mJ4_append_2 := ⟨Or.inl ⟨rfl, (lw_g (lw_at lw_m3 52 rfl) rfl)⟩, mtOK_of (by decide +kernel), by decide +kernel, ⟨by decide +kernel, by decide +kernel⟩, (lw_g (lw_at lw_m1 9 rfl) rfl)⟩
set_option maxRecDepth 100000 in
theorem gJ4_append_3 : mtG mJ4_append_3 := ⟨Or.inl ⟨rfl, (lw_g (lw_at lw_m3 99 rfl) rfl)⟩, mtOK_of (by decide +kernel), by decide +kernel, ⟨by decide +kernel, by decide +kernel⟩, (lw_g (lw_at lw_m1 9 rfl) rfl)⟩
set_option maxRecDepth 100000 in
theorem gJ4_charAt : mtG mJ4_charAt := ⟨Or.inl ⟨rfl, (lw_g (lw_at lw_m4 3 rfl) rfl)⟩, mtOK_of (by decide +kernel), by decide +kernel, ⟨by decide +kernel, by decide +kernel⟩, (lw_g (lw_at lw_m1 9 rfl) rfl)⟩
set_option maxRecDepth 100000 in
theorem gJ4_init : mtG mJ4_init := ⟨Or.inl ⟨rfl, (lw_g (lw_at lw_m1 134 rfl) rfl)⟩, mtOK_of (by decide +kernel), by decide +kernel, ⟨by decide +kernel, by decide +kernel⟩, (lw_g (lw_at lw_m1 9 rfl) rfl)⟩
set_option maxRecDepth 100000 in
theorem gJ4_length : mtG mJ4_length := ⟨Or.inl ⟨rfl, (lw_g (lw_at lw_m2 126 rfl) rfl)⟩, mtOK_of (by decide +kernel), by decide +kernel, ⟨by decide +kernel, by decide +kernel⟩, (lw_g (lw_at lw_m1 9 rfl) rfl)⟩
set_option maxRecDepth 100000 in
theorem gJ4_setLength : mtG mJ4_setLength := ⟨Or.inl ⟨rfl, (lw_g (lw_at lw_m2 232 rfl) rfl)⟩, mtOK_of (by decide +kernel), by decide +kernel, ⟨by decide +kernel, by decide +kernel⟩, (lw_g (lw_at lw_m1 9 rfl) rfl)⟩
set_option maxRecDepth 100000 in
theorem gJ4_toString : mtG mJ4_toString := ⟨Or.inl ⟨rfl, (lw_g (lw_at lw_m3 126 rfl) rfl)⟩, mtOK_of (by decide +kernel), by decide +kernel, ⟨by decide +kernel, by decide +kernel⟩, (lw_g (lw_at lw_m1 9 rfl) rfl)⟩
set_option maxRecDepth 100000 in
theorem gJ11_canEncode : mtG mJ11_canEncode := ⟨Or.inl ⟨rfl, (lw_g (lw_at lw_m2 179 rfl) rfl)⟩, mtOK_of (by decide +kernel), by decide +kernel, ⟨by decide +kernel, by decide +kernel⟩, (lw_g (lw_at lw_m1 24 rfl) rfl)⟩
set_option maxRecDepth 100000 in
theorem gJ11_charAt : mtG mJ11_charAt := ⟨Or.inl ⟨rfl, (lw_g (lw_at lw_m5 27 rfl) rfl)⟩, mtOK_of (by decide +kernel), by decide +kernel, ⟨by decide +kernel, by decide +kernel⟩, (lw_g (lw_at lw_m1 24 rfl) rfl)⟩
set_option maxRecDepth 100000 in
theorem gJ11_fillNull : mtG mJ11_fillNull := ⟨Or.inl ⟨rfl, (lw_g (lw_at lw_m2 238 rfl) rfl)⟩, mtOK_of (by decide +kernel), by decide +kernel, ⟨by decide +kernel, by decide +kernel⟩, (lw_g (lw_at lw_m1 24 rfl) rfl)⟩
set_option maxRecDepth 100000 in
theorem gJ11_inflate : mtG mJ11_inflate := ⟨Or.inl ⟨rfl, (lw_g (lw_at lw_m2 186 rfl) rfl)⟩, mtOK_of (by decide +kernel), by decide +kernel, ⟨by decide +kernel, by decide +kernel⟩, (lw_g (lw_at lw_m1 24 rfl) rfl)⟩
set_option maxRecDepth 100000 in
theorem gJ0_init : mtG mJ0_init := ⟨Or.inl ⟨rfl, (lw_g (lw_at lw_m1 76 rfl) rfl)⟩, mtOK_of (by decide +kernel), by decide +kernel, ⟨by decide +kernel, by decide +kernel⟩, (lw_g (lw_at lw_m1 4 rfl) rfl)⟩
set_option maxRecDepth 100000 in
theorem gJ1_init : mtG mJ1_init := ⟨Or.inl ⟨rfl, (lw_g (lw_at lw_m1 73 rfl) rfl)⟩, mtOK_of (by decide +kernel), by decide +kernel, ⟨by decide +kernel, by decide +kernel⟩, (lw_g (lw_at lw_m1 5 rfl) rfl)⟩
set_option maxRecDepth 100000 in
theorem gJ2_add : mtG mJ2_add := ⟨Or.inl ⟨rfl, (lw_g (lw_at lw_m4 86 rfl) rfl)⟩, mtOK_of (by decide +kernel), by decide +kernel, ⟨by decide +kernel, by decide +kernel⟩, (lw_g (lw_at lw_m1 6 rfl) rfl)⟩
set_option maxRecDepth 100000 in
theorem gJ2_add_2 : mtG mJ2_add_2 := ⟨Or.inl ⟨rfl, (lw_g (lw_at lw_m4 90 rfl) rfl)⟩, mtOK_of (by decide +kernel), by decide +kernel, ⟨by decide +kernel, by decide +kernel⟩, (lw_g (lw_at lw_m1 6 rfl) rfl)⟩
set_option maxRecDepth 100000 in
theorem gJ2_clear : mtG mJ2_clear := ⟨Or.inl ⟨rfl, (lw_g (lw_at lw_m5 153 rfl) rfl)⟩, mtOK_of (by decide +kernel), by decide +kernel, ⟨by decide +kernel, by decide +kernel⟩, (lw_g (lw_at lw_m1 6 rfl) rfl)⟩
set_option maxRecDepth 100000 in
theorem gJ2_elementData : mtG mJ2_elementData := ⟨Or.inl ⟨rfl, (lw_g (lw_at lw_m4 162 rfl) rfl)⟩, mtOK_of (by decide +kernel), by decide +kernel, ⟨by decide +kernel, by decide +kernel⟩, (lw_g (lw_at lw_m1 6 rfl) rfl)⟩
set_option maxRecDepth 100000 in
theorem gJ2_fastRemove : mtG mJ2_fastRemove := ⟨Or.inl ⟨rfl, (lw_g (lw_at lw_m5 170 rfl) rfl)⟩, mtOK_of (by decide +kernel), by decide +kernel, ⟨by decide +kernel, by decide +kernel⟩, (lw_g (lw_at lw_m1 6 rfl) rfl)⟩
set_option maxRecDepth 100000 in
theorem gJ2_get : mtG mJ2_get := ⟨Or.inl ⟨rfl, (lw_g (lw_at lw_m4 154 rfl) rfl)⟩, mtOK_of (by decide +kernel), by decide +kernel, ⟨by decide +kernel, by decide +kernel⟩, (lw_g (lw_at lw_m1 6 rfl) rfl)⟩
set_option maxRecDepth 100000 in
theorem gJ2_grow : mtG mJ2_grow := ⟨Or.inl ⟨rfl, (lw_g (lw_at lw_m4 94 rfl) rfl)⟩, mtOK_of (by decide +kernel), by decide +kernel, ⟨by decide +kernel, by decide +kernel⟩, (lw_g (lw_at lw_m1 6 rfl) rfl)⟩
set_option maxRecDepth 100000 in
theorem gJ2_grow_2 : mtG mJ2_grow_2 := ⟨Or.inl ⟨rfl, (lw_g (lw_at lw_m4 98 rfl) rfl)⟩, mtOK_of (by decide +kernel), by decide +kernel, ⟨by decide +kernel, by decide +kernel⟩, (lw_g (lw_at lw_m1 6 rfl) rfl)⟩
set_option maxRecDepth 100000 in
theorem gJ2_init : mtG mJ2_init := ⟨Or.inl ⟨rfl, (lw_g (lw_at lw_m1 70 rfl) rfl)⟩, mtOK_of (by decide +kernel), by decide +kernel, ⟨by decide +kernel, by decide +kernel⟩, (lw_g (lw_at lw_m1 6 rfl) rfl)⟩
set_option maxRecDepth 100000 in
theorem gJ2_isEmpty : mtG mJ2_isEmpty := ⟨Or.inl ⟨rfl, (lw_g (lw_at lw_m5 158 rfl) rfl)⟩, mtOK_of (by decide +kernel), by decide +kernel, ⟨by decide +kernel, by decide +kernel⟩, (lw_g (lw_at lw_m1 6 rfl) rfl)⟩
set_option maxRecDepth 100000 in
theorem gJ2_remove : mtG mJ2_remove := ⟨Or.inl ⟨rfl, (lw_g (lw_at lw_m5 166 rfl) rfl)⟩, mtOK_of (by decide +kernel), by decide +kernel, ⟨by decide +kernel, by decide +kernel⟩, (lw_g (lw_at lw_m1 6 rfl) rfl)⟩
set_option maxRecDepth 100000 in
theorem gJ2_set : mtG mJ2_set := ⟨Or.inl ⟨rfl, (lw_g (lw_at lw_m5 184 rfl) rfl)⟩, mtOK_of (by decide +kernel), by decide +kernel, ⟨by decide +kernel, by decide +kernel⟩, (lw_g (lw_at lw_m1 6 rfl) rfl)⟩
set_option maxRecDepth 100000 in
theorem gJ2_size : mtG mJ2_size := ⟨Or.inl ⟨rfl, (lw_g (lw_at lw_m4 146 rfl) rfl)⟩, mtOK_of (by decide +kernel), by decide +kernel, ⟨by decide +kernel, by decide +kernel⟩, (lw_g (lw_at lw_m1 6 rfl) rfl)⟩
set_option maxRecDepth 100000 in
theorem gJ10_checkLength : mtG mJ10_checkLength := ⟨Or.inl ⟨rfl, (lw_g (lw_at lw_m3 151 rfl) rfl)⟩, mtOK_of (by decide +kernel), by decide +kernel, ⟨by decide +kernel, by decide +kernel⟩, (lw_g (lw_at lw_m1 22 rfl) rfl)⟩
set_option maxRecDepth 100000 in
theorem gJ10_copyOf : mtG mJ10_copyOf := ⟨Or.inl ⟨rfl, (lw_g (lw_at lw_m2 158 rfl) rfl)⟩, mtOK_of (by decide +kernel), by decide +kernel, ⟨by decide +kernel, by decide +kernel⟩, (lw_g (lw_at lw_m1 22 rfl) rfl)⟩
set_option maxRecDepth 100000 in
theorem gJ10_copyOfRange : mtG mJ10_copyOfRange := ⟨Or.inl ⟨rfl, (lw_g (lw_at lw_m3 145 rfl) rfl)⟩, mtOK_of (by decide +kernel), by decide +kernel, ⟨by decide +kernel, by decide +kernel⟩, (lw_g (lw_at lw_m1 22 rfl) rfl)⟩
set_option maxRecDepth 100000 in
theorem gJ10_copyOfRangeByte : mtG mJ10_copyOfRangeByte := ⟨Or.inl ⟨rfl, (lw_g (lw_at lw_m3 148 rfl) rfl)⟩, mtOK_of (by decide +kernel), by decide +kernel, ⟨by decide +kernel, by decide +kernel⟩, (lw_g (lw_at lw_m1 22 rfl) rfl)⟩
set_option maxRecDepth 100000 in
theorem gJ10_copyOf_2 : mtG mJ10_copyOf_2 := ⟨Or.inl ⟨rfl, (lw_g (lw_at lw_m4 102 rfl) rfl)⟩, mtOK_of (by decide +kernel), by decide +kernel, ⟨by decide +kernel, by decide +kernel⟩, (lw_g (lw_at lw_m1 22 rfl) rfl)⟩
set_option maxRecDepth 100000 in
theorem gJ10_copyOf_3 : mtG mJ10_copyOf_3 := ⟨Or.inl ⟨rfl, (lw_g (lw_at lw_m4 137 rfl) rfl)⟩, mtOK_of (by decide +kernel), by decide +kernel, ⟨by decide +kernel, by decide +kernel⟩, (lw_g (lw_at lw_m1 22 rfl) rfl)⟩
set_option maxRecDepth 100000 in
theorem gJ10_fill : mtG mJ10_fill := ⟨Or.inl ⟨rfl, (lw_g (lw_at lw_m3 1 rfl) rfl)⟩, mtOK_of (by decide +kernel), by decide +kernel, ⟨by decide +kernel, by decide +kernel⟩, (lw_g (lw_at lw_m1 22 rfl) rfl)⟩
set_option maxRecDepth 100000 in
theorem gJ20_checkIndex : mtG mJ20_checkIndex := ⟨Or.inl ⟨rfl, (lw_g (lw_at lw_m4 157 rfl) rfl)⟩, mtOK_of (by decide +kernel), by decide +kernel, ⟨by decide +kernel, by decide +kernel⟩, (lw_g (lw_at lw_m1 37 rfl) rfl)⟩
set_option maxRecDepth 100000 in
theorem gJ8_newLength : mtG mJ8_newLength := ⟨Or.inl ⟨rfl, (lw_g (lw_at lw_m2 147 rfl) rfl)⟩, mtOK_of (by decide +kernel), by decide +kernel, ⟨by decide +kernel, by decide +kernel⟩, (lw_g (lw_at lw_m1 20 rfl) rfl)⟩
set_option maxRecDepth 100000 in
theorem gJ12_checkIndex : mtG mJ12_checkIndex := ⟨Or.inl ⟨rfl, (lw_g (lw_at lw_m2 224 rfl) rfl)⟩, mtOK_of (by decide +kernel), by decide +kernel, ⟨by decide +kernel, by decide +kernel⟩, (lw_g (lw_at lw_m1 25 rfl) rfl)⟩
