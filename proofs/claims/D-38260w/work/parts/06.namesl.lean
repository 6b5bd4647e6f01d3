/-! PublicanryLaw -/
set_option maxRecDepth 100000
def RX0 : String := "PublicanryLaw"
abbrev cX0_village : ByteArray := method_2_code
def yX0_village : MethodName := ⟨RX0, "village", "(LPublicanry;IIIILPublicanryLaw$Out;)I"⟩
def dkwX0_village_1 : List UInt8 := [5, 172, 3, 172]
abbrev dktX0_village_1 : List UInt8 := dkwX0_village_1 ++ []
def dkwX0_village_0 : List UInt8 := [25, 5, 42, 27, 28, 29, 21, 4, 182, 0, 7, 133, 181, 0, 13, 167, 0, 11, 58, 6, 4, 172, 58, 6]
abbrev dktX0_village_0 : List UInt8 := dkwX0_village_0 ++ dktX0_village_1
theorem dksX0_village_0 : cX0_village.data.toList.drop 0 = dktX0_village_0 := by decide +kernel
theorem dksX0_village_1 : cX0_village.data.toList.drop 24 = dktX0_village_1 := dk_seg dksX0_village_0 24 rfl rfl
theorem dX0_village_0 : decode cX0_village 0 = .ok (.aload 5, 2) := dk_25 5 (dk_at dksX0_village_0 0 rfl rfl)
theorem dX0_village_2 : decode cX0_village 2 = .ok (.aload_n 0, 1) := dk_42 (dk_at dksX0_village_0 2 rfl rfl)
theorem dX0_village_3 : decode cX0_village 3 = .ok (.iload_n 1, 1) := dk_27 (dk_at dksX0_village_0 3 rfl rfl)
theorem dX0_village_4 : decode cX0_village 4 = .ok (.iload_n 2, 1) := dk_28 (dk_at dksX0_village_0 4 rfl rfl)
theorem dX0_village_5 : decode cX0_village 5 = .ok (.iload_n 3, 1) := dk_29 (dk_at dksX0_village_0 5 rfl rfl)
theorem dX0_village_6 : decode cX0_village 6 = .ok (.iload 4, 2) := dk_21 4 (dk_at dksX0_village_0 6 rfl rfl)
theorem dX0_village_8 : decode cX0_village 8 = .ok (.invokevirtual 7, 3) := dk_182 0 7 (dk_at dksX0_village_0 8 rfl rfl)
theorem dX0_village_11 : decode cX0_village 11 = .ok (.i2l, 1) := dk_133 (dk_at dksX0_village_0 11 rfl rfl)
theorem dX0_village_12 : decode cX0_village 12 = .ok (.putfield 13, 3) := dk_181 0 13 (dk_at dksX0_village_0 12 rfl rfl)
theorem dX0_village_15 : decode cX0_village 15 = .ok (.goto 11, 3) := dk_167 0 11 (dk_at dksX0_village_0 15 rfl rfl)
theorem dX0_village_18 : decode cX0_village 18 = .ok (.astore 6, 2) := dk_58 6 (dk_at dksX0_village_0 18 rfl rfl)
theorem dX0_village_20 : decode cX0_village 20 = .ok (.iconst 1, 1) := dk_4 (dk_at dksX0_village_0 20 rfl rfl)
theorem dX0_village_21 : decode cX0_village 21 = .ok (.ireturn, 1) := dk_172 (dk_at dksX0_village_0 21 rfl rfl)
theorem dX0_village_22 : decode cX0_village 22 = .ok (.astore 6, 2) := dk_58 6 (dk_at dksX0_village_0 22 rfl rfl)
theorem dX0_village_24 : decode cX0_village 24 = .ok (.iconst 2, 1) := dk_5 (dk_at dksX0_village_1 0 rfl rfl)
theorem dX0_village_25 : decode cX0_village 25 = .ok (.ireturn, 1) := dk_172 (dk_at dksX0_village_1 1 rfl rfl)
theorem dX0_village_26 : decode cX0_village 26 = .ok (.iconst 0, 1) := dk_3 (dk_at dksX0_village_1 2 rfl rfl)
theorem dX0_village_27 : decode cX0_village 27 = .ok (.ireturn, 1) := dk_172 (dk_at dksX0_village_1 3 rfl rfl)
abbrev cX0_clear : ByteArray := method_3_code
def yX0_clear : MethodName := ⟨RX0, "clear", "(LPublicanry;IILPublicanryLaw$Out;)I"⟩
def dkwX0_clear_0 : List UInt8 := [45, 42, 27, 28, 182, 0, 23, 133, 181, 0, 13, 167, 0, 11, 58, 4, 4, 172, 58, 4, 5, 172, 3, 172]
abbrev dktX0_clear_0 : List UInt8 := dkwX0_clear_0 ++ []
theorem dksX0_clear_0 : cX0_clear.data.toList.drop 0 = dktX0_clear_0 := by decide +kernel
theorem dX0_clear_0 : decode cX0_clear 0 = .ok (.aload_n 3, 1) := dk_45 (dk_at dksX0_clear_0 0 rfl rfl)
theorem dX0_clear_1 : decode cX0_clear 1 = .ok (.aload_n 0, 1) := dk_42 (dk_at dksX0_clear_0 1 rfl rfl)
theorem dX0_clear_2 : decode cX0_clear 2 = .ok (.iload_n 1, 1) := dk_27 (dk_at dksX0_clear_0 2 rfl rfl)
theorem dX0_clear_3 : decode cX0_clear 3 = .ok (.iload_n 2, 1) := dk_28 (dk_at dksX0_clear_0 3 rfl rfl)
theorem dX0_clear_4 : decode cX0_clear 4 = .ok (.invokevirtual 23, 3) := dk_182 0 23 (dk_at dksX0_clear_0 4 rfl rfl)
theorem dX0_clear_7 : decode cX0_clear 7 = .ok (.i2l, 1) := dk_133 (dk_at dksX0_clear_0 7 rfl rfl)
theorem dX0_clear_8 : decode cX0_clear 8 = .ok (.putfield 13, 3) := dk_181 0 13 (dk_at dksX0_clear_0 8 rfl rfl)
theorem dX0_clear_11 : decode cX0_clear 11 = .ok (.goto 11, 3) := dk_167 0 11 (dk_at dksX0_clear_0 11 rfl rfl)
theorem dX0_clear_14 : decode cX0_clear 14 = .ok (.astore 4, 2) := dk_58 4 (dk_at dksX0_clear_0 14 rfl rfl)
theorem dX0_clear_16 : decode cX0_clear 16 = .ok (.iconst 1, 1) := dk_4 (dk_at dksX0_clear_0 16 rfl rfl)
theorem dX0_clear_17 : decode cX0_clear 17 = .ok (.ireturn, 1) := dk_172 (dk_at dksX0_clear_0 17 rfl rfl)
theorem dX0_clear_18 : decode cX0_clear 18 = .ok (.astore 4, 2) := dk_58 4 (dk_at dksX0_clear_0 18 rfl rfl)
theorem dX0_clear_20 : decode cX0_clear 20 = .ok (.iconst 2, 1) := dk_5 (dk_at dksX0_clear_0 20 rfl rfl)
theorem dX0_clear_21 : decode cX0_clear 21 = .ok (.ireturn, 1) := dk_172 (dk_at dksX0_clear_0 21 rfl rfl)
theorem dX0_clear_22 : decode cX0_clear 22 = .ok (.iconst 0, 1) := dk_3 (dk_at dksX0_clear_0 22 rfl rfl)
theorem dX0_clear_23 : decode cX0_clear 23 = .ok (.ireturn, 1) := dk_172 (dk_at dksX0_clear_0 23 rfl rfl)
abbrev cX0_survey : ByteArray := method_4_code
def yX0_survey : MethodName := ⟨RX0, "survey", "(LPublicanry;ILPublicanryLaw$Out;)I"⟩
def dkwX0_survey_0 : List UInt8 := [44, 42, 27, 182, 0, 29, 133, 181, 0, 13, 167, 0, 6, 78, 4, 172, 3, 172]
abbrev dktX0_survey_0 : List UInt8 := dkwX0_survey_0 ++ []
theorem dksX0_survey_0 : cX0_survey.data.toList.drop 0 = dktX0_survey_0 := by decide +kernel
theorem dX0_survey_0 : decode cX0_survey 0 = .ok (.aload_n 2, 1) := dk_44 (dk_at dksX0_survey_0 0 rfl rfl)
theorem dX0_survey_1 : decode cX0_survey 1 = .ok (.aload_n 0, 1) := dk_42 (dk_at dksX0_survey_0 1 rfl rfl)
theorem dX0_survey_2 : decode cX0_survey 2 = .ok (.iload_n 1, 1) := dk_27 (dk_at dksX0_survey_0 2 rfl rfl)
theorem dX0_survey_3 : decode cX0_survey 3 = .ok (.invokevirtual 29, 3) := dk_182 0 29 (dk_at dksX0_survey_0 3 rfl rfl)
theorem dX0_survey_6 : decode cX0_survey 6 = .ok (.i2l, 1) := dk_133 (dk_at dksX0_survey_0 6 rfl rfl)
theorem dX0_survey_7 : decode cX0_survey 7 = .ok (.putfield 13, 3) := dk_181 0 13 (dk_at dksX0_survey_0 7 rfl rfl)
theorem dX0_survey_10 : decode cX0_survey 10 = .ok (.goto 6, 3) := dk_167 0 6 (dk_at dksX0_survey_0 10 rfl rfl)
theorem dX0_survey_13 : decode cX0_survey 13 = .ok (.astore_n 3, 1) := dk_78 (dk_at dksX0_survey_0 13 rfl rfl)
theorem dX0_survey_14 : decode cX0_survey 14 = .ok (.iconst 1, 1) := dk_4 (dk_at dksX0_survey_0 14 rfl rfl)
theorem dX0_survey_15 : decode cX0_survey 15 = .ok (.ireturn, 1) := dk_172 (dk_at dksX0_survey_0 15 rfl rfl)
theorem dX0_survey_16 : decode cX0_survey 16 = .ok (.iconst 0, 1) := dk_3 (dk_at dksX0_survey_0 16 rfl rfl)
theorem dX0_survey_17 : decode cX0_survey 17 = .ok (.ireturn, 1) := dk_172 (dk_at dksX0_survey_0 17 rfl rfl)
abbrev cX0_war : ByteArray := method_5_code
def yX0_war : MethodName := ⟨RX0, "war", "(LPublicanry;ILPublicanryLaw$Out;)I"⟩
def dkwX0_war_0 : List UInt8 := [44, 42, 27, 182, 0, 33, 133, 181, 0, 13, 167, 0, 6, 78, 4, 172, 3, 172]
abbrev dktX0_war_0 : List UInt8 := dkwX0_war_0 ++ []
theorem dksX0_war_0 : cX0_war.data.toList.drop 0 = dktX0_war_0 := by decide +kernel
theorem dX0_war_0 : decode cX0_war 0 = .ok (.aload_n 2, 1) := dk_44 (dk_at dksX0_war_0 0 rfl rfl)
theorem dX0_war_1 : decode cX0_war 1 = .ok (.aload_n 0, 1) := dk_42 (dk_at dksX0_war_0 1 rfl rfl)
theorem dX0_war_2 : decode cX0_war 2 = .ok (.iload_n 1, 1) := dk_27 (dk_at dksX0_war_0 2 rfl rfl)
theorem dX0_war_3 : decode cX0_war 3 = .ok (.invokevirtual 33, 3) := dk_182 0 33 (dk_at dksX0_war_0 3 rfl rfl)
theorem dX0_war_6 : decode cX0_war 6 = .ok (.i2l, 1) := dk_133 (dk_at dksX0_war_0 6 rfl rfl)
theorem dX0_war_7 : decode cX0_war 7 = .ok (.putfield 13, 3) := dk_181 0 13 (dk_at dksX0_war_0 7 rfl rfl)
theorem dX0_war_10 : decode cX0_war 10 = .ok (.goto 6, 3) := dk_167 0 6 (dk_at dksX0_war_0 10 rfl rfl)
theorem dX0_war_13 : decode cX0_war 13 = .ok (.astore_n 3, 1) := dk_78 (dk_at dksX0_war_0 13 rfl rfl)
theorem dX0_war_14 : decode cX0_war 14 = .ok (.iconst 1, 1) := dk_4 (dk_at dksX0_war_0 14 rfl rfl)
theorem dX0_war_15 : decode cX0_war 15 = .ok (.ireturn, 1) := dk_172 (dk_at dksX0_war_0 15 rfl rfl)
theorem dX0_war_16 : decode cX0_war 16 = .ok (.iconst 0, 1) := dk_3 (dk_at dksX0_war_0 16 rfl rfl)
theorem dX0_war_17 : decode cX0_war 17 = .ok (.ireturn, 1) := dk_172 (dk_at dksX0_war_0 17 rfl rfl)
abbrev cX0_edict : ByteArray := method_6_code
def yX0_edict : MethodName := ⟨RX0, "edict", "(LPublicanry;IIILPublicanryLaw$Out;)I"⟩
def dkwX0_edict_1 : List UInt8 := [3, 172]
abbrev dktX0_edict_1 : List UInt8 := dkwX0_edict_1 ++ []
def dkwX0_edict_0 : List UInt8 := [25, 4, 42, 27, 28, 29, 182, 0, 36, 133, 181, 0, 13, 167, 0, 11, 58, 5, 4, 172, 58, 5, 5, 172]
abbrev dktX0_edict_0 : List UInt8 := dkwX0_edict_0 ++ dktX0_edict_1
theorem dksX0_edict_0 : cX0_edict.data.toList.drop 0 = dktX0_edict_0 := by decide +kernel
theorem dksX0_edict_1 : cX0_edict.data.toList.drop 24 = dktX0_edict_1 := dk_seg dksX0_edict_0 24 rfl rfl
theorem dX0_edict_0 : decode cX0_edict 0 = .ok (.aload 4, 2) := dk_25 4 (dk_at dksX0_edict_0 0 rfl rfl)
theorem dX0_edict_2 : decode cX0_edict 2 = .ok (.aload_n 0, 1) := dk_42 (dk_at dksX0_edict_0 2 rfl rfl)
theorem dX0_edict_3 : decode cX0_edict 3 = .ok (.iload_n 1, 1) := dk_27 (dk_at dksX0_edict_0 3 rfl rfl)
theorem dX0_edict_4 : decode cX0_edict 4 = .ok (.iload_n 2, 1) := dk_28 (dk_at dksX0_edict_0 4 rfl rfl)
theorem dX0_edict_5 : decode cX0_edict 5 = .ok (.iload_n 3, 1) := dk_29 (dk_at dksX0_edict_0 5 rfl rfl)
theorem dX0_edict_6 : decode cX0_edict 6 = .ok (.invokevirtual 36, 3) := dk_182 0 36 (dk_at dksX0_edict_0 6 rfl rfl)
theorem dX0_edict_9 : decode cX0_edict 9 = .ok (.i2l, 1) := dk_133 (dk_at dksX0_edict_0 9 rfl rfl)
theorem dX0_edict_10 : decode cX0_edict 10 = .ok (.putfield 13, 3) := dk_181 0 13 (dk_at dksX0_edict_0 10 rfl rfl)
theorem dX0_edict_13 : decode cX0_edict 13 = .ok (.goto 11, 3) := dk_167 0 11 (dk_at dksX0_edict_0 13 rfl rfl)
theorem dX0_edict_16 : decode cX0_edict 16 = .ok (.astore 5, 2) := dk_58 5 (dk_at dksX0_edict_0 16 rfl rfl)
theorem dX0_edict_18 : decode cX0_edict 18 = .ok (.iconst 1, 1) := dk_4 (dk_at dksX0_edict_0 18 rfl rfl)
theorem dX0_edict_19 : decode cX0_edict 19 = .ok (.ireturn, 1) := dk_172 (dk_at dksX0_edict_0 19 rfl rfl)
theorem dX0_edict_20 : decode cX0_edict 20 = .ok (.astore 5, 2) := dk_58 5 (dk_at dksX0_edict_0 20 rfl rfl)
theorem dX0_edict_22 : decode cX0_edict 22 = .ok (.iconst 2, 1) := dk_5 (dk_at dksX0_edict_0 22 rfl rfl)
theorem dX0_edict_23 : decode cX0_edict 23 = .ok (.ireturn, 1) := dk_172 (dk_at dksX0_edict_0 23 rfl rfl)
theorem dX0_edict_24 : decode cX0_edict 24 = .ok (.iconst 0, 1) := dk_3 (dk_at dksX0_edict_1 0 rfl rfl)
theorem dX0_edict_25 : decode cX0_edict 25 = .ok (.ireturn, 1) := dk_172 (dk_at dksX0_edict_1 1 rfl rfl)
abbrev cX0_cut : ByteArray := method_7_code
def yX0_cut : MethodName := ⟨RX0, "cut", "(LPublicanry;ILPublicanryLaw$Out;)I"⟩
def dkwX0_cut_0 : List UInt8 := [44, 42, 27, 182, 0, 40, 133, 181, 0, 13, 167, 0, 6, 78, 4, 172, 3, 172]
abbrev dktX0_cut_0 : List UInt8 := dkwX0_cut_0 ++ []
theorem dksX0_cut_0 : cX0_cut.data.toList.drop 0 = dktX0_cut_0 := by decide +kernel
theorem dX0_cut_0 : decode cX0_cut 0 = .ok (.aload_n 2, 1) := dk_44 (dk_at dksX0_cut_0 0 rfl rfl)
theorem dX0_cut_1 : decode cX0_cut 1 = .ok (.aload_n 0, 1) := dk_42 (dk_at dksX0_cut_0 1 rfl rfl)
theorem dX0_cut_2 : decode cX0_cut 2 = .ok (.iload_n 1, 1) := dk_27 (dk_at dksX0_cut_0 2 rfl rfl)
theorem dX0_cut_3 : decode cX0_cut 3 = .ok (.invokevirtual 40, 3) := dk_182 0 40 (dk_at dksX0_cut_0 3 rfl rfl)
theorem dX0_cut_6 : decode cX0_cut 6 = .ok (.i2l, 1) := dk_133 (dk_at dksX0_cut_0 6 rfl rfl)
theorem dX0_cut_7 : decode cX0_cut 7 = .ok (.putfield 13, 3) := dk_181 0 13 (dk_at dksX0_cut_0 7 rfl rfl)
theorem dX0_cut_10 : decode cX0_cut 10 = .ok (.goto 6, 3) := dk_167 0 6 (dk_at dksX0_cut_0 10 rfl rfl)
theorem dX0_cut_13 : decode cX0_cut 13 = .ok (.astore_n 3, 1) := dk_78 (dk_at dksX0_cut_0 13 rfl rfl)
theorem dX0_cut_14 : decode cX0_cut 14 = .ok (.iconst 1, 1) := dk_4 (dk_at dksX0_cut_0 14 rfl rfl)
theorem dX0_cut_15 : decode cX0_cut 15 = .ok (.ireturn, 1) := dk_172 (dk_at dksX0_cut_0 15 rfl rfl)
theorem dX0_cut_16 : decode cX0_cut 16 = .ok (.iconst 0, 1) := dk_3 (dk_at dksX0_cut_0 16 rfl rfl)
theorem dX0_cut_17 : decode cX0_cut 17 = .ok (.ireturn, 1) := dk_172 (dk_at dksX0_cut_0 17 rfl rfl)
abbrev cX0_company : ByteArray := method_8_code
def yX0_company : MethodName := ⟨RX0, "company", "(LPublicanry;IILPublicanryLaw$Out;)I"⟩
def dkwX0_company_0 : List UInt8 := [45, 42, 27, 28, 182, 0, 43, 133, 181, 0, 13, 167, 0, 11, 58, 4, 4, 172, 58, 4, 5, 172, 3, 172]
abbrev dktX0_company_0 : List UInt8 := dkwX0_company_0 ++ []
theorem dksX0_company_0 : cX0_company.data.toList.drop 0 = dktX0_company_0 := by decide +kernel
theorem dX0_company_0 : decode cX0_company 0 = .ok (.aload_n 3, 1) := dk_45 (dk_at dksX0_company_0 0 rfl rfl)
theorem dX0_company_1 : decode cX0_company 1 = .ok (.aload_n 0, 1) := dk_42 (dk_at dksX0_company_0 1 rfl rfl)
theorem dX0_company_2 : decode cX0_company 2 = .ok (.iload_n 1, 1) := dk_27 (dk_at dksX0_company_0 2 rfl rfl)
theorem dX0_company_3 : decode cX0_company 3 = .ok (.iload_n 2, 1) := dk_28 (dk_at dksX0_company_0 3 rfl rfl)
theorem dX0_company_4 : decode cX0_company 4 = .ok (.invokevirtual 43, 3) := dk_182 0 43 (dk_at dksX0_company_0 4 rfl rfl)
theorem dX0_company_7 : decode cX0_company 7 = .ok (.i2l, 1) := dk_133 (dk_at dksX0_company_0 7 rfl rfl)
theorem dX0_company_8 : decode cX0_company 8 = .ok (.putfield 13, 3) := dk_181 0 13 (dk_at dksX0_company_0 8 rfl rfl)
theorem dX0_company_11 : decode cX0_company 11 = .ok (.goto 11, 3) := dk_167 0 11 (dk_at dksX0_company_0 11 rfl rfl)
theorem dX0_company_14 : decode cX0_company 14 = .ok (.astore 4, 2) := dk_58 4 (dk_at dksX0_company_0 14 rfl rfl)
theorem dX0_company_16 : decode cX0_company 16 = .ok (.iconst 1, 1) := dk_4 (dk_at dksX0_company_0 16 rfl rfl)
theorem dX0_company_17 : decode cX0_company 17 = .ok (.ireturn, 1) := dk_172 (dk_at dksX0_company_0 17 rfl rfl)
theorem dX0_company_18 : decode cX0_company 18 = .ok (.astore 4, 2) := dk_58 4 (dk_at dksX0_company_0 18 rfl rfl)
theorem dX0_company_20 : decode cX0_company 20 = .ok (.iconst 2, 1) := dk_5 (dk_at dksX0_company_0 20 rfl rfl)
theorem dX0_company_21 : decode cX0_company 21 = .ok (.ireturn, 1) := dk_172 (dk_at dksX0_company_0 21 rfl rfl)
theorem dX0_company_22 : decode cX0_company 22 = .ok (.iconst 0, 1) := dk_3 (dk_at dksX0_company_0 22 rfl rfl)
theorem dX0_company_23 : decode cX0_company 23 = .ok (.ireturn, 1) := dk_172 (dk_at dksX0_company_0 23 rfl rfl)
abbrev cX0_join : ByteArray := method_9_code
def yX0_join : MethodName := ⟨RX0, "join", "(LPublicanry;IILPublicanryLaw$Out;)I"⟩
def dkwX0_join_1 : List UInt8 := [6, 172, 3, 172]
abbrev dktX0_join_1 : List UInt8 := dkwX0_join_1 ++ []
def dkwX0_join_0 : List UInt8 := [45, 42, 27, 28, 182, 0, 46, 133, 181, 0, 13, 167, 0, 15, 58, 4, 4, 172, 58, 4, 5, 172, 58, 4]
abbrev dktX0_join_0 : List UInt8 := dkwX0_join_0 ++ dktX0_join_1
theorem dksX0_join_0 : cX0_join.data.toList.drop 0 = dktX0_join_0 := by decide +kernel
theorem dksX0_join_1 : cX0_join.data.toList.drop 24 = dktX0_join_1 := dk_seg dksX0_join_0 24 rfl rfl
theorem dX0_join_0 : decode cX0_join 0 = .ok (.aload_n 3, 1) := dk_45 (dk_at dksX0_join_0 0 rfl rfl)
theorem dX0_join_1 : decode cX0_join 1 = .ok (.aload_n 0, 1) := dk_42 (dk_at dksX0_join_0 1 rfl rfl)
theorem dX0_join_2 : decode cX0_join 2 = .ok (.iload_n 1, 1) := dk_27 (dk_at dksX0_join_0 2 rfl rfl)
theorem dX0_join_3 : decode cX0_join 3 = .ok (.iload_n 2, 1) := dk_28 (dk_at dksX0_join_0 3 rfl rfl)
theorem dX0_join_4 : decode cX0_join 4 = .ok (.invokevirtual 46, 3) := dk_182 0 46 (dk_at dksX0_join_0 4 rfl rfl)
theorem dX0_join_7 : decode cX0_join 7 = .ok (.i2l, 1) := dk_133 (dk_at dksX0_join_0 7 rfl rfl)
theorem dX0_join_8 : decode cX0_join 8 = .ok (.putfield 13, 3) := dk_181 0 13 (dk_at dksX0_join_0 8 rfl rfl)
theorem dX0_join_11 : decode cX0_join 11 = .ok (.goto 15, 3) := dk_167 0 15 (dk_at dksX0_join_0 11 rfl rfl)
theorem dX0_join_14 : decode cX0_join 14 = .ok (.astore 4, 2) := dk_58 4 (dk_at dksX0_join_0 14 rfl rfl)
theorem dX0_join_16 : decode cX0_join 16 = .ok (.iconst 1, 1) := dk_4 (dk_at dksX0_join_0 16 rfl rfl)
theorem dX0_join_17 : decode cX0_join 17 = .ok (.ireturn, 1) := dk_172 (dk_at dksX0_join_0 17 rfl rfl)
theorem dX0_join_18 : decode cX0_join 18 = .ok (.astore 4, 2) := dk_58 4 (dk_at dksX0_join_0 18 rfl rfl)
theorem dX0_join_20 : decode cX0_join 20 = .ok (.iconst 2, 1) := dk_5 (dk_at dksX0_join_0 20 rfl rfl)
theorem dX0_join_21 : decode cX0_join 21 = .ok (.ireturn, 1) := dk_172 (dk_at dksX0_join_0 21 rfl rfl)
theorem dX0_join_22 : decode cX0_join 22 = .ok (.astore 4, 2) := dk_58 4 (dk_at dksX0_join_0 22 rfl rfl)
theorem dX0_join_24 : decode cX0_join 24 = .ok (.iconst 3, 1) := dk_6 (dk_at dksX0_join_1 0 rfl rfl)
theorem dX0_join_25 : decode cX0_join 25 = .ok (.ireturn, 1) := dk_172 (dk_at dksX0_join_1 1 rfl rfl)
theorem dX0_join_26 : decode cX0_join 26 = .ok (.iconst 0, 1) := dk_3 (dk_at dksX0_join_1 2 rfl rfl)
theorem dX0_join_27 : decode cX0_join 27 = .ok (.ireturn, 1) := dk_172 (dk_at dksX0_join_1 3 rfl rfl)
abbrev cX0_shareOut : ByteArray := method_10_code
def yX0_shareOut : MethodName := ⟨RX0, "shareOut", "(LPublicanry;IILPublicanryLaw$Out;)I"⟩
def dkwX0_shareOut_1 : List UInt8 := [6, 172, 3, 172]
abbrev dktX0_shareOut_1 : List UInt8 := dkwX0_shareOut_1 ++ []
def dkwX0_shareOut_0 : List UInt8 := [45, 42, 27, 28, 182, 0, 49, 133, 181, 0, 13, 167, 0, 15, 58, 4, 4, 172, 58, 4, 5, 172, 58, 4]
abbrev dktX0_shareOut_0 : List UInt8 := dkwX0_shareOut_0 ++ dktX0_shareOut_1
theorem dksX0_shareOut_0 : cX0_shareOut.data.toList.drop 0 = dktX0_shareOut_0 := by decide +kernel
theorem dksX0_shareOut_1 : cX0_shareOut.data.toList.drop 24 = dktX0_shareOut_1 := dk_seg dksX0_shareOut_0 24 rfl rfl
theorem dX0_shareOut_0 : decode cX0_shareOut 0 = .ok (.aload_n 3, 1) := dk_45 (dk_at dksX0_shareOut_0 0 rfl rfl)
theorem dX0_shareOut_1 : decode cX0_shareOut 1 = .ok (.aload_n 0, 1) := dk_42 (dk_at dksX0_shareOut_0 1 rfl rfl)
theorem dX0_shareOut_2 : decode cX0_shareOut 2 = .ok (.iload_n 1, 1) := dk_27 (dk_at dksX0_shareOut_0 2 rfl rfl)
theorem dX0_shareOut_3 : decode cX0_shareOut 3 = .ok (.iload_n 2, 1) := dk_28 (dk_at dksX0_shareOut_0 3 rfl rfl)
theorem dX0_shareOut_4 : decode cX0_shareOut 4 = .ok (.invokevirtual 49, 3) := dk_182 0 49 (dk_at dksX0_shareOut_0 4 rfl rfl)
theorem dX0_shareOut_7 : decode cX0_shareOut 7 = .ok (.i2l, 1) := dk_133 (dk_at dksX0_shareOut_0 7 rfl rfl)
theorem dX0_shareOut_8 : decode cX0_shareOut 8 = .ok (.putfield 13, 3) := dk_181 0 13 (dk_at dksX0_shareOut_0 8 rfl rfl)
theorem dX0_shareOut_11 : decode cX0_shareOut 11 = .ok (.goto 15, 3) := dk_167 0 15 (dk_at dksX0_shareOut_0 11 rfl rfl)
theorem dX0_shareOut_14 : decode cX0_shareOut 14 = .ok (.astore 4, 2) := dk_58 4 (dk_at dksX0_shareOut_0 14 rfl rfl)
theorem dX0_shareOut_16 : decode cX0_shareOut 16 = .ok (.iconst 1, 1) := dk_4 (dk_at dksX0_shareOut_0 16 rfl rfl)
theorem dX0_shareOut_17 : decode cX0_shareOut 17 = .ok (.ireturn, 1) := dk_172 (dk_at dksX0_shareOut_0 17 rfl rfl)
theorem dX0_shareOut_18 : decode cX0_shareOut 18 = .ok (.astore 4, 2) := dk_58 4 (dk_at dksX0_shareOut_0 18 rfl rfl)
theorem dX0_shareOut_20 : decode cX0_shareOut 20 = .ok (.iconst 2, 1) := dk_5 (dk_at dksX0_shareOut_0 20 rfl rfl)
theorem dX0_shareOut_21 : decode cX0_shareOut 21 = .ok (.ireturn, 1) := dk_172 (dk_at dksX0_shareOut_0 21 rfl rfl)
theorem dX0_shareOut_22 : decode cX0_shareOut 22 = .ok (.astore 4, 2) := dk_58 4 (dk_at dksX0_shareOut_0 22 rfl rfl)
theorem dX0_shareOut_24 : decode cX0_shareOut 24 = .ok (.iconst 3, 1) := dk_6 (dk_at dksX0_shareOut_1 0 rfl rfl)
theorem dX0_shareOut_25 : decode cX0_shareOut 25 = .ok (.ireturn, 1) := dk_172 (dk_at dksX0_shareOut_1 1 rfl rfl)
theorem dX0_shareOut_26 : decode cX0_shareOut 26 = .ok (.iconst 0, 1) := dk_3 (dk_at dksX0_shareOut_1 2 rfl rfl)
theorem dX0_shareOut_27 : decode cX0_shareOut 27 = .ok (.ireturn, 1) := dk_172 (dk_at dksX0_shareOut_1 3 rfl rfl)
abbrev cX0_ring : ByteArray := method_11_code
def yX0_ring : MethodName := ⟨RX0, "ring", "(LPublicanry;IILPublicanryLaw$Out;)I"⟩
def dkwX0_ring_0 : List UInt8 := [45, 42, 27, 28, 182, 0, 52, 133, 181, 0, 13, 167, 0, 11, 58, 4, 4, 172, 58, 4, 5, 172, 3, 172]
abbrev dktX0_ring_0 : List UInt8 := dkwX0_ring_0 ++ []
theorem dksX0_ring_0 : cX0_ring.data.toList.drop 0 = dktX0_ring_0 := by decide +kernel
theorem dX0_ring_0 : decode cX0_ring 0 = .ok (.aload_n 3, 1) := dk_45 (dk_at dksX0_ring_0 0 rfl rfl)
theorem dX0_ring_1 : decode cX0_ring 1 = .ok (.aload_n 0, 1) := dk_42 (dk_at dksX0_ring_0 1 rfl rfl)
theorem dX0_ring_2 : decode cX0_ring 2 = .ok (.iload_n 1, 1) := dk_27 (dk_at dksX0_ring_0 2 rfl rfl)
theorem dX0_ring_3 : decode cX0_ring 3 = .ok (.iload_n 2, 1) := dk_28 (dk_at dksX0_ring_0 3 rfl rfl)
theorem dX0_ring_4 : decode cX0_ring 4 = .ok (.invokevirtual 52, 3) := dk_182 0 52 (dk_at dksX0_ring_0 4 rfl rfl)
theorem dX0_ring_7 : decode cX0_ring 7 = .ok (.i2l, 1) := dk_133 (dk_at dksX0_ring_0 7 rfl rfl)
theorem dX0_ring_8 : decode cX0_ring 8 = .ok (.putfield 13, 3) := dk_181 0 13 (dk_at dksX0_ring_0 8 rfl rfl)
theorem dX0_ring_11 : decode cX0_ring 11 = .ok (.goto 11, 3) := dk_167 0 11 (dk_at dksX0_ring_0 11 rfl rfl)
theorem dX0_ring_14 : decode cX0_ring 14 = .ok (.astore 4, 2) := dk_58 4 (dk_at dksX0_ring_0 14 rfl rfl)
theorem dX0_ring_16 : decode cX0_ring 16 = .ok (.iconst 1, 1) := dk_4 (dk_at dksX0_ring_0 16 rfl rfl)
theorem dX0_ring_17 : decode cX0_ring 17 = .ok (.ireturn, 1) := dk_172 (dk_at dksX0_ring_0 17 rfl rfl)
theorem dX0_ring_18 : decode cX0_ring 18 = .ok (.astore 4, 2) := dk_58 4 (dk_at dksX0_ring_0 18 rfl rfl)
theorem dX0_ring_20 : decode cX0_ring 20 = .ok (.iconst 2, 1) := dk_5 (dk_at dksX0_ring_0 20 rfl rfl)
theorem dX0_ring_21 : decode cX0_ring 21 = .ok (.ireturn, 1) := dk_172 (dk_at dksX0_ring_0 21 rfl rfl)
theorem dX0_ring_22 : decode cX0_ring 22 = .ok (.iconst 0, 1) := dk_3 (dk_at dksX0_ring_0 22 rfl rfl)
theorem dX0_ring_23 : decode cX0_ring 23 = .ok (.ireturn, 1) := dk_172 (dk_at dksX0_ring_0 23 rfl rfl)
abbrev cX0_lot : ByteArray := method_12_code
def yX0_lot : MethodName := ⟨RX0, "lot", "(LPublicanry;IIIILPublicanryLaw$Out;)I"⟩
def dkwX0_lot_1 : List UInt8 := [5, 172, 58, 6, 6, 172, 3, 172]
abbrev dktX0_lot_1 : List UInt8 := dkwX0_lot_1 ++ []
def dkwX0_lot_0 : List UInt8 := [25, 5, 42, 27, 28, 29, 21, 4, 182, 0, 55, 133, 181, 0, 13, 167, 0, 15, 58, 6, 4, 172, 58, 6]
abbrev dktX0_lot_0 : List UInt8 := dkwX0_lot_0 ++ dktX0_lot_1
theorem dksX0_lot_0 : cX0_lot.data.toList.drop 0 = dktX0_lot_0 := by decide +kernel
theorem dksX0_lot_1 : cX0_lot.data.toList.drop 24 = dktX0_lot_1 := dk_seg dksX0_lot_0 24 rfl rfl
theorem dX0_lot_0 : decode cX0_lot 0 = .ok (.aload 5, 2) := dk_25 5 (dk_at dksX0_lot_0 0 rfl rfl)
theorem dX0_lot_2 : decode cX0_lot 2 = .ok (.aload_n 0, 1) := dk_42 (dk_at dksX0_lot_0 2 rfl rfl)
theorem dX0_lot_3 : decode cX0_lot 3 = .ok (.iload_n 1, 1) := dk_27 (dk_at dksX0_lot_0 3 rfl rfl)
theorem dX0_lot_4 : decode cX0_lot 4 = .ok (.iload_n 2, 1) := dk_28 (dk_at dksX0_lot_0 4 rfl rfl)
theorem dX0_lot_5 : decode cX0_lot 5 = .ok (.iload_n 3, 1) := dk_29 (dk_at dksX0_lot_0 5 rfl rfl)
theorem dX0_lot_6 : decode cX0_lot 6 = .ok (.iload 4, 2) := dk_21 4 (dk_at dksX0_lot_0 6 rfl rfl)
theorem dX0_lot_8 : decode cX0_lot 8 = .ok (.invokevirtual 55, 3) := dk_182 0 55 (dk_at dksX0_lot_0 8 rfl rfl)
theorem dX0_lot_11 : decode cX0_lot 11 = .ok (.i2l, 1) := dk_133 (dk_at dksX0_lot_0 11 rfl rfl)
theorem dX0_lot_12 : decode cX0_lot 12 = .ok (.putfield 13, 3) := dk_181 0 13 (dk_at dksX0_lot_0 12 rfl rfl)
theorem dX0_lot_15 : decode cX0_lot 15 = .ok (.goto 15, 3) := dk_167 0 15 (dk_at dksX0_lot_0 15 rfl rfl)
theorem dX0_lot_18 : decode cX0_lot 18 = .ok (.astore 6, 2) := dk_58 6 (dk_at dksX0_lot_0 18 rfl rfl)
theorem dX0_lot_20 : decode cX0_lot 20 = .ok (.iconst 1, 1) := dk_4 (dk_at dksX0_lot_0 20 rfl rfl)
theorem dX0_lot_21 : decode cX0_lot 21 = .ok (.ireturn, 1) := dk_172 (dk_at dksX0_lot_0 21 rfl rfl)
theorem dX0_lot_22 : decode cX0_lot 22 = .ok (.astore 6, 2) := dk_58 6 (dk_at dksX0_lot_0 22 rfl rfl)
theorem dX0_lot_24 : decode cX0_lot 24 = .ok (.iconst 2, 1) := dk_5 (dk_at dksX0_lot_1 0 rfl rfl)
theorem dX0_lot_25 : decode cX0_lot 25 = .ok (.ireturn, 1) := dk_172 (dk_at dksX0_lot_1 1 rfl rfl)
theorem dX0_lot_26 : decode cX0_lot 26 = .ok (.astore 6, 2) := dk_58 6 (dk_at dksX0_lot_1 2 rfl rfl)
theorem dX0_lot_28 : decode cX0_lot 28 = .ok (.iconst 3, 1) := dk_6 (dk_at dksX0_lot_1 4 rfl rfl)
theorem dX0_lot_29 : decode cX0_lot 29 = .ok (.ireturn, 1) := dk_172 (dk_at dksX0_lot_1 5 rfl rfl)
theorem dX0_lot_30 : decode cX0_lot 30 = .ok (.iconst 0, 1) := dk_3 (dk_at dksX0_lot_1 6 rfl rfl)
theorem dX0_lot_31 : decode cX0_lot 31 = .ok (.ireturn, 1) := dk_172 (dk_at dksX0_lot_1 7 rfl rfl)
abbrev cX0_bid : ByteArray := method_13_code
def yX0_bid : MethodName := ⟨RX0, "bid", "(LPublicanry;IIILPublicanryLaw$Out;)I"⟩
def dkwX0_bid_1 : List UInt8 := [58, 5, 6, 172, 3, 172]
abbrev dktX0_bid_1 : List UInt8 := dkwX0_bid_1 ++ []
def dkwX0_bid_0 : List UInt8 := [25, 4, 42, 27, 28, 29, 182, 0, 58, 133, 181, 0, 13, 167, 0, 15, 58, 5, 4, 172, 58, 5, 5, 172]
abbrev dktX0_bid_0 : List UInt8 := dkwX0_bid_0 ++ dktX0_bid_1
theorem dksX0_bid_0 : cX0_bid.data.toList.drop 0 = dktX0_bid_0 := by decide +kernel
theorem dksX0_bid_1 : cX0_bid.data.toList.drop 24 = dktX0_bid_1 := dk_seg dksX0_bid_0 24 rfl rfl
theorem dX0_bid_0 : decode cX0_bid 0 = .ok (.aload 4, 2) := dk_25 4 (dk_at dksX0_bid_0 0 rfl rfl)
theorem dX0_bid_2 : decode cX0_bid 2 = .ok (.aload_n 0, 1) := dk_42 (dk_at dksX0_bid_0 2 rfl rfl)
theorem dX0_bid_3 : decode cX0_bid 3 = .ok (.iload_n 1, 1) := dk_27 (dk_at dksX0_bid_0 3 rfl rfl)
theorem dX0_bid_4 : decode cX0_bid 4 = .ok (.iload_n 2, 1) := dk_28 (dk_at dksX0_bid_0 4 rfl rfl)
theorem dX0_bid_5 : decode cX0_bid 5 = .ok (.iload_n 3, 1) := dk_29 (dk_at dksX0_bid_0 5 rfl rfl)
theorem dX0_bid_6 : decode cX0_bid 6 = .ok (.invokevirtual 58, 3) := dk_182 0 58 (dk_at dksX0_bid_0 6 rfl rfl)
theorem dX0_bid_9 : decode cX0_bid 9 = .ok (.i2l, 1) := dk_133 (dk_at dksX0_bid_0 9 rfl rfl)
theorem dX0_bid_10 : decode cX0_bid 10 = .ok (.putfield 13, 3) := dk_181 0 13 (dk_at dksX0_bid_0 10 rfl rfl)
theorem dX0_bid_13 : decode cX0_bid 13 = .ok (.goto 15, 3) := dk_167 0 15 (dk_at dksX0_bid_0 13 rfl rfl)
theorem dX0_bid_16 : decode cX0_bid 16 = .ok (.astore 5, 2) := dk_58 5 (dk_at dksX0_bid_0 16 rfl rfl)
theorem dX0_bid_18 : decode cX0_bid 18 = .ok (.iconst 1, 1) := dk_4 (dk_at dksX0_bid_0 18 rfl rfl)
theorem dX0_bid_19 : decode cX0_bid 19 = .ok (.ireturn, 1) := dk_172 (dk_at dksX0_bid_0 19 rfl rfl)
theorem dX0_bid_20 : decode cX0_bid 20 = .ok (.astore 5, 2) := dk_58 5 (dk_at dksX0_bid_0 20 rfl rfl)
theorem dX0_bid_22 : decode cX0_bid 22 = .ok (.iconst 2, 1) := dk_5 (dk_at dksX0_bid_0 22 rfl rfl)
theorem dX0_bid_23 : decode cX0_bid 23 = .ok (.ireturn, 1) := dk_172 (dk_at dksX0_bid_0 23 rfl rfl)
theorem dX0_bid_24 : decode cX0_bid 24 = .ok (.astore 5, 2) := dk_58 5 (dk_at dksX0_bid_1 0 rfl rfl)
theorem dX0_bid_26 : decode cX0_bid 26 = .ok (.iconst 3, 1) := dk_6 (dk_at dksX0_bid_1 2 rfl rfl)
theorem dX0_bid_27 : decode cX0_bid 27 = .ok (.ireturn, 1) := dk_172 (dk_at dksX0_bid_1 3 rfl rfl)
theorem dX0_bid_28 : decode cX0_bid 28 = .ok (.iconst 0, 1) := dk_3 (dk_at dksX0_bid_1 4 rfl rfl)
theorem dX0_bid_29 : decode cX0_bid 29 = .ok (.ireturn, 1) := dk_172 (dk_at dksX0_bid_1 5 rfl rfl)
abbrev cX0_award : ByteArray := method_14_code
def yX0_award : MethodName := ⟨RX0, "award", "(LPublicanry;ILPublicanryLaw$Out;)I"⟩
def dkwX0_award_0 : List UInt8 := [44, 42, 27, 182, 0, 61, 133, 181, 0, 13, 167, 0, 9, 78, 4, 172, 78, 5, 172, 3, 172]
abbrev dktX0_award_0 : List UInt8 := dkwX0_award_0 ++ []
theorem dksX0_award_0 : cX0_award.data.toList.drop 0 = dktX0_award_0 := by decide +kernel
theorem dX0_award_0 : decode cX0_award 0 = .ok (.aload_n 2, 1) := dk_44 (dk_at dksX0_award_0 0 rfl rfl)
theorem dX0_award_1 : decode cX0_award 1 = .ok (.aload_n 0, 1) := dk_42 (dk_at dksX0_award_0 1 rfl rfl)
theorem dX0_award_2 : decode cX0_award 2 = .ok (.iload_n 1, 1) := dk_27 (dk_at dksX0_award_0 2 rfl rfl)
theorem dX0_award_3 : decode cX0_award 3 = .ok (.invokevirtual 61, 3) := dk_182 0 61 (dk_at dksX0_award_0 3 rfl rfl)
theorem dX0_award_6 : decode cX0_award 6 = .ok (.i2l, 1) := dk_133 (dk_at dksX0_award_0 6 rfl rfl)
theorem dX0_award_7 : decode cX0_award 7 = .ok (.putfield 13, 3) := dk_181 0 13 (dk_at dksX0_award_0 7 rfl rfl)
theorem dX0_award_10 : decode cX0_award 10 = .ok (.goto 9, 3) := dk_167 0 9 (dk_at dksX0_award_0 10 rfl rfl)
theorem dX0_award_13 : decode cX0_award 13 = .ok (.astore_n 3, 1) := dk_78 (dk_at dksX0_award_0 13 rfl rfl)
theorem dX0_award_14 : decode cX0_award 14 = .ok (.iconst 1, 1) := dk_4 (dk_at dksX0_award_0 14 rfl rfl)
theorem dX0_award_15 : decode cX0_award 15 = .ok (.ireturn, 1) := dk_172 (dk_at dksX0_award_0 15 rfl rfl)
theorem dX0_award_16 : decode cX0_award 16 = .ok (.astore_n 3, 1) := dk_78 (dk_at dksX0_award_0 16 rfl rfl)
theorem dX0_award_17 : decode cX0_award 17 = .ok (.iconst 2, 1) := dk_5 (dk_at dksX0_award_0 17 rfl rfl)
theorem dX0_award_18 : decode cX0_award 18 = .ok (.ireturn, 1) := dk_172 (dk_at dksX0_award_0 18 rfl rfl)
theorem dX0_award_19 : decode cX0_award 19 = .ok (.iconst 0, 1) := dk_3 (dk_at dksX0_award_0 19 rfl rfl)
theorem dX0_award_20 : decode cX0_award 20 = .ok (.ireturn, 1) := dk_172 (dk_at dksX0_award_0 20 rfl rfl)
abbrev cX0_force : ByteArray := method_15_code
def yX0_force : MethodName := ⟨RX0, "force", "(LPublicanry;IILPublicanryLaw$Out;)I"⟩
def dkwX0_force_0 : List UInt8 := [45, 42, 27, 28, 182, 0, 64, 133, 181, 0, 13, 167, 0, 11, 58, 4, 4, 172, 58, 4, 5, 172, 3, 172]
abbrev dktX0_force_0 : List UInt8 := dkwX0_force_0 ++ []
theorem dksX0_force_0 : cX0_force.data.toList.drop 0 = dktX0_force_0 := by decide +kernel
theorem dX0_force_0 : decode cX0_force 0 = .ok (.aload_n 3, 1) := dk_45 (dk_at dksX0_force_0 0 rfl rfl)
theorem dX0_force_1 : decode cX0_force 1 = .ok (.aload_n 0, 1) := dk_42 (dk_at dksX0_force_0 1 rfl rfl)
theorem dX0_force_2 : decode cX0_force 2 = .ok (.iload_n 1, 1) := dk_27 (dk_at dksX0_force_0 2 rfl rfl)
theorem dX0_force_3 : decode cX0_force 3 = .ok (.iload_n 2, 1) := dk_28 (dk_at dksX0_force_0 3 rfl rfl)
theorem dX0_force_4 : decode cX0_force 4 = .ok (.invokevirtual 64, 3) := dk_182 0 64 (dk_at dksX0_force_0 4 rfl rfl)
theorem dX0_force_7 : decode cX0_force 7 = .ok (.i2l, 1) := dk_133 (dk_at dksX0_force_0 7 rfl rfl)
theorem dX0_force_8 : decode cX0_force 8 = .ok (.putfield 13, 3) := dk_181 0 13 (dk_at dksX0_force_0 8 rfl rfl)
theorem dX0_force_11 : decode cX0_force 11 = .ok (.goto 11, 3) := dk_167 0 11 (dk_at dksX0_force_0 11 rfl rfl)
theorem dX0_force_14 : decode cX0_force 14 = .ok (.astore 4, 2) := dk_58 4 (dk_at dksX0_force_0 14 rfl rfl)
theorem dX0_force_16 : decode cX0_force 16 = .ok (.iconst 1, 1) := dk_4 (dk_at dksX0_force_0 16 rfl rfl)
theorem dX0_force_17 : decode cX0_force 17 = .ok (.ireturn, 1) := dk_172 (dk_at dksX0_force_0 17 rfl rfl)
theorem dX0_force_18 : decode cX0_force 18 = .ok (.astore 4, 2) := dk_58 4 (dk_at dksX0_force_0 18 rfl rfl)
theorem dX0_force_20 : decode cX0_force 20 = .ok (.iconst 2, 1) := dk_5 (dk_at dksX0_force_0 20 rfl rfl)
theorem dX0_force_21 : decode cX0_force 21 = .ok (.ireturn, 1) := dk_172 (dk_at dksX0_force_0 21 rfl rfl)
theorem dX0_force_22 : decode cX0_force 22 = .ok (.iconst 0, 1) := dk_3 (dk_at dksX0_force_0 22 rfl rfl)
theorem dX0_force_23 : decode cX0_force 23 = .ok (.ireturn, 1) := dk_172 (dk_at dksX0_force_0 23 rfl rfl)
abbrev cX0_letOn : ByteArray := method_16_code
def yX0_letOn : MethodName := ⟨RX0, "letOn", "(LPublicanry;IIILPublicanryLaw$Out;)I"⟩
def dkwX0_letOn_1 : List UInt8 := [58, 5, 6, 172, 3, 172]
abbrev dktX0_letOn_1 : List UInt8 := dkwX0_letOn_1 ++ []
def dkwX0_letOn_0 : List UInt8 := [25, 4, 42, 27, 28, 29, 182, 0, 67, 133, 181, 0, 13, 167, 0, 15, 58, 5, 4, 172, 58, 5, 5, 172]
abbrev dktX0_letOn_0 : List UInt8 := dkwX0_letOn_0 ++ dktX0_letOn_1
theorem dksX0_letOn_0 : cX0_letOn.data.toList.drop 0 = dktX0_letOn_0 := by decide +kernel
theorem dksX0_letOn_1 : cX0_letOn.data.toList.drop 24 = dktX0_letOn_1 := dk_seg dksX0_letOn_0 24 rfl rfl
theorem dX0_letOn_0 : decode cX0_letOn 0 = .ok (.aload 4, 2) := dk_25 4 (dk_at dksX0_letOn_0 0 rfl rfl)
theorem dX0_letOn_2 : decode cX0_letOn 2 = .ok (.aload_n 0, 1) := dk_42 (dk_at dksX0_letOn_0 2 rfl rfl)
theorem dX0_letOn_3 : decode cX0_letOn 3 = .ok (.iload_n 1, 1) := dk_27 (dk_at dksX0_letOn_0 3 rfl rfl)
theorem dX0_letOn_4 : decode cX0_letOn 4 = .ok (.iload_n 2, 1) := dk_28 (dk_at dksX0_letOn_0 4 rfl rfl)
theorem dX0_letOn_5 : decode cX0_letOn 5 = .ok (.iload_n 3, 1) := dk_29 (dk_at dksX0_letOn_0 5 rfl rfl)
theorem dX0_letOn_6 : decode cX0_letOn 6 = .ok (.invokevirtual 67, 3) := dk_182 0 67 (dk_at dksX0_letOn_0 6 rfl rfl)
theorem dX0_letOn_9 : decode cX0_letOn 9 = .ok (.i2l, 1) := dk_133 (dk_at dksX0_letOn_0 9 rfl rfl)
theorem dX0_letOn_10 : decode cX0_letOn 10 = .ok (.putfield 13, 3) := dk_181 0 13 (dk_at dksX0_letOn_0 10 rfl rfl)
theorem dX0_letOn_13 : decode cX0_letOn 13 = .ok (.goto 15, 3) := dk_167 0 15 (dk_at dksX0_letOn_0 13 rfl rfl)
theorem dX0_letOn_16 : decode cX0_letOn 16 = .ok (.astore 5, 2) := dk_58 5 (dk_at dksX0_letOn_0 16 rfl rfl)
theorem dX0_letOn_18 : decode cX0_letOn 18 = .ok (.iconst 1, 1) := dk_4 (dk_at dksX0_letOn_0 18 rfl rfl)
theorem dX0_letOn_19 : decode cX0_letOn 19 = .ok (.ireturn, 1) := dk_172 (dk_at dksX0_letOn_0 19 rfl rfl)
theorem dX0_letOn_20 : decode cX0_letOn 20 = .ok (.astore 5, 2) := dk_58 5 (dk_at dksX0_letOn_0 20 rfl rfl)
theorem dX0_letOn_22 : decode cX0_letOn 22 = .ok (.iconst 2, 1) := dk_5 (dk_at dksX0_letOn_0 22 rfl rfl)
theorem dX0_letOn_23 : decode cX0_letOn 23 = .ok (.ireturn, 1) := dk_172 (dk_at dksX0_letOn_0 23 rfl rfl)
theorem dX0_letOn_24 : decode cX0_letOn 24 = .ok (.astore 5, 2) := dk_58 5 (dk_at dksX0_letOn_1 0 rfl rfl)
theorem dX0_letOn_26 : decode cX0_letOn 26 = .ok (.iconst 3, 1) := dk_6 (dk_at dksX0_letOn_1 2 rfl rfl)
theorem dX0_letOn_27 : decode cX0_letOn 27 = .ok (.ireturn, 1) := dk_172 (dk_at dksX0_letOn_1 3 rfl rfl)
theorem dX0_letOn_28 : decode cX0_letOn 28 = .ok (.iconst 0, 1) := dk_3 (dk_at dksX0_letOn_1 4 rfl rfl)
theorem dX0_letOn_29 : decode cX0_letOn 29 = .ok (.ireturn, 1) := dk_172 (dk_at dksX0_letOn_1 5 rfl rfl)
abbrev cX0_deliver : ByteArray := method_17_code
def yX0_deliver : MethodName := ⟨RX0, "deliver", "(LPublicanry;IILPublicanryLaw$Out;)I"⟩
def dkwX0_deliver_1 : List UInt8 := [6, 172, 3, 172]
abbrev dktX0_deliver_1 : List UInt8 := dkwX0_deliver_1 ++ []
def dkwX0_deliver_0 : List UInt8 := [45, 42, 27, 28, 182, 0, 70, 133, 181, 0, 13, 167, 0, 15, 58, 4, 4, 172, 58, 4, 5, 172, 58, 4]
abbrev dktX0_deliver_0 : List UInt8 := dkwX0_deliver_0 ++ dktX0_deliver_1
theorem dksX0_deliver_0 : cX0_deliver.data.toList.drop 0 = dktX0_deliver_0 := by decide +kernel
theorem dksX0_deliver_1 : cX0_deliver.data.toList.drop 24 = dktX0_deliver_1 := dk_seg dksX0_deliver_0 24 rfl rfl
theorem dX0_deliver_0 : decode cX0_deliver 0 = .ok (.aload_n 3, 1) := dk_45 (dk_at dksX0_deliver_0 0 rfl rfl)
theorem dX0_deliver_1 : decode cX0_deliver 1 = .ok (.aload_n 0, 1) := dk_42 (dk_at dksX0_deliver_0 1 rfl rfl)
theorem dX0_deliver_2 : decode cX0_deliver 2 = .ok (.iload_n 1, 1) := dk_27 (dk_at dksX0_deliver_0 2 rfl rfl)
theorem dX0_deliver_3 : decode cX0_deliver 3 = .ok (.iload_n 2, 1) := dk_28 (dk_at dksX0_deliver_0 3 rfl rfl)
theorem dX0_deliver_4 : decode cX0_deliver 4 = .ok (.invokevirtual 70, 3) := dk_182 0 70 (dk_at dksX0_deliver_0 4 rfl rfl)
theorem dX0_deliver_7 : decode cX0_deliver 7 = .ok (.i2l, 1) := dk_133 (dk_at dksX0_deliver_0 7 rfl rfl)
theorem dX0_deliver_8 : decode cX0_deliver 8 = .ok (.putfield 13, 3) := dk_181 0 13 (dk_at dksX0_deliver_0 8 rfl rfl)
theorem dX0_deliver_11 : decode cX0_deliver 11 = .ok (.goto 15, 3) := dk_167 0 15 (dk_at dksX0_deliver_0 11 rfl rfl)
theorem dX0_deliver_14 : decode cX0_deliver 14 = .ok (.astore 4, 2) := dk_58 4 (dk_at dksX0_deliver_0 14 rfl rfl)
theorem dX0_deliver_16 : decode cX0_deliver 16 = .ok (.iconst 1, 1) := dk_4 (dk_at dksX0_deliver_0 16 rfl rfl)
theorem dX0_deliver_17 : decode cX0_deliver 17 = .ok (.ireturn, 1) := dk_172 (dk_at dksX0_deliver_0 17 rfl rfl)
theorem dX0_deliver_18 : decode cX0_deliver 18 = .ok (.astore 4, 2) := dk_58 4 (dk_at dksX0_deliver_0 18 rfl rfl)
theorem dX0_deliver_20 : decode cX0_deliver 20 = .ok (.iconst 2, 1) := dk_5 (dk_at dksX0_deliver_0 20 rfl rfl)
theorem dX0_deliver_21 : decode cX0_deliver 21 = .ok (.ireturn, 1) := dk_172 (dk_at dksX0_deliver_0 21 rfl rfl)
theorem dX0_deliver_22 : decode cX0_deliver 22 = .ok (.astore 4, 2) := dk_58 4 (dk_at dksX0_deliver_0 22 rfl rfl)
theorem dX0_deliver_24 : decode cX0_deliver 24 = .ok (.iconst 3, 1) := dk_6 (dk_at dksX0_deliver_1 0 rfl rfl)
theorem dX0_deliver_25 : decode cX0_deliver 25 = .ok (.ireturn, 1) := dk_172 (dk_at dksX0_deliver_1 1 rfl rfl)
theorem dX0_deliver_26 : decode cX0_deliver 26 = .ok (.iconst 0, 1) := dk_3 (dk_at dksX0_deliver_1 2 rfl rfl)
theorem dX0_deliver_27 : decode cX0_deliver 27 = .ok (.ireturn, 1) := dk_172 (dk_at dksX0_deliver_1 3 rfl rfl)
abbrev cX0_sue : ByteArray := method_18_code
def yX0_sue : MethodName := ⟨RX0, "sue", "(LPublicanry;IILPublicanryLaw$Out;)I"⟩
def dkwX0_sue_0 : List UInt8 := [45, 42, 27, 28, 182, 0, 73, 133, 181, 0, 13, 167, 0, 11, 58, 4, 4, 172, 58, 4, 5, 172, 3, 172]
abbrev dktX0_sue_0 : List UInt8 := dkwX0_sue_0 ++ []
theorem dksX0_sue_0 : cX0_sue.data.toList.drop 0 = dktX0_sue_0 := by decide +kernel
theorem dX0_sue_0 : decode cX0_sue 0 = .ok (.aload_n 3, 1) := dk_45 (dk_at dksX0_sue_0 0 rfl rfl)
theorem dX0_sue_1 : decode cX0_sue 1 = .ok (.aload_n 0, 1) := dk_42 (dk_at dksX0_sue_0 1 rfl rfl)
theorem dX0_sue_2 : decode cX0_sue 2 = .ok (.iload_n 1, 1) := dk_27 (dk_at dksX0_sue_0 2 rfl rfl)
theorem dX0_sue_3 : decode cX0_sue 3 = .ok (.iload_n 2, 1) := dk_28 (dk_at dksX0_sue_0 3 rfl rfl)
theorem dX0_sue_4 : decode cX0_sue 4 = .ok (.invokevirtual 73, 3) := dk_182 0 73 (dk_at dksX0_sue_0 4 rfl rfl)
theorem dX0_sue_7 : decode cX0_sue 7 = .ok (.i2l, 1) := dk_133 (dk_at dksX0_sue_0 7 rfl rfl)
theorem dX0_sue_8 : decode cX0_sue 8 = .ok (.putfield 13, 3) := dk_181 0 13 (dk_at dksX0_sue_0 8 rfl rfl)
theorem dX0_sue_11 : decode cX0_sue 11 = .ok (.goto 11, 3) := dk_167 0 11 (dk_at dksX0_sue_0 11 rfl rfl)
theorem dX0_sue_14 : decode cX0_sue 14 = .ok (.astore 4, 2) := dk_58 4 (dk_at dksX0_sue_0 14 rfl rfl)
theorem dX0_sue_16 : decode cX0_sue 16 = .ok (.iconst 1, 1) := dk_4 (dk_at dksX0_sue_0 16 rfl rfl)
theorem dX0_sue_17 : decode cX0_sue 17 = .ok (.ireturn, 1) := dk_172 (dk_at dksX0_sue_0 17 rfl rfl)
theorem dX0_sue_18 : decode cX0_sue 18 = .ok (.astore 4, 2) := dk_58 4 (dk_at dksX0_sue_0 18 rfl rfl)
theorem dX0_sue_20 : decode cX0_sue 20 = .ok (.iconst 2, 1) := dk_5 (dk_at dksX0_sue_0 20 rfl rfl)
theorem dX0_sue_21 : decode cX0_sue 21 = .ok (.ireturn, 1) := dk_172 (dk_at dksX0_sue_0 21 rfl rfl)
theorem dX0_sue_22 : decode cX0_sue 22 = .ok (.iconst 0, 1) := dk_3 (dk_at dksX0_sue_0 22 rfl rfl)
theorem dX0_sue_23 : decode cX0_sue 23 = .ok (.ireturn, 1) := dk_172 (dk_at dksX0_sue_0 23 rfl rfl)
abbrev cX0_bench : ByteArray := method_19_code
def yX0_bench : MethodName := ⟨RX0, "bench", "(LPublicanry;ILPublicanryLaw$Out;)I"⟩
def dkwX0_bench_0 : List UInt8 := [44, 42, 27, 182, 0, 76, 133, 181, 0, 13, 167, 0, 6, 78, 4, 172, 3, 172]
abbrev dktX0_bench_0 : List UInt8 := dkwX0_bench_0 ++ []
theorem dksX0_bench_0 : cX0_bench.data.toList.drop 0 = dktX0_bench_0 := by decide +kernel
theorem dX0_bench_0 : decode cX0_bench 0 = .ok (.aload_n 2, 1) := dk_44 (dk_at dksX0_bench_0 0 rfl rfl)
theorem dX0_bench_1 : decode cX0_bench 1 = .ok (.aload_n 0, 1) := dk_42 (dk_at dksX0_bench_0 1 rfl rfl)
theorem dX0_bench_2 : decode cX0_bench 2 = .ok (.iload_n 1, 1) := dk_27 (dk_at dksX0_bench_0 2 rfl rfl)
theorem dX0_bench_3 : decode cX0_bench 3 = .ok (.invokevirtual 76, 3) := dk_182 0 76 (dk_at dksX0_bench_0 3 rfl rfl)
theorem dX0_bench_6 : decode cX0_bench 6 = .ok (.i2l, 1) := dk_133 (dk_at dksX0_bench_0 6 rfl rfl)
theorem dX0_bench_7 : decode cX0_bench 7 = .ok (.putfield 13, 3) := dk_181 0 13 (dk_at dksX0_bench_0 7 rfl rfl)
theorem dX0_bench_10 : decode cX0_bench 10 = .ok (.goto 6, 3) := dk_167 0 6 (dk_at dksX0_bench_0 10 rfl rfl)
theorem dX0_bench_13 : decode cX0_bench 13 = .ok (.astore_n 3, 1) := dk_78 (dk_at dksX0_bench_0 13 rfl rfl)
theorem dX0_bench_14 : decode cX0_bench 14 = .ok (.iconst 1, 1) := dk_4 (dk_at dksX0_bench_0 14 rfl rfl)
theorem dX0_bench_15 : decode cX0_bench 15 = .ok (.ireturn, 1) := dk_172 (dk_at dksX0_bench_0 15 rfl rfl)
theorem dX0_bench_16 : decode cX0_bench 16 = .ok (.iconst 0, 1) := dk_3 (dk_at dksX0_bench_0 16 rfl rfl)
theorem dX0_bench_17 : decode cX0_bench 17 = .ok (.ireturn, 1) := dk_172 (dk_at dksX0_bench_0 17 rfl rfl)
abbrev cX0_gift : ByteArray := method_20_code
def yX0_gift : MethodName := ⟨RX0, "gift", "(LPublicanry;IILPublicanryLaw$Out;)I"⟩
def dkwX0_gift_1 : List UInt8 := [6, 172, 3, 172]
abbrev dktX0_gift_1 : List UInt8 := dkwX0_gift_1 ++ []
def dkwX0_gift_0 : List UInt8 := [45, 42, 27, 28, 182, 0, 79, 133, 181, 0, 13, 167, 0, 15, 58, 4, 4, 172, 58, 4, 5, 172, 58, 4]
abbrev dktX0_gift_0 : List UInt8 := dkwX0_gift_0 ++ dktX0_gift_1
theorem dksX0_gift_0 : cX0_gift.data.toList.drop 0 = dktX0_gift_0 := by decide +kernel
theorem dksX0_gift_1 : cX0_gift.data.toList.drop 24 = dktX0_gift_1 := dk_seg dksX0_gift_0 24 rfl rfl
theorem dX0_gift_0 : decode cX0_gift 0 = .ok (.aload_n 3, 1) := dk_45 (dk_at dksX0_gift_0 0 rfl rfl)
theorem dX0_gift_1 : decode cX0_gift 1 = .ok (.aload_n 0, 1) := dk_42 (dk_at dksX0_gift_0 1 rfl rfl)
theorem dX0_gift_2 : decode cX0_gift 2 = .ok (.iload_n 1, 1) := dk_27 (dk_at dksX0_gift_0 2 rfl rfl)
theorem dX0_gift_3 : decode cX0_gift 3 = .ok (.iload_n 2, 1) := dk_28 (dk_at dksX0_gift_0 3 rfl rfl)
theorem dX0_gift_4 : decode cX0_gift 4 = .ok (.invokevirtual 79, 3) := dk_182 0 79 (dk_at dksX0_gift_0 4 rfl rfl)
theorem dX0_gift_7 : decode cX0_gift 7 = .ok (.i2l, 1) := dk_133 (dk_at dksX0_gift_0 7 rfl rfl)
theorem dX0_gift_8 : decode cX0_gift 8 = .ok (.putfield 13, 3) := dk_181 0 13 (dk_at dksX0_gift_0 8 rfl rfl)
theorem dX0_gift_11 : decode cX0_gift 11 = .ok (.goto 15, 3) := dk_167 0 15 (dk_at dksX0_gift_0 11 rfl rfl)
theorem dX0_gift_14 : decode cX0_gift 14 = .ok (.astore 4, 2) := dk_58 4 (dk_at dksX0_gift_0 14 rfl rfl)
theorem dX0_gift_16 : decode cX0_gift 16 = .ok (.iconst 1, 1) := dk_4 (dk_at dksX0_gift_0 16 rfl rfl)
theorem dX0_gift_17 : decode cX0_gift 17 = .ok (.ireturn, 1) := dk_172 (dk_at dksX0_gift_0 17 rfl rfl)
theorem dX0_gift_18 : decode cX0_gift 18 = .ok (.astore 4, 2) := dk_58 4 (dk_at dksX0_gift_0 18 rfl rfl)
theorem dX0_gift_20 : decode cX0_gift 20 = .ok (.iconst 2, 1) := dk_5 (dk_at dksX0_gift_0 20 rfl rfl)
theorem dX0_gift_21 : decode cX0_gift 21 = .ok (.ireturn, 1) := dk_172 (dk_at dksX0_gift_0 21 rfl rfl)
theorem dX0_gift_22 : decode cX0_gift 22 = .ok (.astore 4, 2) := dk_58 4 (dk_at dksX0_gift_0 22 rfl rfl)
theorem dX0_gift_24 : decode cX0_gift 24 = .ok (.iconst 3, 1) := dk_6 (dk_at dksX0_gift_1 0 rfl rfl)
theorem dX0_gift_25 : decode cX0_gift 25 = .ok (.ireturn, 1) := dk_172 (dk_at dksX0_gift_1 1 rfl rfl)
theorem dX0_gift_26 : decode cX0_gift 26 = .ok (.iconst 0, 1) := dk_3 (dk_at dksX0_gift_1 2 rfl rfl)
theorem dX0_gift_27 : decode cX0_gift 27 = .ok (.ireturn, 1) := dk_172 (dk_at dksX0_gift_1 3 rfl rfl)
abbrev cX0_quarter : ByteArray := method_21_code
def yX0_quarter : MethodName := ⟨RX0, "quarter", "(LPublicanry;ILPublicanryLaw$Out;)I"⟩
def dkwX0_quarter_0 : List UInt8 := [44, 42, 27, 182, 0, 82, 133, 181, 0, 13, 167, 0, 6, 78, 4, 172, 3, 172]
abbrev dktX0_quarter_0 : List UInt8 := dkwX0_quarter_0 ++ []
theorem dksX0_quarter_0 : cX0_quarter.data.toList.drop 0 = dktX0_quarter_0 := by decide +kernel
theorem dX0_quarter_0 : decode cX0_quarter 0 = .ok (.aload_n 2, 1) := dk_44 (dk_at dksX0_quarter_0 0 rfl rfl)
theorem dX0_quarter_1 : decode cX0_quarter 1 = .ok (.aload_n 0, 1) := dk_42 (dk_at dksX0_quarter_0 1 rfl rfl)
theorem dX0_quarter_2 : decode cX0_quarter 2 = .ok (.iload_n 1, 1) := dk_27 (dk_at dksX0_quarter_0 2 rfl rfl)
theorem dX0_quarter_3 : decode cX0_quarter 3 = .ok (.invokevirtual 82, 3) := dk_182 0 82 (dk_at dksX0_quarter_0 3 rfl rfl)
theorem dX0_quarter_6 : decode cX0_quarter 6 = .ok (.i2l, 1) := dk_133 (dk_at dksX0_quarter_0 6 rfl rfl)
theorem dX0_quarter_7 : decode cX0_quarter 7 = .ok (.putfield 13, 3) := dk_181 0 13 (dk_at dksX0_quarter_0 7 rfl rfl)
theorem dX0_quarter_10 : decode cX0_quarter 10 = .ok (.goto 6, 3) := dk_167 0 6 (dk_at dksX0_quarter_0 10 rfl rfl)
theorem dX0_quarter_13 : decode cX0_quarter 13 = .ok (.astore_n 3, 1) := dk_78 (dk_at dksX0_quarter_0 13 rfl rfl)
theorem dX0_quarter_14 : decode cX0_quarter 14 = .ok (.iconst 1, 1) := dk_4 (dk_at dksX0_quarter_0 14 rfl rfl)
theorem dX0_quarter_15 : decode cX0_quarter 15 = .ok (.ireturn, 1) := dk_172 (dk_at dksX0_quarter_0 15 rfl rfl)
theorem dX0_quarter_16 : decode cX0_quarter 16 = .ok (.iconst 0, 1) := dk_3 (dk_at dksX0_quarter_0 16 rfl rfl)
theorem dX0_quarter_17 : decode cX0_quarter 17 = .ok (.ireturn, 1) := dk_172 (dk_at dksX0_quarter_0 17 rfl rfl)
abbrev cX0_remit : ByteArray := method_22_code
def yX0_remit : MethodName := ⟨RX0, "remit", "(LPublicanry;ILPublicanryLaw$Out;)I"⟩
def dkwX0_remit_0 : List UInt8 := [44, 42, 27, 182, 0, 85, 133, 181, 0, 13, 167, 0, 9, 78, 4, 172, 78, 5, 172, 3, 172]
abbrev dktX0_remit_0 : List UInt8 := dkwX0_remit_0 ++ []
theorem dksX0_remit_0 : cX0_remit.data.toList.drop 0 = dktX0_remit_0 := by decide +kernel
theorem dX0_remit_0 : decode cX0_remit 0 = .ok (.aload_n 2, 1) := dk_44 (dk_at dksX0_remit_0 0 rfl rfl)
theorem dX0_remit_1 : decode cX0_remit 1 = .ok (.aload_n 0, 1) := dk_42 (dk_at dksX0_remit_0 1 rfl rfl)
theorem dX0_remit_2 : decode cX0_remit 2 = .ok (.iload_n 1, 1) := dk_27 (dk_at dksX0_remit_0 2 rfl rfl)
theorem dX0_remit_3 : decode cX0_remit 3 = .ok (.invokevirtual 85, 3) := dk_182 0 85 (dk_at dksX0_remit_0 3 rfl rfl)
theorem dX0_remit_6 : decode cX0_remit 6 = .ok (.i2l, 1) := dk_133 (dk_at dksX0_remit_0 6 rfl rfl)
theorem dX0_remit_7 : decode cX0_remit 7 = .ok (.putfield 13, 3) := dk_181 0 13 (dk_at dksX0_remit_0 7 rfl rfl)
theorem dX0_remit_10 : decode cX0_remit 10 = .ok (.goto 9, 3) := dk_167 0 9 (dk_at dksX0_remit_0 10 rfl rfl)
theorem dX0_remit_13 : decode cX0_remit 13 = .ok (.astore_n 3, 1) := dk_78 (dk_at dksX0_remit_0 13 rfl rfl)
theorem dX0_remit_14 : decode cX0_remit 14 = .ok (.iconst 1, 1) := dk_4 (dk_at dksX0_remit_0 14 rfl rfl)
theorem dX0_remit_15 : decode cX0_remit 15 = .ok (.ireturn, 1) := dk_172 (dk_at dksX0_remit_0 15 rfl rfl)
theorem dX0_remit_16 : decode cX0_remit 16 = .ok (.astore_n 3, 1) := dk_78 (dk_at dksX0_remit_0 16 rfl rfl)
theorem dX0_remit_17 : decode cX0_remit 17 = .ok (.iconst 2, 1) := dk_5 (dk_at dksX0_remit_0 17 rfl rfl)
theorem dX0_remit_18 : decode cX0_remit 18 = .ok (.ireturn, 1) := dk_172 (dk_at dksX0_remit_0 18 rfl rfl)
theorem dX0_remit_19 : decode cX0_remit 19 = .ok (.iconst 0, 1) := dk_3 (dk_at dksX0_remit_0 19 rfl rfl)
theorem dX0_remit_20 : decode cX0_remit 20 = .ok (.ireturn, 1) := dk_172 (dk_at dksX0_remit_0 20 rfl rfl)
abbrev cX0_clerks : ByteArray := method_23_code
def yX0_clerks : MethodName := ⟨RX0, "clerks", "(LPublicanry;IZLPublicanryLaw$Out;)I"⟩
def dkwX0_clerks_1 : List UInt8 := [172, 3, 172]
abbrev dktX0_clerks_1 : List UInt8 := dkwX0_clerks_1 ++ []
def dkwX0_clerks_0 : List UInt8 := [45, 42, 27, 28, 182, 0, 88, 153, 0, 7, 10, 167, 0, 4, 9, 181, 0, 13, 167, 0, 7, 58, 4, 4]
abbrev dktX0_clerks_0 : List UInt8 := dkwX0_clerks_0 ++ dktX0_clerks_1
theorem dksX0_clerks_0 : cX0_clerks.data.toList.drop 0 = dktX0_clerks_0 := by decide +kernel
theorem dksX0_clerks_1 : cX0_clerks.data.toList.drop 24 = dktX0_clerks_1 := dk_seg dksX0_clerks_0 24 rfl rfl
theorem dX0_clerks_0 : decode cX0_clerks 0 = .ok (.aload_n 3, 1) := dk_45 (dk_at dksX0_clerks_0 0 rfl rfl)
theorem dX0_clerks_1 : decode cX0_clerks 1 = .ok (.aload_n 0, 1) := dk_42 (dk_at dksX0_clerks_0 1 rfl rfl)
theorem dX0_clerks_2 : decode cX0_clerks 2 = .ok (.iload_n 1, 1) := dk_27 (dk_at dksX0_clerks_0 2 rfl rfl)
theorem dX0_clerks_3 : decode cX0_clerks 3 = .ok (.iload_n 2, 1) := dk_28 (dk_at dksX0_clerks_0 3 rfl rfl)
theorem dX0_clerks_4 : decode cX0_clerks 4 = .ok (.invokevirtual 88, 3) := dk_182 0 88 (dk_at dksX0_clerks_0 4 rfl rfl)
theorem dX0_clerks_7 : decode cX0_clerks 7 = .ok (.ifCond .eq 7, 3) := dk_153 0 7 (dk_at dksX0_clerks_0 7 rfl rfl)
theorem dX0_clerks_10 : decode cX0_clerks 10 = .ok (.lconst 1, 1) := dk_10 (dk_at dksX0_clerks_0 10 rfl rfl)
theorem dX0_clerks_11 : decode cX0_clerks 11 = .ok (.goto 4, 3) := dk_167 0 4 (dk_at dksX0_clerks_0 11 rfl rfl)
theorem dX0_clerks_14 : decode cX0_clerks 14 = .ok (.lconst 0, 1) := dk_9 (dk_at dksX0_clerks_0 14 rfl rfl)
theorem dX0_clerks_15 : decode cX0_clerks 15 = .ok (.putfield 13, 3) := dk_181 0 13 (dk_at dksX0_clerks_0 15 rfl rfl)
theorem dX0_clerks_18 : decode cX0_clerks 18 = .ok (.goto 7, 3) := dk_167 0 7 (dk_at dksX0_clerks_0 18 rfl rfl)
theorem dX0_clerks_21 : decode cX0_clerks 21 = .ok (.astore 4, 2) := dk_58 4 (dk_at dksX0_clerks_0 21 rfl rfl)
theorem dX0_clerks_23 : decode cX0_clerks 23 = .ok (.iconst 1, 1) := dk_4 (dk_at dksX0_clerks_0 23 rfl rfl)
theorem dX0_clerks_24 : decode cX0_clerks 24 = .ok (.ireturn, 1) := dk_172 (dk_at dksX0_clerks_1 0 rfl rfl)
theorem dX0_clerks_25 : decode cX0_clerks 25 = .ok (.iconst 0, 1) := dk_3 (dk_at dksX0_clerks_1 1 rfl rfl)
theorem dX0_clerks_26 : decode cX0_clerks 26 = .ok (.ireturn, 1) := dk_172 (dk_at dksX0_clerks_1 2 rfl rfl)
abbrev cX0_pass : ByteArray := method_24_code
def yX0_pass : MethodName := ⟨RX0, "pass", "(LPublicanry;ILPublicanryLaw$Out;)I"⟩
def dkwX0_pass_0 : List UInt8 := [44, 42, 27, 182, 0, 92, 133, 181, 0, 13, 167, 0, 9, 78, 4, 172, 78, 5, 172, 3, 172]
abbrev dktX0_pass_0 : List UInt8 := dkwX0_pass_0 ++ []
theorem dksX0_pass_0 : cX0_pass.data.toList.drop 0 = dktX0_pass_0 := by decide +kernel
theorem dX0_pass_0 : decode cX0_pass 0 = .ok (.aload_n 2, 1) := dk_44 (dk_at dksX0_pass_0 0 rfl rfl)
theorem dX0_pass_1 : decode cX0_pass 1 = .ok (.aload_n 0, 1) := dk_42 (dk_at dksX0_pass_0 1 rfl rfl)
theorem dX0_pass_2 : decode cX0_pass 2 = .ok (.iload_n 1, 1) := dk_27 (dk_at dksX0_pass_0 2 rfl rfl)
theorem dX0_pass_3 : decode cX0_pass 3 = .ok (.invokevirtual 92, 3) := dk_182 0 92 (dk_at dksX0_pass_0 3 rfl rfl)
theorem dX0_pass_6 : decode cX0_pass 6 = .ok (.i2l, 1) := dk_133 (dk_at dksX0_pass_0 6 rfl rfl)
theorem dX0_pass_7 : decode cX0_pass 7 = .ok (.putfield 13, 3) := dk_181 0 13 (dk_at dksX0_pass_0 7 rfl rfl)
theorem dX0_pass_10 : decode cX0_pass 10 = .ok (.goto 9, 3) := dk_167 0 9 (dk_at dksX0_pass_0 10 rfl rfl)
theorem dX0_pass_13 : decode cX0_pass 13 = .ok (.astore_n 3, 1) := dk_78 (dk_at dksX0_pass_0 13 rfl rfl)
theorem dX0_pass_14 : decode cX0_pass 14 = .ok (.iconst 1, 1) := dk_4 (dk_at dksX0_pass_0 14 rfl rfl)
theorem dX0_pass_15 : decode cX0_pass 15 = .ok (.ireturn, 1) := dk_172 (dk_at dksX0_pass_0 15 rfl rfl)
theorem dX0_pass_16 : decode cX0_pass 16 = .ok (.astore_n 3, 1) := dk_78 (dk_at dksX0_pass_0 16 rfl rfl)
theorem dX0_pass_17 : decode cX0_pass 17 = .ok (.iconst 2, 1) := dk_5 (dk_at dksX0_pass_0 17 rfl rfl)
theorem dX0_pass_18 : decode cX0_pass 18 = .ok (.ireturn, 1) := dk_172 (dk_at dksX0_pass_0 18 rfl rfl)
theorem dX0_pass_19 : decode cX0_pass 19 = .ok (.iconst 0, 1) := dk_3 (dk_at dksX0_pass_0 19 rfl rfl)
theorem dX0_pass_20 : decode cX0_pass 20 = .ok (.ireturn, 1) := dk_172 (dk_at dksX0_pass_0 20 rfl rfl)
abbrev cX0_ofVillage : ByteArray := method_25_code
def yX0_ofVillage : MethodName := ⟨RX0, "ofVillage", "(LPublicanry;IILPublicanryLaw$Out;)I"⟩
def dkwX0_ofVillage_0 : List UInt8 := [45, 42, 27, 28, 182, 0, 95, 133, 181, 0, 13, 167, 0, 11, 58, 4, 4, 172, 58, 4, 5, 172, 3, 172]
abbrev dktX0_ofVillage_0 : List UInt8 := dkwX0_ofVillage_0 ++ []
theorem dksX0_ofVillage_0 : cX0_ofVillage.data.toList.drop 0 = dktX0_ofVillage_0 := by decide +kernel
theorem dX0_ofVillage_0 : decode cX0_ofVillage 0 = .ok (.aload_n 3, 1) := dk_45 (dk_at dksX0_ofVillage_0 0 rfl rfl)
theorem dX0_ofVillage_1 : decode cX0_ofVillage 1 = .ok (.aload_n 0, 1) := dk_42 (dk_at dksX0_ofVillage_0 1 rfl rfl)
theorem dX0_ofVillage_2 : decode cX0_ofVillage 2 = .ok (.iload_n 1, 1) := dk_27 (dk_at dksX0_ofVillage_0 2 rfl rfl)
theorem dX0_ofVillage_3 : decode cX0_ofVillage 3 = .ok (.iload_n 2, 1) := dk_28 (dk_at dksX0_ofVillage_0 3 rfl rfl)
theorem dX0_ofVillage_4 : decode cX0_ofVillage 4 = .ok (.invokevirtual 95, 3) := dk_182 0 95 (dk_at dksX0_ofVillage_0 4 rfl rfl)
theorem dX0_ofVillage_7 : decode cX0_ofVillage 7 = .ok (.i2l, 1) := dk_133 (dk_at dksX0_ofVillage_0 7 rfl rfl)
theorem dX0_ofVillage_8 : decode cX0_ofVillage 8 = .ok (.putfield 13, 3) := dk_181 0 13 (dk_at dksX0_ofVillage_0 8 rfl rfl)
theorem dX0_ofVillage_11 : decode cX0_ofVillage 11 = .ok (.goto 11, 3) := dk_167 0 11 (dk_at dksX0_ofVillage_0 11 rfl rfl)
theorem dX0_ofVillage_14 : decode cX0_ofVillage 14 = .ok (.astore 4, 2) := dk_58 4 (dk_at dksX0_ofVillage_0 14 rfl rfl)
theorem dX0_ofVillage_16 : decode cX0_ofVillage 16 = .ok (.iconst 1, 1) := dk_4 (dk_at dksX0_ofVillage_0 16 rfl rfl)
theorem dX0_ofVillage_17 : decode cX0_ofVillage 17 = .ok (.ireturn, 1) := dk_172 (dk_at dksX0_ofVillage_0 17 rfl rfl)
theorem dX0_ofVillage_18 : decode cX0_ofVillage 18 = .ok (.astore 4, 2) := dk_58 4 (dk_at dksX0_ofVillage_0 18 rfl rfl)
theorem dX0_ofVillage_20 : decode cX0_ofVillage 20 = .ok (.iconst 2, 1) := dk_5 (dk_at dksX0_ofVillage_0 20 rfl rfl)
theorem dX0_ofVillage_21 : decode cX0_ofVillage 21 = .ok (.ireturn, 1) := dk_172 (dk_at dksX0_ofVillage_0 21 rfl rfl)
theorem dX0_ofVillage_22 : decode cX0_ofVillage 22 = .ok (.iconst 0, 1) := dk_3 (dk_at dksX0_ofVillage_0 22 rfl rfl)
theorem dX0_ofVillage_23 : decode cX0_ofVillage 23 = .ok (.ireturn, 1) := dk_172 (dk_at dksX0_ofVillage_0 23 rfl rfl)
abbrev cX0_due : ByteArray := method_26_code
def yX0_due : MethodName := ⟨RX0, "due", "(LPublicanry;IIZLPublicanryLaw$Out;)I"⟩
def dkwX0_due_0 : List UInt8 := [25, 4, 42, 27, 28, 29, 182, 0, 98, 133, 181, 0, 13, 167, 0, 7, 58, 5, 4, 172, 3, 172]
abbrev dktX0_due_0 : List UInt8 := dkwX0_due_0 ++ []
theorem dksX0_due_0 : cX0_due.data.toList.drop 0 = dktX0_due_0 := by decide +kernel
theorem dX0_due_0 : decode cX0_due 0 = .ok (.aload 4, 2) := dk_25 4 (dk_at dksX0_due_0 0 rfl rfl)
theorem dX0_due_2 : decode cX0_due 2 = .ok (.aload_n 0, 1) := dk_42 (dk_at dksX0_due_0 2 rfl rfl)
theorem dX0_due_3 : decode cX0_due 3 = .ok (.iload_n 1, 1) := dk_27 (dk_at dksX0_due_0 3 rfl rfl)
theorem dX0_due_4 : decode cX0_due 4 = .ok (.iload_n 2, 1) := dk_28 (dk_at dksX0_due_0 4 rfl rfl)
theorem dX0_due_5 : decode cX0_due 5 = .ok (.iload_n 3, 1) := dk_29 (dk_at dksX0_due_0 5 rfl rfl)
theorem dX0_due_6 : decode cX0_due 6 = .ok (.invokevirtual 98, 3) := dk_182 0 98 (dk_at dksX0_due_0 6 rfl rfl)
theorem dX0_due_9 : decode cX0_due 9 = .ok (.i2l, 1) := dk_133 (dk_at dksX0_due_0 9 rfl rfl)
theorem dX0_due_10 : decode cX0_due 10 = .ok (.putfield 13, 3) := dk_181 0 13 (dk_at dksX0_due_0 10 rfl rfl)
theorem dX0_due_13 : decode cX0_due 13 = .ok (.goto 7, 3) := dk_167 0 7 (dk_at dksX0_due_0 13 rfl rfl)
theorem dX0_due_16 : decode cX0_due 16 = .ok (.astore 5, 2) := dk_58 5 (dk_at dksX0_due_0 16 rfl rfl)
theorem dX0_due_18 : decode cX0_due 18 = .ok (.iconst 1, 1) := dk_4 (dk_at dksX0_due_0 18 rfl rfl)
theorem dX0_due_19 : decode cX0_due 19 = .ok (.ireturn, 1) := dk_172 (dk_at dksX0_due_0 19 rfl rfl)
theorem dX0_due_20 : decode cX0_due 20 = .ok (.iconst 0, 1) := dk_3 (dk_at dksX0_due_0 20 rfl rfl)
theorem dX0_due_21 : decode cX0_due 21 = .ok (.ireturn, 1) := dk_172 (dk_at dksX0_due_0 21 rfl rfl)
abbrev cX0_levy : ByteArray := method_27_code
def yX0_levy : MethodName := ⟨RX0, "levy", "(LPublicanry;IIILPublicanryLaw$Out;)I"⟩
def dkwX0_levy_1 : List UInt8 := [3, 172]
abbrev dktX0_levy_1 : List UInt8 := dkwX0_levy_1 ++ []
def dkwX0_levy_0 : List UInt8 := [25, 4, 42, 27, 28, 29, 182, 0, 102, 133, 181, 0, 13, 167, 0, 11, 58, 5, 4, 172, 58, 5, 5, 172]
abbrev dktX0_levy_0 : List UInt8 := dkwX0_levy_0 ++ dktX0_levy_1
theorem dksX0_levy_0 : cX0_levy.data.toList.drop 0 = dktX0_levy_0 := by decide +kernel
theorem dksX0_levy_1 : cX0_levy.data.toList.drop 24 = dktX0_levy_1 := dk_seg dksX0_levy_0 24 rfl rfl
theorem dX0_levy_0 : decode cX0_levy 0 = .ok (.aload 4, 2) := dk_25 4 (dk_at dksX0_levy_0 0 rfl rfl)
theorem dX0_levy_2 : decode cX0_levy 2 = .ok (.aload_n 0, 1) := dk_42 (dk_at dksX0_levy_0 2 rfl rfl)
theorem dX0_levy_3 : decode cX0_levy 3 = .ok (.iload_n 1, 1) := dk_27 (dk_at dksX0_levy_0 3 rfl rfl)
theorem dX0_levy_4 : decode cX0_levy 4 = .ok (.iload_n 2, 1) := dk_28 (dk_at dksX0_levy_0 4 rfl rfl)
theorem dX0_levy_5 : decode cX0_levy 5 = .ok (.iload_n 3, 1) := dk_29 (dk_at dksX0_levy_0 5 rfl rfl)
theorem dX0_levy_6 : decode cX0_levy 6 = .ok (.invokevirtual 102, 3) := dk_182 0 102 (dk_at dksX0_levy_0 6 rfl rfl)
theorem dX0_levy_9 : decode cX0_levy 9 = .ok (.i2l, 1) := dk_133 (dk_at dksX0_levy_0 9 rfl rfl)
theorem dX0_levy_10 : decode cX0_levy 10 = .ok (.putfield 13, 3) := dk_181 0 13 (dk_at dksX0_levy_0 10 rfl rfl)
theorem dX0_levy_13 : decode cX0_levy 13 = .ok (.goto 11, 3) := dk_167 0 11 (dk_at dksX0_levy_0 13 rfl rfl)
theorem dX0_levy_16 : decode cX0_levy 16 = .ok (.astore 5, 2) := dk_58 5 (dk_at dksX0_levy_0 16 rfl rfl)
theorem dX0_levy_18 : decode cX0_levy 18 = .ok (.iconst 1, 1) := dk_4 (dk_at dksX0_levy_0 18 rfl rfl)
theorem dX0_levy_19 : decode cX0_levy 19 = .ok (.ireturn, 1) := dk_172 (dk_at dksX0_levy_0 19 rfl rfl)
theorem dX0_levy_20 : decode cX0_levy 20 = .ok (.astore 5, 2) := dk_58 5 (dk_at dksX0_levy_0 20 rfl rfl)
theorem dX0_levy_22 : decode cX0_levy 22 = .ok (.iconst 2, 1) := dk_5 (dk_at dksX0_levy_0 22 rfl rfl)
theorem dX0_levy_23 : decode cX0_levy 23 = .ok (.ireturn, 1) := dk_172 (dk_at dksX0_levy_0 23 rfl rfl)
theorem dX0_levy_24 : decode cX0_levy 24 = .ok (.iconst 0, 1) := dk_3 (dk_at dksX0_levy_1 0 rfl rfl)
theorem dX0_levy_25 : decode cX0_levy 25 = .ok (.ireturn, 1) := dk_172 (dk_at dksX0_levy_1 1 rfl rfl)
abbrev cX0_law : ByteArray := method_28_code
def yX0_law : MethodName := ⟨RX0, "law", "(LPublicanry;IILPublicanryLaw$Out;)I"⟩
def dkwX0_law_0 : List UInt8 := [45, 42, 27, 28, 182, 0, 105, 133, 181, 0, 13, 167, 0, 11, 58, 4, 4, 172, 58, 4, 5, 172, 3, 172]
abbrev dktX0_law_0 : List UInt8 := dkwX0_law_0 ++ []
theorem dksX0_law_0 : cX0_law.data.toList.drop 0 = dktX0_law_0 := by decide +kernel
theorem dX0_law_0 : decode cX0_law 0 = .ok (.aload_n 3, 1) := dk_45 (dk_at dksX0_law_0 0 rfl rfl)
theorem dX0_law_1 : decode cX0_law 1 = .ok (.aload_n 0, 1) := dk_42 (dk_at dksX0_law_0 1 rfl rfl)
theorem dX0_law_2 : decode cX0_law 2 = .ok (.iload_n 1, 1) := dk_27 (dk_at dksX0_law_0 2 rfl rfl)
theorem dX0_law_3 : decode cX0_law 3 = .ok (.iload_n 2, 1) := dk_28 (dk_at dksX0_law_0 3 rfl rfl)
theorem dX0_law_4 : decode cX0_law 4 = .ok (.invokevirtual 105, 3) := dk_182 0 105 (dk_at dksX0_law_0 4 rfl rfl)
theorem dX0_law_7 : decode cX0_law 7 = .ok (.i2l, 1) := dk_133 (dk_at dksX0_law_0 7 rfl rfl)
theorem dX0_law_8 : decode cX0_law 8 = .ok (.putfield 13, 3) := dk_181 0 13 (dk_at dksX0_law_0 8 rfl rfl)
theorem dX0_law_11 : decode cX0_law 11 = .ok (.goto 11, 3) := dk_167 0 11 (dk_at dksX0_law_0 11 rfl rfl)
theorem dX0_law_14 : decode cX0_law 14 = .ok (.astore 4, 2) := dk_58 4 (dk_at dksX0_law_0 14 rfl rfl)
theorem dX0_law_16 : decode cX0_law 16 = .ok (.iconst 1, 1) := dk_4 (dk_at dksX0_law_0 16 rfl rfl)
theorem dX0_law_17 : decode cX0_law 17 = .ok (.ireturn, 1) := dk_172 (dk_at dksX0_law_0 17 rfl rfl)
theorem dX0_law_18 : decode cX0_law 18 = .ok (.astore 4, 2) := dk_58 4 (dk_at dksX0_law_0 18 rfl rfl)
theorem dX0_law_20 : decode cX0_law 20 = .ok (.iconst 2, 1) := dk_5 (dk_at dksX0_law_0 20 rfl rfl)
theorem dX0_law_21 : decode cX0_law 21 = .ok (.ireturn, 1) := dk_172 (dk_at dksX0_law_0 21 rfl rfl)
theorem dX0_law_22 : decode cX0_law 22 = .ok (.iconst 0, 1) := dk_3 (dk_at dksX0_law_0 22 rfl rfl)
theorem dX0_law_23 : decode cX0_law 23 = .ok (.ireturn, 1) := dk_172 (dk_at dksX0_law_0 23 rfl rfl)
abbrev cX0_ofCompany : ByteArray := method_29_code
def yX0_ofCompany : MethodName := ⟨RX0, "ofCompany", "(LPublicanry;IILPublicanryLaw$Out;)I"⟩
def dkwX0_ofCompany_0 : List UInt8 := [45, 42, 27, 28, 182, 0, 108, 133, 181, 0, 13, 167, 0, 11, 58, 4, 4, 172, 58, 4, 5, 172, 3, 172]
abbrev dktX0_ofCompany_0 : List UInt8 := dkwX0_ofCompany_0 ++ []
theorem dksX0_ofCompany_0 : cX0_ofCompany.data.toList.drop 0 = dktX0_ofCompany_0 := by decide +kernel
theorem dX0_ofCompany_0 : decode cX0_ofCompany 0 = .ok (.aload_n 3, 1) := dk_45 (dk_at dksX0_ofCompany_0 0 rfl rfl)
theorem dX0_ofCompany_1 : decode cX0_ofCompany 1 = .ok (.aload_n 0, 1) := dk_42 (dk_at dksX0_ofCompany_0 1 rfl rfl)
theorem dX0_ofCompany_2 : decode cX0_ofCompany 2 = .ok (.iload_n 1, 1) := dk_27 (dk_at dksX0_ofCompany_0 2 rfl rfl)
theorem dX0_ofCompany_3 : decode cX0_ofCompany 3 = .ok (.iload_n 2, 1) := dk_28 (dk_at dksX0_ofCompany_0 3 rfl rfl)
theorem dX0_ofCompany_4 : decode cX0_ofCompany 4 = .ok (.invokevirtual 108, 3) := dk_182 0 108 (dk_at dksX0_ofCompany_0 4 rfl rfl)
theorem dX0_ofCompany_7 : decode cX0_ofCompany 7 = .ok (.i2l, 1) := dk_133 (dk_at dksX0_ofCompany_0 7 rfl rfl)
theorem dX0_ofCompany_8 : decode cX0_ofCompany 8 = .ok (.putfield 13, 3) := dk_181 0 13 (dk_at dksX0_ofCompany_0 8 rfl rfl)
theorem dX0_ofCompany_11 : decode cX0_ofCompany 11 = .ok (.goto 11, 3) := dk_167 0 11 (dk_at dksX0_ofCompany_0 11 rfl rfl)
theorem dX0_ofCompany_14 : decode cX0_ofCompany 14 = .ok (.astore 4, 2) := dk_58 4 (dk_at dksX0_ofCompany_0 14 rfl rfl)
theorem dX0_ofCompany_16 : decode cX0_ofCompany 16 = .ok (.iconst 1, 1) := dk_4 (dk_at dksX0_ofCompany_0 16 rfl rfl)
theorem dX0_ofCompany_17 : decode cX0_ofCompany 17 = .ok (.ireturn, 1) := dk_172 (dk_at dksX0_ofCompany_0 17 rfl rfl)
theorem dX0_ofCompany_18 : decode cX0_ofCompany 18 = .ok (.astore 4, 2) := dk_58 4 (dk_at dksX0_ofCompany_0 18 rfl rfl)
theorem dX0_ofCompany_20 : decode cX0_ofCompany 20 = .ok (.iconst 2, 1) := dk_5 (dk_at dksX0_ofCompany_0 20 rfl rfl)
theorem dX0_ofCompany_21 : decode cX0_ofCompany 21 = .ok (.ireturn, 1) := dk_172 (dk_at dksX0_ofCompany_0 21 rfl rfl)
theorem dX0_ofCompany_22 : decode cX0_ofCompany 22 = .ok (.iconst 0, 1) := dk_3 (dk_at dksX0_ofCompany_0 22 rfl rfl)
theorem dX0_ofCompany_23 : decode cX0_ofCompany 23 = .ok (.ireturn, 1) := dk_172 (dk_at dksX0_ofCompany_0 23 rfl rfl)
abbrev cX0_partner : ByteArray := method_30_code
def yX0_partner : MethodName := ⟨RX0, "partner", "(LPublicanry;IIZLPublicanryLaw$Out;)I"⟩
def dkwX0_partner_0 : List UInt8 := [25, 4, 42, 27, 28, 29, 182, 0, 111, 133, 181, 0, 13, 167, 0, 7, 58, 5, 4, 172, 3, 172]
abbrev dktX0_partner_0 : List UInt8 := dkwX0_partner_0 ++ []
theorem dksX0_partner_0 : cX0_partner.data.toList.drop 0 = dktX0_partner_0 := by decide +kernel
theorem dX0_partner_0 : decode cX0_partner 0 = .ok (.aload 4, 2) := dk_25 4 (dk_at dksX0_partner_0 0 rfl rfl)
theorem dX0_partner_2 : decode cX0_partner 2 = .ok (.aload_n 0, 1) := dk_42 (dk_at dksX0_partner_0 2 rfl rfl)
theorem dX0_partner_3 : decode cX0_partner 3 = .ok (.iload_n 1, 1) := dk_27 (dk_at dksX0_partner_0 3 rfl rfl)
theorem dX0_partner_4 : decode cX0_partner 4 = .ok (.iload_n 2, 1) := dk_28 (dk_at dksX0_partner_0 4 rfl rfl)
theorem dX0_partner_5 : decode cX0_partner 5 = .ok (.iload_n 3, 1) := dk_29 (dk_at dksX0_partner_0 5 rfl rfl)
theorem dX0_partner_6 : decode cX0_partner 6 = .ok (.invokevirtual 111, 3) := dk_182 0 111 (dk_at dksX0_partner_0 6 rfl rfl)
theorem dX0_partner_9 : decode cX0_partner 9 = .ok (.i2l, 1) := dk_133 (dk_at dksX0_partner_0 9 rfl rfl)
theorem dX0_partner_10 : decode cX0_partner 10 = .ok (.putfield 13, 3) := dk_181 0 13 (dk_at dksX0_partner_0 10 rfl rfl)
theorem dX0_partner_13 : decode cX0_partner 13 = .ok (.goto 7, 3) := dk_167 0 7 (dk_at dksX0_partner_0 13 rfl rfl)
theorem dX0_partner_16 : decode cX0_partner 16 = .ok (.astore 5, 2) := dk_58 5 (dk_at dksX0_partner_0 16 rfl rfl)
theorem dX0_partner_18 : decode cX0_partner 18 = .ok (.iconst 1, 1) := dk_4 (dk_at dksX0_partner_0 18 rfl rfl)
theorem dX0_partner_19 : decode cX0_partner 19 = .ok (.ireturn, 1) := dk_172 (dk_at dksX0_partner_0 19 rfl rfl)
theorem dX0_partner_20 : decode cX0_partner 20 = .ok (.iconst 0, 1) := dk_3 (dk_at dksX0_partner_0 20 rfl rfl)
theorem dX0_partner_21 : decode cX0_partner 21 = .ok (.ireturn, 1) := dk_172 (dk_at dksX0_partner_0 21 rfl rfl)
abbrev cX0_ofLot : ByteArray := method_31_code
def yX0_ofLot : MethodName := ⟨RX0, "ofLot", "(LPublicanry;IILPublicanryLaw$Out;)I"⟩
def dkwX0_ofLot_0 : List UInt8 := [45, 42, 27, 28, 182, 0, 114, 133, 181, 0, 13, 167, 0, 11, 58, 4, 4, 172, 58, 4, 5, 172, 3, 172]
abbrev dktX0_ofLot_0 : List UInt8 := dkwX0_ofLot_0 ++ []
theorem dksX0_ofLot_0 : cX0_ofLot.data.toList.drop 0 = dktX0_ofLot_0 := by decide +kernel
theorem dX0_ofLot_0 : decode cX0_ofLot 0 = .ok (.aload_n 3, 1) := dk_45 (dk_at dksX0_ofLot_0 0 rfl rfl)
theorem dX0_ofLot_1 : decode cX0_ofLot 1 = .ok (.aload_n 0, 1) := dk_42 (dk_at dksX0_ofLot_0 1 rfl rfl)
theorem dX0_ofLot_2 : decode cX0_ofLot 2 = .ok (.iload_n 1, 1) := dk_27 (dk_at dksX0_ofLot_0 2 rfl rfl)
theorem dX0_ofLot_3 : decode cX0_ofLot 3 = .ok (.iload_n 2, 1) := dk_28 (dk_at dksX0_ofLot_0 3 rfl rfl)
theorem dX0_ofLot_4 : decode cX0_ofLot 4 = .ok (.invokevirtual 114, 3) := dk_182 0 114 (dk_at dksX0_ofLot_0 4 rfl rfl)
theorem dX0_ofLot_7 : decode cX0_ofLot 7 = .ok (.i2l, 1) := dk_133 (dk_at dksX0_ofLot_0 7 rfl rfl)
theorem dX0_ofLot_8 : decode cX0_ofLot 8 = .ok (.putfield 13, 3) := dk_181 0 13 (dk_at dksX0_ofLot_0 8 rfl rfl)
theorem dX0_ofLot_11 : decode cX0_ofLot 11 = .ok (.goto 11, 3) := dk_167 0 11 (dk_at dksX0_ofLot_0 11 rfl rfl)
theorem dX0_ofLot_14 : decode cX0_ofLot 14 = .ok (.astore 4, 2) := dk_58 4 (dk_at dksX0_ofLot_0 14 rfl rfl)
theorem dX0_ofLot_16 : decode cX0_ofLot 16 = .ok (.iconst 1, 1) := dk_4 (dk_at dksX0_ofLot_0 16 rfl rfl)
theorem dX0_ofLot_17 : decode cX0_ofLot 17 = .ok (.ireturn, 1) := dk_172 (dk_at dksX0_ofLot_0 17 rfl rfl)
theorem dX0_ofLot_18 : decode cX0_ofLot 18 = .ok (.astore 4, 2) := dk_58 4 (dk_at dksX0_ofLot_0 18 rfl rfl)
theorem dX0_ofLot_20 : decode cX0_ofLot 20 = .ok (.iconst 2, 1) := dk_5 (dk_at dksX0_ofLot_0 20 rfl rfl)
theorem dX0_ofLot_21 : decode cX0_ofLot 21 = .ok (.ireturn, 1) := dk_172 (dk_at dksX0_ofLot_0 21 rfl rfl)
theorem dX0_ofLot_22 : decode cX0_ofLot 22 = .ok (.iconst 0, 1) := dk_3 (dk_at dksX0_ofLot_0 22 rfl rfl)
theorem dX0_ofLot_23 : decode cX0_ofLot 23 = .ok (.ireturn, 1) := dk_172 (dk_at dksX0_ofLot_0 23 rfl rfl)
abbrev cX0_land : ByteArray := method_32_code
def yX0_land : MethodName := ⟨RX0, "land", "(LPublicanry;ILPublicanryLaw$Out;)I"⟩
def dkwX0_land_0 : List UInt8 := [44, 42, 27, 182, 0, 117, 133, 181, 0, 13, 167, 0, 6, 78, 4, 172, 3, 172]
abbrev dktX0_land_0 : List UInt8 := dkwX0_land_0 ++ []
theorem dksX0_land_0 : cX0_land.data.toList.drop 0 = dktX0_land_0 := by decide +kernel
theorem dX0_land_0 : decode cX0_land 0 = .ok (.aload_n 2, 1) := dk_44 (dk_at dksX0_land_0 0 rfl rfl)
theorem dX0_land_1 : decode cX0_land 1 = .ok (.aload_n 0, 1) := dk_42 (dk_at dksX0_land_0 1 rfl rfl)
theorem dX0_land_2 : decode cX0_land 2 = .ok (.iload_n 1, 1) := dk_27 (dk_at dksX0_land_0 2 rfl rfl)
theorem dX0_land_3 : decode cX0_land 3 = .ok (.invokevirtual 117, 3) := dk_182 0 117 (dk_at dksX0_land_0 3 rfl rfl)
theorem dX0_land_6 : decode cX0_land 6 = .ok (.i2l, 1) := dk_133 (dk_at dksX0_land_0 6 rfl rfl)
theorem dX0_land_7 : decode cX0_land 7 = .ok (.putfield 13, 3) := dk_181 0 13 (dk_at dksX0_land_0 7 rfl rfl)
theorem dX0_land_10 : decode cX0_land 10 = .ok (.goto 6, 3) := dk_167 0 6 (dk_at dksX0_land_0 10 rfl rfl)
theorem dX0_land_13 : decode cX0_land 13 = .ok (.astore_n 3, 1) := dk_78 (dk_at dksX0_land_0 13 rfl rfl)
theorem dX0_land_14 : decode cX0_land 14 = .ok (.iconst 1, 1) := dk_4 (dk_at dksX0_land_0 14 rfl rfl)
theorem dX0_land_15 : decode cX0_land 15 = .ok (.ireturn, 1) := dk_172 (dk_at dksX0_land_0 15 rfl rfl)
theorem dX0_land_16 : decode cX0_land 16 = .ok (.iconst 0, 1) := dk_3 (dk_at dksX0_land_0 16 rfl rfl)
theorem dX0_land_17 : decode cX0_land 17 = .ok (.ireturn, 1) := dk_172 (dk_at dksX0_land_0 17 rfl rfl)
abbrev cX0_tell : ByteArray := method_33_code
def yX0_tell : MethodName := ⟨RX0, "tell", "(LPublicanry;ILPublicanryLaw$Out;)I"⟩
def dkwX0_tell_0 : List UInt8 := [44, 42, 27, 182, 0, 120, 181, 0, 124, 167, 0, 6, 78, 4, 172, 3, 172]
abbrev dktX0_tell_0 : List UInt8 := dkwX0_tell_0 ++ []
theorem dksX0_tell_0 : cX0_tell.data.toList.drop 0 = dktX0_tell_0 := by decide +kernel
theorem dX0_tell_0 : decode cX0_tell 0 = .ok (.aload_n 2, 1) := dk_44 (dk_at dksX0_tell_0 0 rfl rfl)
theorem dX0_tell_1 : decode cX0_tell 1 = .ok (.aload_n 0, 1) := dk_42 (dk_at dksX0_tell_0 1 rfl rfl)
theorem dX0_tell_2 : decode cX0_tell 2 = .ok (.iload_n 1, 1) := dk_27 (dk_at dksX0_tell_0 2 rfl rfl)
theorem dX0_tell_3 : decode cX0_tell 3 = .ok (.invokevirtual 120, 3) := dk_182 0 120 (dk_at dksX0_tell_0 3 rfl rfl)
theorem dX0_tell_6 : decode cX0_tell 6 = .ok (.putfield 124, 3) := dk_181 0 124 (dk_at dksX0_tell_0 6 rfl rfl)
theorem dX0_tell_9 : decode cX0_tell 9 = .ok (.goto 6, 3) := dk_167 0 6 (dk_at dksX0_tell_0 9 rfl rfl)
theorem dX0_tell_12 : decode cX0_tell 12 = .ok (.astore_n 3, 1) := dk_78 (dk_at dksX0_tell_0 12 rfl rfl)
theorem dX0_tell_13 : decode cX0_tell 13 = .ok (.iconst 1, 1) := dk_4 (dk_at dksX0_tell_0 13 rfl rfl)
theorem dX0_tell_14 : decode cX0_tell 14 = .ok (.ireturn, 1) := dk_172 (dk_at dksX0_tell_0 14 rfl rfl)
theorem dX0_tell_15 : decode cX0_tell 15 = .ok (.iconst 0, 1) := dk_3 (dk_at dksX0_tell_0 15 rfl rfl)
theorem dX0_tell_16 : decode cX0_tell 16 = .ok (.ireturn, 1) := dk_172 (dk_at dksX0_tell_0 16 rfl rfl)
abbrev cX0_gain : ByteArray := method_34_code
def yX0_gain : MethodName := ⟨RX0, "gain", "(LPublicanry;ILPublicanryLaw$Out;)I"⟩
def dkwX0_gain_0 : List UInt8 := [44, 42, 27, 182, 0, 128, 181, 0, 132, 167, 0, 6, 78, 4, 172, 3, 172]
abbrev dktX0_gain_0 : List UInt8 := dkwX0_gain_0 ++ []
theorem dksX0_gain_0 : cX0_gain.data.toList.drop 0 = dktX0_gain_0 := by decide +kernel
theorem dX0_gain_0 : decode cX0_gain 0 = .ok (.aload_n 2, 1) := dk_44 (dk_at dksX0_gain_0 0 rfl rfl)
theorem dX0_gain_1 : decode cX0_gain 1 = .ok (.aload_n 0, 1) := dk_42 (dk_at dksX0_gain_0 1 rfl rfl)
theorem dX0_gain_2 : decode cX0_gain 2 = .ok (.iload_n 1, 1) := dk_27 (dk_at dksX0_gain_0 2 rfl rfl)
theorem dX0_gain_3 : decode cX0_gain 3 = .ok (.invokevirtual 128, 3) := dk_182 0 128 (dk_at dksX0_gain_0 3 rfl rfl)
theorem dX0_gain_6 : decode cX0_gain 6 = .ok (.putfield 132, 3) := dk_181 0 132 (dk_at dksX0_gain_0 6 rfl rfl)
theorem dX0_gain_9 : decode cX0_gain 9 = .ok (.goto 6, 3) := dk_167 0 6 (dk_at dksX0_gain_0 9 rfl rfl)
theorem dX0_gain_12 : decode cX0_gain 12 = .ok (.astore_n 3, 1) := dk_78 (dk_at dksX0_gain_0 12 rfl rfl)
theorem dX0_gain_13 : decode cX0_gain 13 = .ok (.iconst 1, 1) := dk_4 (dk_at dksX0_gain_0 13 rfl rfl)
theorem dX0_gain_14 : decode cX0_gain 14 = .ok (.ireturn, 1) := dk_172 (dk_at dksX0_gain_0 14 rfl rfl)
theorem dX0_gain_15 : decode cX0_gain 15 = .ok (.iconst 0, 1) := dk_3 (dk_at dksX0_gain_0 15 rfl rfl)
theorem dX0_gain_16 : decode cX0_gain 16 = .ok (.ireturn, 1) := dk_172 (dk_at dksX0_gain_0 16 rfl rfl)
abbrev cX0_wouldBring : ByteArray := method_35_code
def yX0_wouldBring : MethodName := ⟨RX0, "wouldBring", "(LPublicanry;IILPublicanryLaw$Out;)I"⟩
def dkwX0_wouldBring_0 : List UInt8 := [45, 42, 27, 28, 182, 0, 136, 133, 181, 0, 13, 167, 0, 11, 58, 4, 4, 172, 58, 4, 5, 172, 3, 172]
abbrev dktX0_wouldBring_0 : List UInt8 := dkwX0_wouldBring_0 ++ []
theorem dksX0_wouldBring_0 : cX0_wouldBring.data.toList.drop 0 = dktX0_wouldBring_0 := by decide +kernel
theorem dX0_wouldBring_0 : decode cX0_wouldBring 0 = .ok (.aload_n 3, 1) := dk_45 (dk_at dksX0_wouldBring_0 0 rfl rfl)
theorem dX0_wouldBring_1 : decode cX0_wouldBring 1 = .ok (.aload_n 0, 1) := dk_42 (dk_at dksX0_wouldBring_0 1 rfl rfl)
theorem dX0_wouldBring_2 : decode cX0_wouldBring 2 = .ok (.iload_n 1, 1) := dk_27 (dk_at dksX0_wouldBring_0 2 rfl rfl)
theorem dX0_wouldBring_3 : decode cX0_wouldBring 3 = .ok (.iload_n 2, 1) := dk_28 (dk_at dksX0_wouldBring_0 3 rfl rfl)
theorem dX0_wouldBring_4 : decode cX0_wouldBring 4 = .ok (.invokevirtual 136, 3) := dk_182 0 136 (dk_at dksX0_wouldBring_0 4 rfl rfl)
theorem dX0_wouldBring_7 : decode cX0_wouldBring 7 = .ok (.i2l, 1) := dk_133 (dk_at dksX0_wouldBring_0 7 rfl rfl)
theorem dX0_wouldBring_8 : decode cX0_wouldBring 8 = .ok (.putfield 13, 3) := dk_181 0 13 (dk_at dksX0_wouldBring_0 8 rfl rfl)
theorem dX0_wouldBring_11 : decode cX0_wouldBring 11 = .ok (.goto 11, 3) := dk_167 0 11 (dk_at dksX0_wouldBring_0 11 rfl rfl)
theorem dX0_wouldBring_14 : decode cX0_wouldBring 14 = .ok (.astore 4, 2) := dk_58 4 (dk_at dksX0_wouldBring_0 14 rfl rfl)
theorem dX0_wouldBring_16 : decode cX0_wouldBring 16 = .ok (.iconst 1, 1) := dk_4 (dk_at dksX0_wouldBring_0 16 rfl rfl)
theorem dX0_wouldBring_17 : decode cX0_wouldBring 17 = .ok (.ireturn, 1) := dk_172 (dk_at dksX0_wouldBring_0 17 rfl rfl)
theorem dX0_wouldBring_18 : decode cX0_wouldBring 18 = .ok (.astore 4, 2) := dk_58 4 (dk_at dksX0_wouldBring_0 18 rfl rfl)
theorem dX0_wouldBring_20 : decode cX0_wouldBring 20 = .ok (.iconst 2, 1) := dk_5 (dk_at dksX0_wouldBring_0 20 rfl rfl)
theorem dX0_wouldBring_21 : decode cX0_wouldBring 21 = .ok (.ireturn, 1) := dk_172 (dk_at dksX0_wouldBring_0 21 rfl rfl)
theorem dX0_wouldBring_22 : decode cX0_wouldBring 22 = .ok (.iconst 0, 1) := dk_3 (dk_at dksX0_wouldBring_0 22 rfl rfl)
theorem dX0_wouldBring_23 : decode cX0_wouldBring 23 = .ok (.ireturn, 1) := dk_172 (dk_at dksX0_wouldBring_0 23 rfl rfl)
abbrev cX0_bestForce : ByteArray := method_36_code
def yX0_bestForce : MethodName := ⟨RX0, "bestForce", "(LPublicanry;ILPublicanryLaw$Out;)I"⟩
def dkwX0_bestForce_0 : List UInt8 := [44, 42, 27, 182, 0, 139, 133, 181, 0, 13, 167, 0, 6, 78, 4, 172, 3, 172]
abbrev dktX0_bestForce_0 : List UInt8 := dkwX0_bestForce_0 ++ []
theorem dksX0_bestForce_0 : cX0_bestForce.data.toList.drop 0 = dktX0_bestForce_0 := by decide +kernel
theorem dX0_bestForce_0 : decode cX0_bestForce 0 = .ok (.aload_n 2, 1) := dk_44 (dk_at dksX0_bestForce_0 0 rfl rfl)
theorem dX0_bestForce_1 : decode cX0_bestForce 1 = .ok (.aload_n 0, 1) := dk_42 (dk_at dksX0_bestForce_0 1 rfl rfl)
theorem dX0_bestForce_2 : decode cX0_bestForce 2 = .ok (.iload_n 1, 1) := dk_27 (dk_at dksX0_bestForce_0 2 rfl rfl)
theorem dX0_bestForce_3 : decode cX0_bestForce 3 = .ok (.invokevirtual 139, 3) := dk_182 0 139 (dk_at dksX0_bestForce_0 3 rfl rfl)
theorem dX0_bestForce_6 : decode cX0_bestForce 6 = .ok (.i2l, 1) := dk_133 (dk_at dksX0_bestForce_0 6 rfl rfl)
theorem dX0_bestForce_7 : decode cX0_bestForce 7 = .ok (.putfield 13, 3) := dk_181 0 13 (dk_at dksX0_bestForce_0 7 rfl rfl)
theorem dX0_bestForce_10 : decode cX0_bestForce 10 = .ok (.goto 6, 3) := dk_167 0 6 (dk_at dksX0_bestForce_0 10 rfl rfl)
theorem dX0_bestForce_13 : decode cX0_bestForce 13 = .ok (.astore_n 3, 1) := dk_78 (dk_at dksX0_bestForce_0 13 rfl rfl)
theorem dX0_bestForce_14 : decode cX0_bestForce 14 = .ok (.iconst 1, 1) := dk_4 (dk_at dksX0_bestForce_0 14 rfl rfl)
theorem dX0_bestForce_15 : decode cX0_bestForce 15 = .ok (.ireturn, 1) := dk_172 (dk_at dksX0_bestForce_0 15 rfl rfl)
theorem dX0_bestForce_16 : decode cX0_bestForce 16 = .ok (.iconst 0, 1) := dk_3 (dk_at dksX0_bestForce_0 16 rfl rfl)
theorem dX0_bestForce_17 : decode cX0_bestForce 17 = .ok (.ireturn, 1) := dk_172 (dk_at dksX0_bestForce_0 17 rfl rfl)
abbrev cX0_votes : ByteArray := method_37_code
def yX0_votes : MethodName := ⟨RX0, "votes", "(LPublicanry;IIIILPublicanryLaw$Out;)I"⟩
def dkwX0_votes_1 : List UInt8 := [5, 172, 3, 172]
abbrev dktX0_votes_1 : List UInt8 := dkwX0_votes_1 ++ []
def dkwX0_votes_0 : List UInt8 := [25, 5, 42, 27, 28, 29, 21, 4, 182, 0, 142, 133, 181, 0, 13, 167, 0, 11, 58, 6, 4, 172, 58, 6]
abbrev dktX0_votes_0 : List UInt8 := dkwX0_votes_0 ++ dktX0_votes_1
theorem dksX0_votes_0 : cX0_votes.data.toList.drop 0 = dktX0_votes_0 := by decide +kernel
theorem dksX0_votes_1 : cX0_votes.data.toList.drop 24 = dktX0_votes_1 := dk_seg dksX0_votes_0 24 rfl rfl
theorem dX0_votes_0 : decode cX0_votes 0 = .ok (.aload 5, 2) := dk_25 5 (dk_at dksX0_votes_0 0 rfl rfl)
theorem dX0_votes_2 : decode cX0_votes 2 = .ok (.aload_n 0, 1) := dk_42 (dk_at dksX0_votes_0 2 rfl rfl)
theorem dX0_votes_3 : decode cX0_votes 3 = .ok (.iload_n 1, 1) := dk_27 (dk_at dksX0_votes_0 3 rfl rfl)
theorem dX0_votes_4 : decode cX0_votes 4 = .ok (.iload_n 2, 1) := dk_28 (dk_at dksX0_votes_0 4 rfl rfl)
theorem dX0_votes_5 : decode cX0_votes 5 = .ok (.iload_n 3, 1) := dk_29 (dk_at dksX0_votes_0 5 rfl rfl)
theorem dX0_votes_6 : decode cX0_votes 6 = .ok (.iload 4, 2) := dk_21 4 (dk_at dksX0_votes_0 6 rfl rfl)
theorem dX0_votes_8 : decode cX0_votes 8 = .ok (.invokevirtual 142, 3) := dk_182 0 142 (dk_at dksX0_votes_0 8 rfl rfl)
theorem dX0_votes_11 : decode cX0_votes 11 = .ok (.i2l, 1) := dk_133 (dk_at dksX0_votes_0 11 rfl rfl)
theorem dX0_votes_12 : decode cX0_votes 12 = .ok (.putfield 13, 3) := dk_181 0 13 (dk_at dksX0_votes_0 12 rfl rfl)
theorem dX0_votes_15 : decode cX0_votes 15 = .ok (.goto 11, 3) := dk_167 0 11 (dk_at dksX0_votes_0 15 rfl rfl)
theorem dX0_votes_18 : decode cX0_votes 18 = .ok (.astore 6, 2) := dk_58 6 (dk_at dksX0_votes_0 18 rfl rfl)
theorem dX0_votes_20 : decode cX0_votes 20 = .ok (.iconst 1, 1) := dk_4 (dk_at dksX0_votes_0 20 rfl rfl)
theorem dX0_votes_21 : decode cX0_votes 21 = .ok (.ireturn, 1) := dk_172 (dk_at dksX0_votes_0 21 rfl rfl)
theorem dX0_votes_22 : decode cX0_votes 22 = .ok (.astore 6, 2) := dk_58 6 (dk_at dksX0_votes_0 22 rfl rfl)
theorem dX0_votes_24 : decode cX0_votes 24 = .ok (.iconst 2, 1) := dk_5 (dk_at dksX0_votes_1 0 rfl rfl)
theorem dX0_votes_25 : decode cX0_votes 25 = .ok (.ireturn, 1) := dk_172 (dk_at dksX0_votes_1 1 rfl rfl)
theorem dX0_votes_26 : decode cX0_votes 26 = .ok (.iconst 0, 1) := dk_3 (dk_at dksX0_votes_1 2 rfl rfl)
theorem dX0_votes_27 : decode cX0_votes 27 = .ok (.ireturn, 1) := dk_172 (dk_at dksX0_votes_1 3 rfl rfl)
abbrev cX0_harvest : ByteArray := method_38_code
def yX0_harvest : MethodName := ⟨RX0, "harvest", "(LPublicanry;IILPublicanryLaw$Out;)I"⟩
def dkwX0_harvest_0 : List UInt8 := [45, 42, 27, 28, 182, 0, 145, 133, 181, 0, 13, 167, 0, 11, 58, 4, 4, 172, 58, 4, 5, 172, 3, 172]
abbrev dktX0_harvest_0 : List UInt8 := dkwX0_harvest_0 ++ []
theorem dksX0_harvest_0 : cX0_harvest.data.toList.drop 0 = dktX0_harvest_0 := by decide +kernel
theorem dX0_harvest_0 : decode cX0_harvest 0 = .ok (.aload_n 3, 1) := dk_45 (dk_at dksX0_harvest_0 0 rfl rfl)
theorem dX0_harvest_1 : decode cX0_harvest 1 = .ok (.aload_n 0, 1) := dk_42 (dk_at dksX0_harvest_0 1 rfl rfl)
theorem dX0_harvest_2 : decode cX0_harvest 2 = .ok (.iload_n 1, 1) := dk_27 (dk_at dksX0_harvest_0 2 rfl rfl)
theorem dX0_harvest_3 : decode cX0_harvest 3 = .ok (.iload_n 2, 1) := dk_28 (dk_at dksX0_harvest_0 3 rfl rfl)
theorem dX0_harvest_4 : decode cX0_harvest 4 = .ok (.invokevirtual 145, 3) := dk_182 0 145 (dk_at dksX0_harvest_0 4 rfl rfl)
theorem dX0_harvest_7 : decode cX0_harvest 7 = .ok (.i2l, 1) := dk_133 (dk_at dksX0_harvest_0 7 rfl rfl)
theorem dX0_harvest_8 : decode cX0_harvest 8 = .ok (.putfield 13, 3) := dk_181 0 13 (dk_at dksX0_harvest_0 8 rfl rfl)
theorem dX0_harvest_11 : decode cX0_harvest 11 = .ok (.goto 11, 3) := dk_167 0 11 (dk_at dksX0_harvest_0 11 rfl rfl)
theorem dX0_harvest_14 : decode cX0_harvest 14 = .ok (.astore 4, 2) := dk_58 4 (dk_at dksX0_harvest_0 14 rfl rfl)
theorem dX0_harvest_16 : decode cX0_harvest 16 = .ok (.iconst 1, 1) := dk_4 (dk_at dksX0_harvest_0 16 rfl rfl)
theorem dX0_harvest_17 : decode cX0_harvest 17 = .ok (.ireturn, 1) := dk_172 (dk_at dksX0_harvest_0 17 rfl rfl)
theorem dX0_harvest_18 : decode cX0_harvest 18 = .ok (.astore 4, 2) := dk_58 4 (dk_at dksX0_harvest_0 18 rfl rfl)
theorem dX0_harvest_20 : decode cX0_harvest 20 = .ok (.iconst 2, 1) := dk_5 (dk_at dksX0_harvest_0 20 rfl rfl)
theorem dX0_harvest_21 : decode cX0_harvest 21 = .ok (.ireturn, 1) := dk_172 (dk_at dksX0_harvest_0 21 rfl rfl)
theorem dX0_harvest_22 : decode cX0_harvest 22 = .ok (.iconst 0, 1) := dk_3 (dk_at dksX0_harvest_0 22 rfl rfl)
theorem dX0_harvest_23 : decode cX0_harvest 23 = .ok (.ireturn, 1) := dk_172 (dk_at dksX0_harvest_0 23 rfl rfl)
abbrev cX0_direct : ByteArray := method_39_code
def yX0_direct : MethodName := ⟨RX0, "direct", "(LPublicanry;ILPublicanryLaw$Out;)I"⟩
def dkwX0_direct_0 : List UInt8 := [44, 42, 27, 182, 0, 148, 133, 181, 0, 13, 167, 0, 6, 78, 4, 172, 3, 172]
abbrev dktX0_direct_0 : List UInt8 := dkwX0_direct_0 ++ []
theorem dksX0_direct_0 : cX0_direct.data.toList.drop 0 = dktX0_direct_0 := by decide +kernel
theorem dX0_direct_0 : decode cX0_direct 0 = .ok (.aload_n 2, 1) := dk_44 (dk_at dksX0_direct_0 0 rfl rfl)
theorem dX0_direct_1 : decode cX0_direct 1 = .ok (.aload_n 0, 1) := dk_42 (dk_at dksX0_direct_0 1 rfl rfl)
theorem dX0_direct_2 : decode cX0_direct 2 = .ok (.iload_n 1, 1) := dk_27 (dk_at dksX0_direct_0 2 rfl rfl)
theorem dX0_direct_3 : decode cX0_direct 3 = .ok (.invokevirtual 148, 3) := dk_182 0 148 (dk_at dksX0_direct_0 3 rfl rfl)
theorem dX0_direct_6 : decode cX0_direct 6 = .ok (.i2l, 1) := dk_133 (dk_at dksX0_direct_0 6 rfl rfl)
theorem dX0_direct_7 : decode cX0_direct 7 = .ok (.putfield 13, 3) := dk_181 0 13 (dk_at dksX0_direct_0 7 rfl rfl)
theorem dX0_direct_10 : decode cX0_direct 10 = .ok (.goto 6, 3) := dk_167 0 6 (dk_at dksX0_direct_0 10 rfl rfl)
theorem dX0_direct_13 : decode cX0_direct 13 = .ok (.astore_n 3, 1) := dk_78 (dk_at dksX0_direct_0 13 rfl rfl)
theorem dX0_direct_14 : decode cX0_direct 14 = .ok (.iconst 1, 1) := dk_4 (dk_at dksX0_direct_0 14 rfl rfl)
theorem dX0_direct_15 : decode cX0_direct 15 = .ok (.ireturn, 1) := dk_172 (dk_at dksX0_direct_0 15 rfl rfl)
theorem dX0_direct_16 : decode cX0_direct 16 = .ok (.iconst 0, 1) := dk_3 (dk_at dksX0_direct_0 16 rfl rfl)
theorem dX0_direct_17 : decode cX0_direct 17 = .ok (.ireturn, 1) := dk_172 (dk_at dksX0_direct_0 17 rfl rfl)
abbrev cX0_wouldWin : ByteArray := method_40_code
def yX0_wouldWin : MethodName := ⟨RX0, "wouldWin", "(LPublicanry;ILPublicanryLaw$Out;)I"⟩
def dkwX0_wouldWin_0 : List UInt8 := [44, 42, 27, 182, 0, 151, 133, 181, 0, 13, 167, 0, 9, 78, 4, 172, 78, 5, 172, 3, 172]
abbrev dktX0_wouldWin_0 : List UInt8 := dkwX0_wouldWin_0 ++ []
theorem dksX0_wouldWin_0 : cX0_wouldWin.data.toList.drop 0 = dktX0_wouldWin_0 := by decide +kernel
theorem dX0_wouldWin_0 : decode cX0_wouldWin 0 = .ok (.aload_n 2, 1) := dk_44 (dk_at dksX0_wouldWin_0 0 rfl rfl)
theorem dX0_wouldWin_1 : decode cX0_wouldWin 1 = .ok (.aload_n 0, 1) := dk_42 (dk_at dksX0_wouldWin_0 1 rfl rfl)
theorem dX0_wouldWin_2 : decode cX0_wouldWin 2 = .ok (.iload_n 1, 1) := dk_27 (dk_at dksX0_wouldWin_0 2 rfl rfl)
theorem dX0_wouldWin_3 : decode cX0_wouldWin 3 = .ok (.invokevirtual 151, 3) := dk_182 0 151 (dk_at dksX0_wouldWin_0 3 rfl rfl)
theorem dX0_wouldWin_6 : decode cX0_wouldWin 6 = .ok (.i2l, 1) := dk_133 (dk_at dksX0_wouldWin_0 6 rfl rfl)
theorem dX0_wouldWin_7 : decode cX0_wouldWin 7 = .ok (.putfield 13, 3) := dk_181 0 13 (dk_at dksX0_wouldWin_0 7 rfl rfl)
theorem dX0_wouldWin_10 : decode cX0_wouldWin 10 = .ok (.goto 9, 3) := dk_167 0 9 (dk_at dksX0_wouldWin_0 10 rfl rfl)
theorem dX0_wouldWin_13 : decode cX0_wouldWin 13 = .ok (.astore_n 3, 1) := dk_78 (dk_at dksX0_wouldWin_0 13 rfl rfl)
theorem dX0_wouldWin_14 : decode cX0_wouldWin 14 = .ok (.iconst 1, 1) := dk_4 (dk_at dksX0_wouldWin_0 14 rfl rfl)
theorem dX0_wouldWin_15 : decode cX0_wouldWin 15 = .ok (.ireturn, 1) := dk_172 (dk_at dksX0_wouldWin_0 15 rfl rfl)
theorem dX0_wouldWin_16 : decode cX0_wouldWin 16 = .ok (.astore_n 3, 1) := dk_78 (dk_at dksX0_wouldWin_0 16 rfl rfl)
theorem dX0_wouldWin_17 : decode cX0_wouldWin 17 = .ok (.iconst 2, 1) := dk_5 (dk_at dksX0_wouldWin_0 17 rfl rfl)
theorem dX0_wouldWin_18 : decode cX0_wouldWin 18 = .ok (.ireturn, 1) := dk_172 (dk_at dksX0_wouldWin_0 18 rfl rfl)
theorem dX0_wouldWin_19 : decode cX0_wouldWin 19 = .ok (.iconst 0, 1) := dk_3 (dk_at dksX0_wouldWin_0 19 rfl rfl)
theorem dX0_wouldWin_20 : decode cX0_wouldWin 20 = .ok (.ireturn, 1) := dk_172 (dk_at dksX0_wouldWin_0 20 rfl rfl)
theorem q73 : (Jvm.Cond.initialized "PublicanryLaw") ∈ lw_all := lw_g (lw_at lw_m1 0 rfl) rfl
theorem q121 : (Jvm.Cond.classLink "PublicanryLaw" (8 : Nat) "Publicanry") ∈ lw_all := lw_g (lw_at lw_m1 48 rfl) rfl
theorem q123 : (Jvm.Cond.methodLink "PublicanryLaw" (154 : Nat) ({ cls := "Publicanry", name := "<init>", desc := "()V" } : Jvm.MethodName)) ∈ lw_all := lw_g (lw_at lw_m1 50 rfl) rfl
theorem q296 : (Jvm.Cond.methodLink "PublicanryLaw" (232 : Nat) ({ cls := "Publicanry", name := "recall", desc := "()I" } : Jvm.MethodName)) ∈ lw_all := lw_g (lw_at lw_m1 223 rfl) rfl
theorem q372 : (Jvm.Cond.methodLink "PublicanryLaw" (243 : Nat) ({ cls := "Publicanry", name := "call", desc := "()I" } : Jvm.MethodName)) ∈ lw_all := lw_g (lw_at lw_m2 59 rfl) rfl
theorem q488 : (Jvm.Cond.methodLink "PublicanryLaw" (302 : Nat) ({ cls := "Publicanry", name := "isSound", desc := "()Z" } : Jvm.MethodName)) ∈ lw_all := lw_g (lw_at lw_m2 175 rfl) rfl
theorem q523 : (Jvm.Cond.methodLink "PublicanryLaw" (307 : Nat) ({ cls := "Publicanry", name := "digest", desc := "()J" } : Jvm.MethodName)) ∈ lw_all := lw_g (lw_at lw_m2 210 rfl) rfl
theorem q765 : (Jvm.Cond.classLink "PublicanryLaw" (14 : Nat) "PublicanryLaw$Out") ∈ lw_all := lw_g (lw_at lw_m3 212 rfl) rfl
theorem q767 : (Jvm.Cond.methodLinkNest "PublicanryLaw" (158 : Nat) ({ cls := "PublicanryLaw$Out", name := "<init>", desc := "()V" } : Jvm.MethodName) "PublicanryLaw") ∈ lw_tbl := lw_at lw_m3 214 rfl
theorem q771 : (Jvm.Cond.fieldLinkNest "PublicanryLaw" (13 : Nat) "PublicanryLaw$Out" "n" "J" "PublicanryLaw") ∈ lw_tbl := lw_at lw_m3 218 rfl
theorem q772 : (Jvm.Cond.fieldLinkNest "PublicanryLaw" (132 : Nat) "PublicanryLaw$Out" "d" "D" "PublicanryLaw") ∈ lw_tbl := lw_at lw_m3 219 rfl
theorem q773 : (Jvm.Cond.fieldLinkNest "PublicanryLaw" (124 : Nat) "PublicanryLaw$Out" "s" "Ljava/lang/String;" "PublicanryLaw") ∈ lw_tbl := lw_at lw_m3 220 rfl
theorem q781 : (Jvm.Cond.methodLink "PublicanryLaw" (159 : Nat) ({ cls := "PublicanryLaw", name := "village", desc := "(LPublicanry;IIIILPublicanryLaw$Out;)I" } : Jvm.MethodName)) ∈ lw_all := lw_g (lw_at lw_m3 228 rfl) rfl
theorem q782 : (Jvm.Cond.static ({ cls := "PublicanryLaw", name := "village", desc := "(LPublicanry;IIIILPublicanryLaw$Out;)I" } : Jvm.MethodName)) ∈ lw_all := lw_g (lw_at lw_m3 229 rfl) rfl
theorem q783 : (Jvm.Cond.codeWith ({ cls := "PublicanryLaw", name := "village", desc := "(LPublicanry;IIIILPublicanryLaw$Out;)I" } : Jvm.MethodName) method_2_code (7 : Nat) (Option.some Jvm.ClassFile.FieldType.int) [((0 : Nat), (15 : Nat), (18 : Nat), (19 : Nat)), ((0 : Nat), (15 : Nat), (22 : Nat), (21 : Nat))]) ∈ lw_all := lw_g (lw_at lw_m3 230 rfl) rfl
theorem q784 : (Jvm.Cond.classLink "PublicanryLaw" (19 : Nat) "java/lang/IllegalArgumentException") ∈ lw_all := lw_g (lw_at lw_m3 231 rfl) rfl
theorem q785 : (Jvm.Cond.classLink "PublicanryLaw" (21 : Nat) "java/lang/IllegalStateException") ∈ lw_all := lw_g (lw_at lw_m3 232 rfl) rfl
theorem q786 : (Jvm.Cond.methodLink "PublicanryLaw" (7 : Nat) ({ cls := "Publicanry", name := "village", desc := "(IIII)I" } : Jvm.MethodName)) ∈ lw_all := lw_g (lw_at lw_m3 233 rfl) rfl
theorem q1003 : (Jvm.Cond.methodLink "PublicanryLaw" (169 : Nat) ({ cls := "PublicanryLaw", name := "clear", desc := "(LPublicanry;IILPublicanryLaw$Out;)I" } : Jvm.MethodName)) ∈ lw_all := lw_g (lw_at lw_m4 210 rfl) rfl
theorem q1004 : (Jvm.Cond.static ({ cls := "PublicanryLaw", name := "clear", desc := "(LPublicanry;IILPublicanryLaw$Out;)I" } : Jvm.MethodName)) ∈ lw_all := lw_g (lw_at lw_m4 211 rfl) rfl
theorem q1005 : (Jvm.Cond.codeWith ({ cls := "PublicanryLaw", name := "clear", desc := "(LPublicanry;IILPublicanryLaw$Out;)I" } : Jvm.MethodName) method_3_code (5 : Nat) (Option.some Jvm.ClassFile.FieldType.int) [((0 : Nat), (11 : Nat), (14 : Nat), (27 : Nat)), ((0 : Nat), (11 : Nat), (18 : Nat), (19 : Nat))]) ∈ lw_all := lw_g (lw_at lw_m4 212 rfl) rfl
theorem q1006 : (Jvm.Cond.classLink "PublicanryLaw" (27 : Nat) "java/lang/IndexOutOfBoundsException") ∈ lw_all := lw_g (lw_at lw_m4 213 rfl) rfl
theorem q1025 : (Jvm.Cond.methodLink "PublicanryLaw" (23 : Nat) ({ cls := "Publicanry", name := "clear", desc := "(II)I" } : Jvm.MethodName)) ∈ lw_all := lw_g (lw_at lw_m4 232 rfl) rfl
theorem q1049 : (Jvm.Cond.methodLink "PublicanryLaw" (173 : Nat) ({ cls := "PublicanryLaw", name := "survey", desc := "(LPublicanry;ILPublicanryLaw$Out;)I" } : Jvm.MethodName)) ∈ lw_all := lw_g (lw_at lw_m5 16 rfl) rfl
theorem q1050 : (Jvm.Cond.static ({ cls := "PublicanryLaw", name := "survey", desc := "(LPublicanry;ILPublicanryLaw$Out;)I" } : Jvm.MethodName)) ∈ lw_all := lw_g (lw_at lw_m5 17 rfl) rfl
theorem q1051 : (Jvm.Cond.codeWith ({ cls := "PublicanryLaw", name := "survey", desc := "(LPublicanry;ILPublicanryLaw$Out;)I" } : Jvm.MethodName) method_4_code (4 : Nat) (Option.some Jvm.ClassFile.FieldType.int) [((0 : Nat), (10 : Nat), (13 : Nat), (27 : Nat))]) ∈ lw_all := lw_g (lw_at lw_m5 18 rfl) rfl
theorem q1052 : (Jvm.Cond.methodLink "PublicanryLaw" (29 : Nat) ({ cls := "Publicanry", name := "survey", desc := "(I)I" } : Jvm.MethodName)) ∈ lw_all := lw_g (lw_at lw_m5 19 rfl) rfl
theorem q1056 : (Jvm.Cond.methodLink "PublicanryLaw" (177 : Nat) ({ cls := "PublicanryLaw", name := "war", desc := "(LPublicanry;ILPublicanryLaw$Out;)I" } : Jvm.MethodName)) ∈ lw_all := lw_g (lw_at lw_m5 23 rfl) rfl
theorem q1057 : (Jvm.Cond.static ({ cls := "PublicanryLaw", name := "war", desc := "(LPublicanry;ILPublicanryLaw$Out;)I" } : Jvm.MethodName)) ∈ lw_all := lw_g (lw_at lw_m5 24 rfl) rfl
theorem q1058 : (Jvm.Cond.codeWith ({ cls := "PublicanryLaw", name := "war", desc := "(LPublicanry;ILPublicanryLaw$Out;)I" } : Jvm.MethodName) method_5_code (4 : Nat) (Option.some Jvm.ClassFile.FieldType.int) [((0 : Nat), (10 : Nat), (13 : Nat), (19 : Nat))]) ∈ lw_all := lw_g (lw_at lw_m5 25 rfl) rfl
theorem q1059 : (Jvm.Cond.methodLink "PublicanryLaw" (33 : Nat) ({ cls := "Publicanry", name := "war", desc := "(I)I" } : Jvm.MethodName)) ∈ lw_all := lw_g (lw_at lw_m5 26 rfl) rfl
theorem q1068 : (Jvm.Cond.methodLink "PublicanryLaw" (180 : Nat) ({ cls := "PublicanryLaw", name := "edict", desc := "(LPublicanry;IIILPublicanryLaw$Out;)I" } : Jvm.MethodName)) ∈ lw_all := lw_g (lw_at lw_m5 35 rfl) rfl
theorem q1069 : (Jvm.Cond.static ({ cls := "PublicanryLaw", name := "edict", desc := "(LPublicanry;IIILPublicanryLaw$Out;)I" } : Jvm.MethodName)) ∈ lw_all := lw_g (lw_at lw_m5 36 rfl) rfl
theorem q1070 : (Jvm.Cond.codeWith ({ cls := "PublicanryLaw", name := "edict", desc := "(LPublicanry;IIILPublicanryLaw$Out;)I" } : Jvm.MethodName) method_6_code (6 : Nat) (Option.some Jvm.ClassFile.FieldType.int) [((0 : Nat), (13 : Nat), (16 : Nat), (27 : Nat)), ((0 : Nat), (13 : Nat), (20 : Nat), (19 : Nat))]) ∈ lw_all := lw_g (lw_at lw_m5 37 rfl) rfl
theorem q1071 : (Jvm.Cond.methodLink "PublicanryLaw" (36 : Nat) ({ cls := "Publicanry", name := "edict", desc := "(III)I" } : Jvm.MethodName)) ∈ lw_all := lw_g (lw_at lw_m5 38 rfl) rfl
theorem q1096 : (Jvm.Cond.methodLink "PublicanryLaw" (184 : Nat) ({ cls := "PublicanryLaw", name := "cut", desc := "(LPublicanry;ILPublicanryLaw$Out;)I" } : Jvm.MethodName)) ∈ lw_all := lw_g (lw_at lw_m5 63 rfl) rfl
theorem q1097 : (Jvm.Cond.static ({ cls := "PublicanryLaw", name := "cut", desc := "(LPublicanry;ILPublicanryLaw$Out;)I" } : Jvm.MethodName)) ∈ lw_all := lw_g (lw_at lw_m5 64 rfl) rfl
theorem q1098 : (Jvm.Cond.codeWith ({ cls := "PublicanryLaw", name := "cut", desc := "(LPublicanry;ILPublicanryLaw$Out;)I" } : Jvm.MethodName) method_7_code (4 : Nat) (Option.some Jvm.ClassFile.FieldType.int) [((0 : Nat), (10 : Nat), (13 : Nat), (27 : Nat))]) ∈ lw_all := lw_g (lw_at lw_m5 65 rfl) rfl
theorem q1099 : (Jvm.Cond.methodLink "PublicanryLaw" (40 : Nat) ({ cls := "Publicanry", name := "cut", desc := "(I)I" } : Jvm.MethodName)) ∈ lw_all := lw_g (lw_at lw_m5 66 rfl) rfl
theorem q1103 : (Jvm.Cond.methodLink "PublicanryLaw" (187 : Nat) ({ cls := "PublicanryLaw", name := "company", desc := "(LPublicanry;IILPublicanryLaw$Out;)I" } : Jvm.MethodName)) ∈ lw_all := lw_g (lw_at lw_m5 70 rfl) rfl
theorem q1104 : (Jvm.Cond.static ({ cls := "PublicanryLaw", name := "company", desc := "(LPublicanry;IILPublicanryLaw$Out;)I" } : Jvm.MethodName)) ∈ lw_all := lw_g (lw_at lw_m5 71 rfl) rfl
theorem q1105 : (Jvm.Cond.codeWith ({ cls := "PublicanryLaw", name := "company", desc := "(LPublicanry;IILPublicanryLaw$Out;)I" } : Jvm.MethodName) method_8_code (5 : Nat) (Option.some Jvm.ClassFile.FieldType.int) [((0 : Nat), (11 : Nat), (14 : Nat), (19 : Nat)), ((0 : Nat), (11 : Nat), (18 : Nat), (21 : Nat))]) ∈ lw_all := lw_g (lw_at lw_m5 72 rfl) rfl
theorem q1106 : (Jvm.Cond.methodLink "PublicanryLaw" (43 : Nat) ({ cls := "Publicanry", name := "company", desc := "(II)I" } : Jvm.MethodName)) ∈ lw_all := lw_g (lw_at lw_m5 73 rfl) rfl
theorem q1169 : (Jvm.Cond.methodLink "PublicanryLaw" (190 : Nat) ({ cls := "PublicanryLaw", name := "join", desc := "(LPublicanry;IILPublicanryLaw$Out;)I" } : Jvm.MethodName)) ∈ lw_all := lw_g (lw_at lw_m5 136 rfl) rfl
theorem q1170 : (Jvm.Cond.static ({ cls := "PublicanryLaw", name := "join", desc := "(LPublicanry;IILPublicanryLaw$Out;)I" } : Jvm.MethodName)) ∈ lw_all := lw_g (lw_at lw_m5 137 rfl) rfl
theorem q1171 : (Jvm.Cond.codeWith ({ cls := "PublicanryLaw", name := "join", desc := "(LPublicanry;IILPublicanryLaw$Out;)I" } : Jvm.MethodName) method_9_code (5 : Nat) (Option.some Jvm.ClassFile.FieldType.int) [((0 : Nat), (11 : Nat), (14 : Nat), (27 : Nat)), ((0 : Nat), (11 : Nat), (18 : Nat), (19 : Nat)), ((0 : Nat), (11 : Nat), (22 : Nat), (21 : Nat))]) ∈ lw_all := lw_g (lw_at lw_m5 138 rfl) rfl
theorem q1172 : (Jvm.Cond.methodLink "PublicanryLaw" (46 : Nat) ({ cls := "Publicanry", name := "join", desc := "(II)I" } : Jvm.MethodName)) ∈ lw_all := lw_g (lw_at lw_m5 139 rfl) rfl
theorem q1196 : (Jvm.Cond.methodLink "PublicanryLaw" (193 : Nat) ({ cls := "PublicanryLaw", name := "shareOut", desc := "(LPublicanry;IILPublicanryLaw$Out;)I" } : Jvm.MethodName)) ∈ lw_all := lw_g (lw_at lw_m5 163 rfl) rfl
theorem q1197 : (Jvm.Cond.static ({ cls := "PublicanryLaw", name := "shareOut", desc := "(LPublicanry;IILPublicanryLaw$Out;)I" } : Jvm.MethodName)) ∈ lw_all := lw_g (lw_at lw_m5 164 rfl) rfl
theorem q1198 : (Jvm.Cond.codeWith ({ cls := "PublicanryLaw", name := "shareOut", desc := "(LPublicanry;IILPublicanryLaw$Out;)I" } : Jvm.MethodName) method_10_code (5 : Nat) (Option.some Jvm.ClassFile.FieldType.int) [((0 : Nat), (11 : Nat), (14 : Nat), (27 : Nat)), ((0 : Nat), (11 : Nat), (18 : Nat), (19 : Nat)), ((0 : Nat), (11 : Nat), (22 : Nat), (21 : Nat))]) ∈ lw_all := lw_g (lw_at lw_m5 165 rfl) rfl
theorem q1199 : (Jvm.Cond.methodLink "PublicanryLaw" (49 : Nat) ({ cls := "Publicanry", name := "shareOut", desc := "(II)I" } : Jvm.MethodName)) ∈ lw_all := lw_g (lw_at lw_m5 166 rfl) rfl
theorem q1230 : (Jvm.Cond.methodLink "PublicanryLaw" (196 : Nat) ({ cls := "PublicanryLaw", name := "ring", desc := "(LPublicanry;IILPublicanryLaw$Out;)I" } : Jvm.MethodName)) ∈ lw_all := lw_g (lw_at lw_m5 197 rfl) rfl
theorem q1231 : (Jvm.Cond.static ({ cls := "PublicanryLaw", name := "ring", desc := "(LPublicanry;IILPublicanryLaw$Out;)I" } : Jvm.MethodName)) ∈ lw_all := lw_g (lw_at lw_m5 198 rfl) rfl
theorem q1232 : (Jvm.Cond.codeWith ({ cls := "PublicanryLaw", name := "ring", desc := "(LPublicanry;IILPublicanryLaw$Out;)I" } : Jvm.MethodName) method_11_code (5 : Nat) (Option.some Jvm.ClassFile.FieldType.int) [((0 : Nat), (11 : Nat), (14 : Nat), (27 : Nat)), ((0 : Nat), (11 : Nat), (18 : Nat), (19 : Nat))]) ∈ lw_all := lw_g (lw_at lw_m5 199 rfl) rfl
theorem q1233 : (Jvm.Cond.methodLink "PublicanryLaw" (52 : Nat) ({ cls := "Publicanry", name := "ring", desc := "(II)I" } : Jvm.MethodName)) ∈ lw_all := lw_g (lw_at lw_m5 200 rfl) rfl
theorem q1238 : (Jvm.Cond.methodLink "PublicanryLaw" (199 : Nat) ({ cls := "PublicanryLaw", name := "lot", desc := "(LPublicanry;IIIILPublicanryLaw$Out;)I" } : Jvm.MethodName)) ∈ lw_all := lw_g (lw_at lw_m5 205 rfl) rfl
theorem q1239 : (Jvm.Cond.static ({ cls := "PublicanryLaw", name := "lot", desc := "(LPublicanry;IIIILPublicanryLaw$Out;)I" } : Jvm.MethodName)) ∈ lw_all := lw_g (lw_at lw_m5 206 rfl) rfl
theorem q1240 : (Jvm.Cond.codeWith ({ cls := "PublicanryLaw", name := "lot", desc := "(LPublicanry;IIIILPublicanryLaw$Out;)I" } : Jvm.MethodName) method_12_code (7 : Nat) (Option.some Jvm.ClassFile.FieldType.int) [((0 : Nat), (15 : Nat), (18 : Nat), (27 : Nat)), ((0 : Nat), (15 : Nat), (22 : Nat), (19 : Nat)), ((0 : Nat), (15 : Nat), (26 : Nat), (21 : Nat))]) ∈ lw_all := lw_g (lw_at lw_m5 207 rfl) rfl
theorem q1241 : (Jvm.Cond.methodLink "PublicanryLaw" (55 : Nat) ({ cls := "Publicanry", name := "lot", desc := "(IIII)I" } : Jvm.MethodName)) ∈ lw_all := lw_g (lw_at lw_m5 208 rfl) rfl
theorem q1310 : (Jvm.Cond.methodLink "PublicanryLaw" (202 : Nat) ({ cls := "PublicanryLaw", name := "bid", desc := "(LPublicanry;IIILPublicanryLaw$Out;)I" } : Jvm.MethodName)) ∈ lw_all := lw_g (lw_at lw_m6 37 rfl) rfl
theorem q1311 : (Jvm.Cond.static ({ cls := "PublicanryLaw", name := "bid", desc := "(LPublicanry;IIILPublicanryLaw$Out;)I" } : Jvm.MethodName)) ∈ lw_all := lw_g (lw_at lw_m6 38 rfl) rfl
theorem q1312 : (Jvm.Cond.codeWith ({ cls := "PublicanryLaw", name := "bid", desc := "(LPublicanry;IIILPublicanryLaw$Out;)I" } : Jvm.MethodName) method_13_code (6 : Nat) (Option.some Jvm.ClassFile.FieldType.int) [((0 : Nat), (13 : Nat), (16 : Nat), (27 : Nat)), ((0 : Nat), (13 : Nat), (20 : Nat), (19 : Nat)), ((0 : Nat), (13 : Nat), (24 : Nat), (21 : Nat))]) ∈ lw_all := lw_g (lw_at lw_m6 39 rfl) rfl
theorem q1313 : (Jvm.Cond.methodLink "PublicanryLaw" (58 : Nat) ({ cls := "Publicanry", name := "bid", desc := "(III)I" } : Jvm.MethodName)) ∈ lw_all := lw_g (lw_at lw_m6 40 rfl) rfl
theorem q1327 : (Jvm.Cond.methodLink "PublicanryLaw" (205 : Nat) ({ cls := "PublicanryLaw", name := "award", desc := "(LPublicanry;ILPublicanryLaw$Out;)I" } : Jvm.MethodName)) ∈ lw_all := lw_g (lw_at lw_m6 54 rfl) rfl
theorem q1328 : (Jvm.Cond.static ({ cls := "PublicanryLaw", name := "award", desc := "(LPublicanry;ILPublicanryLaw$Out;)I" } : Jvm.MethodName)) ∈ lw_all := lw_g (lw_at lw_m6 55 rfl) rfl
theorem q1329 : (Jvm.Cond.codeWith ({ cls := "PublicanryLaw", name := "award", desc := "(LPublicanry;ILPublicanryLaw$Out;)I" } : Jvm.MethodName) method_14_code (4 : Nat) (Option.some Jvm.ClassFile.FieldType.int) [((0 : Nat), (10 : Nat), (13 : Nat), (27 : Nat)), ((0 : Nat), (10 : Nat), (16 : Nat), (21 : Nat))]) ∈ lw_all := lw_g (lw_at lw_m6 56 rfl) rfl
theorem q1330 : (Jvm.Cond.methodLink "PublicanryLaw" (61 : Nat) ({ cls := "Publicanry", name := "award", desc := "(I)I" } : Jvm.MethodName)) ∈ lw_all := lw_g (lw_at lw_m6 57 rfl) rfl
theorem q1399 : (Jvm.Cond.methodLink "PublicanryLaw" (208 : Nat) ({ cls := "PublicanryLaw", name := "force", desc := "(LPublicanry;IILPublicanryLaw$Out;)I" } : Jvm.MethodName)) ∈ lw_all := lw_g (lw_at lw_m6 126 rfl) rfl
theorem q1400 : (Jvm.Cond.static ({ cls := "PublicanryLaw", name := "force", desc := "(LPublicanry;IILPublicanryLaw$Out;)I" } : Jvm.MethodName)) ∈ lw_all := lw_g (lw_at lw_m6 127 rfl) rfl
theorem q1401 : (Jvm.Cond.codeWith ({ cls := "PublicanryLaw", name := "force", desc := "(LPublicanry;IILPublicanryLaw$Out;)I" } : Jvm.MethodName) method_15_code (5 : Nat) (Option.some Jvm.ClassFile.FieldType.int) [((0 : Nat), (11 : Nat), (14 : Nat), (27 : Nat)), ((0 : Nat), (11 : Nat), (18 : Nat), (19 : Nat))]) ∈ lw_all := lw_g (lw_at lw_m6 128 rfl) rfl
theorem q1402 : (Jvm.Cond.methodLink "PublicanryLaw" (64 : Nat) ({ cls := "Publicanry", name := "force", desc := "(II)I" } : Jvm.MethodName)) ∈ lw_all := lw_g (lw_at lw_m6 129 rfl) rfl
theorem q1407 : (Jvm.Cond.methodLink "PublicanryLaw" (211 : Nat) ({ cls := "PublicanryLaw", name := "letOn", desc := "(LPublicanry;IIILPublicanryLaw$Out;)I" } : Jvm.MethodName)) ∈ lw_all := lw_g (lw_at lw_m6 134 rfl) rfl
theorem q1408 : (Jvm.Cond.static ({ cls := "PublicanryLaw", name := "letOn", desc := "(LPublicanry;IIILPublicanryLaw$Out;)I" } : Jvm.MethodName)) ∈ lw_all := lw_g (lw_at lw_m6 135 rfl) rfl
theorem q1409 : (Jvm.Cond.codeWith ({ cls := "PublicanryLaw", name := "letOn", desc := "(LPublicanry;IIILPublicanryLaw$Out;)I" } : Jvm.MethodName) method_16_code (6 : Nat) (Option.some Jvm.ClassFile.FieldType.int) [((0 : Nat), (13 : Nat), (16 : Nat), (27 : Nat)), ((0 : Nat), (13 : Nat), (20 : Nat), (19 : Nat)), ((0 : Nat), (13 : Nat), (24 : Nat), (21 : Nat))]) ∈ lw_all := lw_g (lw_at lw_m6 136 rfl) rfl
theorem q1410 : (Jvm.Cond.methodLink "PublicanryLaw" (67 : Nat) ({ cls := "Publicanry", name := "letOn", desc := "(III)I" } : Jvm.MethodName)) ∈ lw_all := lw_g (lw_at lw_m6 137 rfl) rfl
theorem q1415 : (Jvm.Cond.methodLink "PublicanryLaw" (214 : Nat) ({ cls := "PublicanryLaw", name := "deliver", desc := "(LPublicanry;IILPublicanryLaw$Out;)I" } : Jvm.MethodName)) ∈ lw_all := lw_g (lw_at lw_m6 142 rfl) rfl
theorem q1416 : (Jvm.Cond.static ({ cls := "PublicanryLaw", name := "deliver", desc := "(LPublicanry;IILPublicanryLaw$Out;)I" } : Jvm.MethodName)) ∈ lw_all := lw_g (lw_at lw_m6 143 rfl) rfl
theorem q1417 : (Jvm.Cond.codeWith ({ cls := "PublicanryLaw", name := "deliver", desc := "(LPublicanry;IILPublicanryLaw$Out;)I" } : Jvm.MethodName) method_17_code (5 : Nat) (Option.some Jvm.ClassFile.FieldType.int) [((0 : Nat), (11 : Nat), (14 : Nat), (27 : Nat)), ((0 : Nat), (11 : Nat), (18 : Nat), (19 : Nat)), ((0 : Nat), (11 : Nat), (22 : Nat), (21 : Nat))]) ∈ lw_all := lw_g (lw_at lw_m6 144 rfl) rfl
theorem q1418 : (Jvm.Cond.methodLink "PublicanryLaw" (70 : Nat) ({ cls := "Publicanry", name := "deliver", desc := "(II)I" } : Jvm.MethodName)) ∈ lw_all := lw_g (lw_at lw_m6 145 rfl) rfl
theorem q1423 : (Jvm.Cond.methodLink "PublicanryLaw" (217 : Nat) ({ cls := "PublicanryLaw", name := "sue", desc := "(LPublicanry;IILPublicanryLaw$Out;)I" } : Jvm.MethodName)) ∈ lw_all := lw_g (lw_at lw_m6 150 rfl) rfl
theorem q1424 : (Jvm.Cond.static ({ cls := "PublicanryLaw", name := "sue", desc := "(LPublicanry;IILPublicanryLaw$Out;)I" } : Jvm.MethodName)) ∈ lw_all := lw_g (lw_at lw_m6 151 rfl) rfl
theorem q1425 : (Jvm.Cond.codeWith ({ cls := "PublicanryLaw", name := "sue", desc := "(LPublicanry;IILPublicanryLaw$Out;)I" } : Jvm.MethodName) method_18_code (5 : Nat) (Option.some Jvm.ClassFile.FieldType.int) [((0 : Nat), (11 : Nat), (14 : Nat), (27 : Nat)), ((0 : Nat), (11 : Nat), (18 : Nat), (21 : Nat))]) ∈ lw_all := lw_g (lw_at lw_m6 152 rfl) rfl
theorem q1426 : (Jvm.Cond.methodLink "PublicanryLaw" (73 : Nat) ({ cls := "Publicanry", name := "sue", desc := "(II)I" } : Jvm.MethodName)) ∈ lw_all := lw_g (lw_at lw_m6 153 rfl) rfl
theorem q1450 : (Jvm.Cond.methodLink "PublicanryLaw" (220 : Nat) ({ cls := "PublicanryLaw", name := "bench", desc := "(LPublicanry;ILPublicanryLaw$Out;)I" } : Jvm.MethodName)) ∈ lw_all := lw_g (lw_at lw_m6 177 rfl) rfl
theorem q1451 : (Jvm.Cond.static ({ cls := "PublicanryLaw", name := "bench", desc := "(LPublicanry;ILPublicanryLaw$Out;)I" } : Jvm.MethodName)) ∈ lw_all := lw_g (lw_at lw_m6 178 rfl) rfl
theorem q1452 : (Jvm.Cond.codeWith ({ cls := "PublicanryLaw", name := "bench", desc := "(LPublicanry;ILPublicanryLaw$Out;)I" } : Jvm.MethodName) method_19_code (4 : Nat) (Option.some Jvm.ClassFile.FieldType.int) [((0 : Nat), (10 : Nat), (13 : Nat), (19 : Nat))]) ∈ lw_all := lw_g (lw_at lw_m6 179 rfl) rfl
theorem q1453 : (Jvm.Cond.methodLink "PublicanryLaw" (76 : Nat) ({ cls := "Publicanry", name := "bench", desc := "(I)I" } : Jvm.MethodName)) ∈ lw_all := lw_g (lw_at lw_m6 180 rfl) rfl
theorem q1458 : (Jvm.Cond.methodLink "PublicanryLaw" (223 : Nat) ({ cls := "PublicanryLaw", name := "gift", desc := "(LPublicanry;IILPublicanryLaw$Out;)I" } : Jvm.MethodName)) ∈ lw_all := lw_g (lw_at lw_m6 185 rfl) rfl
theorem q1459 : (Jvm.Cond.static ({ cls := "PublicanryLaw", name := "gift", desc := "(LPublicanry;IILPublicanryLaw$Out;)I" } : Jvm.MethodName)) ∈ lw_all := lw_g (lw_at lw_m6 186 rfl) rfl
theorem q1460 : (Jvm.Cond.codeWith ({ cls := "PublicanryLaw", name := "gift", desc := "(LPublicanry;IILPublicanryLaw$Out;)I" } : Jvm.MethodName) method_20_code (5 : Nat) (Option.some Jvm.ClassFile.FieldType.int) [((0 : Nat), (11 : Nat), (14 : Nat), (27 : Nat)), ((0 : Nat), (11 : Nat), (18 : Nat), (19 : Nat)), ((0 : Nat), (11 : Nat), (22 : Nat), (21 : Nat))]) ∈ lw_all := lw_g (lw_at lw_m6 187 rfl) rfl
theorem q1461 : (Jvm.Cond.methodLink "PublicanryLaw" (79 : Nat) ({ cls := "Publicanry", name := "gift", desc := "(II)I" } : Jvm.MethodName)) ∈ lw_all := lw_g (lw_at lw_m6 188 rfl) rfl
theorem q1465 : (Jvm.Cond.methodLink "PublicanryLaw" (226 : Nat) ({ cls := "PublicanryLaw", name := "quarter", desc := "(LPublicanry;ILPublicanryLaw$Out;)I" } : Jvm.MethodName)) ∈ lw_all := lw_g (lw_at lw_m6 192 rfl) rfl
theorem q1466 : (Jvm.Cond.static ({ cls := "PublicanryLaw", name := "quarter", desc := "(LPublicanry;ILPublicanryLaw$Out;)I" } : Jvm.MethodName)) ∈ lw_all := lw_g (lw_at lw_m6 193 rfl) rfl
theorem q1467 : (Jvm.Cond.codeWith ({ cls := "PublicanryLaw", name := "quarter", desc := "(LPublicanry;ILPublicanryLaw$Out;)I" } : Jvm.MethodName) method_21_code (4 : Nat) (Option.some Jvm.ClassFile.FieldType.int) [((0 : Nat), (10 : Nat), (13 : Nat), (27 : Nat))]) ∈ lw_all := lw_g (lw_at lw_m6 194 rfl) rfl
theorem q1468 : (Jvm.Cond.methodLink "PublicanryLaw" (82 : Nat) ({ cls := "Publicanry", name := "quarter", desc := "(I)I" } : Jvm.MethodName)) ∈ lw_all := lw_g (lw_at lw_m6 195 rfl) rfl
theorem q1472 : (Jvm.Cond.methodLink "PublicanryLaw" (229 : Nat) ({ cls := "PublicanryLaw", name := "remit", desc := "(LPublicanry;ILPublicanryLaw$Out;)I" } : Jvm.MethodName)) ∈ lw_all := lw_g (lw_at lw_m6 199 rfl) rfl
theorem q1473 : (Jvm.Cond.static ({ cls := "PublicanryLaw", name := "remit", desc := "(LPublicanry;ILPublicanryLaw$Out;)I" } : Jvm.MethodName)) ∈ lw_all := lw_g (lw_at lw_m6 200 rfl) rfl
theorem q1474 : (Jvm.Cond.codeWith ({ cls := "PublicanryLaw", name := "remit", desc := "(LPublicanry;ILPublicanryLaw$Out;)I" } : Jvm.MethodName) method_22_code (4 : Nat) (Option.some Jvm.ClassFile.FieldType.int) [((0 : Nat), (10 : Nat), (13 : Nat), (27 : Nat)), ((0 : Nat), (10 : Nat), (16 : Nat), (21 : Nat))]) ∈ lw_all := lw_g (lw_at lw_m6 201 rfl) rfl
theorem q1475 : (Jvm.Cond.methodLink "PublicanryLaw" (85 : Nat) ({ cls := "Publicanry", name := "remit", desc := "(I)I" } : Jvm.MethodName)) ∈ lw_all := lw_g (lw_at lw_m6 202 rfl) rfl
theorem q1493 : (Jvm.Cond.methodLink "PublicanryLaw" (236 : Nat) ({ cls := "PublicanryLaw", name := "clerks", desc := "(LPublicanry;IZLPublicanryLaw$Out;)I" } : Jvm.MethodName)) ∈ lw_all := lw_g (lw_at lw_m6 220 rfl) rfl
theorem q1494 : (Jvm.Cond.static ({ cls := "PublicanryLaw", name := "clerks", desc := "(LPublicanry;IZLPublicanryLaw$Out;)I" } : Jvm.MethodName)) ∈ lw_all := lw_g (lw_at lw_m6 221 rfl) rfl
theorem q1495 : (Jvm.Cond.codeWith ({ cls := "PublicanryLaw", name := "clerks", desc := "(LPublicanry;IZLPublicanryLaw$Out;)I" } : Jvm.MethodName) method_23_code (5 : Nat) (Option.some Jvm.ClassFile.FieldType.int) [((0 : Nat), (18 : Nat), (21 : Nat), (27 : Nat))]) ∈ lw_all := lw_g (lw_at lw_m6 222 rfl) rfl
theorem q1496 : (Jvm.Cond.methodLink "PublicanryLaw" (88 : Nat) ({ cls := "Publicanry", name := "clerks", desc := "(IZ)Z" } : Jvm.MethodName)) ∈ lw_all := lw_g (lw_at lw_m6 223 rfl) rfl
theorem q1500 : (Jvm.Cond.methodLink "PublicanryLaw" (240 : Nat) ({ cls := "PublicanryLaw", name := "pass", desc := "(LPublicanry;ILPublicanryLaw$Out;)I" } : Jvm.MethodName)) ∈ lw_all := lw_g (lw_at lw_m6 227 rfl) rfl
theorem q1501 : (Jvm.Cond.static ({ cls := "PublicanryLaw", name := "pass", desc := "(LPublicanry;ILPublicanryLaw$Out;)I" } : Jvm.MethodName)) ∈ lw_all := lw_g (lw_at lw_m6 228 rfl) rfl
theorem q1502 : (Jvm.Cond.codeWith ({ cls := "PublicanryLaw", name := "pass", desc := "(LPublicanry;ILPublicanryLaw$Out;)I" } : Jvm.MethodName) method_24_code (4 : Nat) (Option.some Jvm.ClassFile.FieldType.int) [((0 : Nat), (10 : Nat), (13 : Nat), (19 : Nat)), ((0 : Nat), (10 : Nat), (16 : Nat), (21 : Nat))]) ∈ lw_all := lw_g (lw_at lw_m6 229 rfl) rfl
theorem q1503 : (Jvm.Cond.methodLink "PublicanryLaw" (92 : Nat) ({ cls := "Publicanry", name := "pass", desc := "(I)I" } : Jvm.MethodName)) ∈ lw_all := lw_g (lw_at lw_m6 230 rfl) rfl
theorem q1589 : (Jvm.Cond.methodLink "PublicanryLaw" (247 : Nat) ({ cls := "PublicanryLaw", name := "ofVillage", desc := "(LPublicanry;IILPublicanryLaw$Out;)I" } : Jvm.MethodName)) ∈ lw_all := lw_g (lw_at lw_m7 76 rfl) rfl
theorem q1590 : (Jvm.Cond.static ({ cls := "PublicanryLaw", name := "ofVillage", desc := "(LPublicanry;IILPublicanryLaw$Out;)I" } : Jvm.MethodName)) ∈ lw_all := lw_g (lw_at lw_m7 77 rfl) rfl
theorem q1591 : (Jvm.Cond.codeWith ({ cls := "PublicanryLaw", name := "ofVillage", desc := "(LPublicanry;IILPublicanryLaw$Out;)I" } : Jvm.MethodName) method_25_code (5 : Nat) (Option.some Jvm.ClassFile.FieldType.int) [((0 : Nat), (11 : Nat), (14 : Nat), (27 : Nat)), ((0 : Nat), (11 : Nat), (18 : Nat), (19 : Nat))]) ∈ lw_all := lw_g (lw_at lw_m7 78 rfl) rfl
theorem q1592 : (Jvm.Cond.methodLink "PublicanryLaw" (95 : Nat) ({ cls := "Publicanry", name := "ofVillage", desc := "(II)I" } : Jvm.MethodName)) ∈ lw_all := lw_g (lw_at lw_m7 79 rfl) rfl
theorem q1597 : (Jvm.Cond.methodLink "PublicanryLaw" (250 : Nat) ({ cls := "PublicanryLaw", name := "due", desc := "(LPublicanry;IIZLPublicanryLaw$Out;)I" } : Jvm.MethodName)) ∈ lw_all := lw_g (lw_at lw_m7 84 rfl) rfl
theorem q1598 : (Jvm.Cond.static ({ cls := "PublicanryLaw", name := "due", desc := "(LPublicanry;IIZLPublicanryLaw$Out;)I" } : Jvm.MethodName)) ∈ lw_all := lw_g (lw_at lw_m7 85 rfl) rfl
theorem q1599 : (Jvm.Cond.codeWith ({ cls := "PublicanryLaw", name := "due", desc := "(LPublicanry;IIZLPublicanryLaw$Out;)I" } : Jvm.MethodName) method_26_code (6 : Nat) (Option.some Jvm.ClassFile.FieldType.int) [((0 : Nat), (13 : Nat), (16 : Nat), (27 : Nat))]) ∈ lw_all := lw_g (lw_at lw_m7 86 rfl) rfl
theorem q1600 : (Jvm.Cond.methodLink "PublicanryLaw" (98 : Nat) ({ cls := "Publicanry", name := "due", desc := "(IIZ)I" } : Jvm.MethodName)) ∈ lw_all := lw_g (lw_at lw_m7 87 rfl) rfl
theorem q1608 : (Jvm.Cond.methodLink "PublicanryLaw" (254 : Nat) ({ cls := "PublicanryLaw", name := "levy", desc := "(LPublicanry;IIILPublicanryLaw$Out;)I" } : Jvm.MethodName)) ∈ lw_all := lw_g (lw_at lw_m7 95 rfl) rfl
theorem q1609 : (Jvm.Cond.static ({ cls := "PublicanryLaw", name := "levy", desc := "(LPublicanry;IIILPublicanryLaw$Out;)I" } : Jvm.MethodName)) ∈ lw_all := lw_g (lw_at lw_m7 96 rfl) rfl
theorem q1610 : (Jvm.Cond.codeWith ({ cls := "PublicanryLaw", name := "levy", desc := "(LPublicanry;IIILPublicanryLaw$Out;)I" } : Jvm.MethodName) method_27_code (6 : Nat) (Option.some Jvm.ClassFile.FieldType.int) [((0 : Nat), (13 : Nat), (16 : Nat), (27 : Nat)), ((0 : Nat), (13 : Nat), (20 : Nat), (19 : Nat))]) ∈ lw_all := lw_g (lw_at lw_m7 97 rfl) rfl
theorem q1611 : (Jvm.Cond.methodLink "PublicanryLaw" (102 : Nat) ({ cls := "Publicanry", name := "levy", desc := "(III)I" } : Jvm.MethodName)) ∈ lw_all := lw_g (lw_at lw_m7 98 rfl) rfl
theorem q1615 : (Jvm.Cond.methodLink "PublicanryLaw" (257 : Nat) ({ cls := "PublicanryLaw", name := "law", desc := "(LPublicanry;IILPublicanryLaw$Out;)I" } : Jvm.MethodName)) ∈ lw_all := lw_g (lw_at lw_m7 102 rfl) rfl
theorem q1616 : (Jvm.Cond.static ({ cls := "PublicanryLaw", name := "law", desc := "(LPublicanry;IILPublicanryLaw$Out;)I" } : Jvm.MethodName)) ∈ lw_all := lw_g (lw_at lw_m7 103 rfl) rfl
theorem q1617 : (Jvm.Cond.codeWith ({ cls := "PublicanryLaw", name := "law", desc := "(LPublicanry;IILPublicanryLaw$Out;)I" } : Jvm.MethodName) method_28_code (5 : Nat) (Option.some Jvm.ClassFile.FieldType.int) [((0 : Nat), (11 : Nat), (14 : Nat), (27 : Nat)), ((0 : Nat), (11 : Nat), (18 : Nat), (19 : Nat))]) ∈ lw_all := lw_g (lw_at lw_m7 104 rfl) rfl
theorem q1618 : (Jvm.Cond.methodLink "PublicanryLaw" (105 : Nat) ({ cls := "Publicanry", name := "law", desc := "(II)I" } : Jvm.MethodName)) ∈ lw_all := lw_g (lw_at lw_m7 105 rfl) rfl
theorem q1622 : (Jvm.Cond.methodLink "PublicanryLaw" (260 : Nat) ({ cls := "PublicanryLaw", name := "ofCompany", desc := "(LPublicanry;IILPublicanryLaw$Out;)I" } : Jvm.MethodName)) ∈ lw_all := lw_g (lw_at lw_m7 109 rfl) rfl
theorem q1623 : (Jvm.Cond.static ({ cls := "PublicanryLaw", name := "ofCompany", desc := "(LPublicanry;IILPublicanryLaw$Out;)I" } : Jvm.MethodName)) ∈ lw_all := lw_g (lw_at lw_m7 110 rfl) rfl
theorem q1624 : (Jvm.Cond.codeWith ({ cls := "PublicanryLaw", name := "ofCompany", desc := "(LPublicanry;IILPublicanryLaw$Out;)I" } : Jvm.MethodName) method_29_code (5 : Nat) (Option.some Jvm.ClassFile.FieldType.int) [((0 : Nat), (11 : Nat), (14 : Nat), (27 : Nat)), ((0 : Nat), (11 : Nat), (18 : Nat), (19 : Nat))]) ∈ lw_all := lw_g (lw_at lw_m7 111 rfl) rfl
theorem q1625 : (Jvm.Cond.methodLink "PublicanryLaw" (108 : Nat) ({ cls := "Publicanry", name := "ofCompany", desc := "(II)I" } : Jvm.MethodName)) ∈ lw_all := lw_g (lw_at lw_m7 112 rfl) rfl
theorem q1629 : (Jvm.Cond.methodLink "PublicanryLaw" (263 : Nat) ({ cls := "PublicanryLaw", name := "partner", desc := "(LPublicanry;IIZLPublicanryLaw$Out;)I" } : Jvm.MethodName)) ∈ lw_all := lw_g (lw_at lw_m7 116 rfl) rfl
theorem q1630 : (Jvm.Cond.static ({ cls := "PublicanryLaw", name := "partner", desc := "(LPublicanry;IIZLPublicanryLaw$Out;)I" } : Jvm.MethodName)) ∈ lw_all := lw_g (lw_at lw_m7 117 rfl) rfl
theorem q1631 : (Jvm.Cond.codeWith ({ cls := "PublicanryLaw", name := "partner", desc := "(LPublicanry;IIZLPublicanryLaw$Out;)I" } : Jvm.MethodName) method_30_code (6 : Nat) (Option.some Jvm.ClassFile.FieldType.int) [((0 : Nat), (13 : Nat), (16 : Nat), (27 : Nat))]) ∈ lw_all := lw_g (lw_at lw_m7 118 rfl) rfl
theorem q1632 : (Jvm.Cond.methodLink "PublicanryLaw" (111 : Nat) ({ cls := "Publicanry", name := "partner", desc := "(IIZ)I" } : Jvm.MethodName)) ∈ lw_all := lw_g (lw_at lw_m7 119 rfl) rfl
theorem q1637 : (Jvm.Cond.methodLink "PublicanryLaw" (266 : Nat) ({ cls := "PublicanryLaw", name := "ofLot", desc := "(LPublicanry;IILPublicanryLaw$Out;)I" } : Jvm.MethodName)) ∈ lw_all := lw_g (lw_at lw_m7 124 rfl) rfl
theorem q1638 : (Jvm.Cond.static ({ cls := "PublicanryLaw", name := "ofLot", desc := "(LPublicanry;IILPublicanryLaw$Out;)I" } : Jvm.MethodName)) ∈ lw_all := lw_g (lw_at lw_m7 125 rfl) rfl
theorem q1639 : (Jvm.Cond.codeWith ({ cls := "PublicanryLaw", name := "ofLot", desc := "(LPublicanry;IILPublicanryLaw$Out;)I" } : Jvm.MethodName) method_31_code (5 : Nat) (Option.some Jvm.ClassFile.FieldType.int) [((0 : Nat), (11 : Nat), (14 : Nat), (27 : Nat)), ((0 : Nat), (11 : Nat), (18 : Nat), (19 : Nat))]) ∈ lw_all := lw_g (lw_at lw_m7 126 rfl) rfl
theorem q1640 : (Jvm.Cond.methodLink "PublicanryLaw" (114 : Nat) ({ cls := "Publicanry", name := "ofLot", desc := "(II)I" } : Jvm.MethodName)) ∈ lw_all := lw_g (lw_at lw_m7 127 rfl) rfl
theorem q1644 : (Jvm.Cond.methodLink "PublicanryLaw" (269 : Nat) ({ cls := "PublicanryLaw", name := "land", desc := "(LPublicanry;ILPublicanryLaw$Out;)I" } : Jvm.MethodName)) ∈ lw_all := lw_g (lw_at lw_m7 131 rfl) rfl
theorem q1645 : (Jvm.Cond.static ({ cls := "PublicanryLaw", name := "land", desc := "(LPublicanry;ILPublicanryLaw$Out;)I" } : Jvm.MethodName)) ∈ lw_all := lw_g (lw_at lw_m7 132 rfl) rfl
theorem q1646 : (Jvm.Cond.codeWith ({ cls := "PublicanryLaw", name := "land", desc := "(LPublicanry;ILPublicanryLaw$Out;)I" } : Jvm.MethodName) method_32_code (4 : Nat) (Option.some Jvm.ClassFile.FieldType.int) [((0 : Nat), (10 : Nat), (13 : Nat), (19 : Nat))]) ∈ lw_all := lw_g (lw_at lw_m7 133 rfl) rfl
theorem q1647 : (Jvm.Cond.methodLink "PublicanryLaw" (117 : Nat) ({ cls := "Publicanry", name := "land", desc := "(I)I" } : Jvm.MethodName)) ∈ lw_all := lw_g (lw_at lw_m7 134 rfl) rfl
theorem q1651 : (Jvm.Cond.methodLink "PublicanryLaw" (272 : Nat) ({ cls := "PublicanryLaw", name := "tell", desc := "(LPublicanry;ILPublicanryLaw$Out;)I" } : Jvm.MethodName)) ∈ lw_all := lw_g (lw_at lw_m7 138 rfl) rfl
theorem q1652 : (Jvm.Cond.static ({ cls := "PublicanryLaw", name := "tell", desc := "(LPublicanry;ILPublicanryLaw$Out;)I" } : Jvm.MethodName)) ∈ lw_all := lw_g (lw_at lw_m7 139 rfl) rfl
theorem q1653 : (Jvm.Cond.codeWith ({ cls := "PublicanryLaw", name := "tell", desc := "(LPublicanry;ILPublicanryLaw$Out;)I" } : Jvm.MethodName) method_33_code (4 : Nat) (Option.some Jvm.ClassFile.FieldType.int) [((0 : Nat), (9 : Nat), (12 : Nat), (27 : Nat))]) ∈ lw_all := lw_g (lw_at lw_m7 140 rfl) rfl
theorem q1654 : (Jvm.Cond.methodLink "PublicanryLaw" (120 : Nat) ({ cls := "Publicanry", name := "tell", desc := "(I)Ljava/lang/String;" } : Jvm.MethodName)) ∈ lw_all := lw_g (lw_at lw_m7 141 rfl) rfl
theorem q1885 : (Jvm.Cond.methodLink "PublicanryLaw" (281 : Nat) ({ cls := "PublicanryLaw", name := "gain", desc := "(LPublicanry;ILPublicanryLaw$Out;)I" } : Jvm.MethodName)) ∈ lw_all := lw_g (lw_at lw_m8 132 rfl) rfl
theorem q1886 : (Jvm.Cond.static ({ cls := "PublicanryLaw", name := "gain", desc := "(LPublicanry;ILPublicanryLaw$Out;)I" } : Jvm.MethodName)) ∈ lw_all := lw_g (lw_at lw_m8 133 rfl) rfl
theorem q1887 : (Jvm.Cond.codeWith ({ cls := "PublicanryLaw", name := "gain", desc := "(LPublicanry;ILPublicanryLaw$Out;)I" } : Jvm.MethodName) method_34_code (4 : Nat) (Option.some Jvm.ClassFile.FieldType.int) [((0 : Nat), (9 : Nat), (12 : Nat), (27 : Nat))]) ∈ lw_all := lw_g (lw_at lw_m8 134 rfl) rfl
theorem q1888 : (Jvm.Cond.methodLink "PublicanryLaw" (128 : Nat) ({ cls := "Publicanry", name := "gain", desc := "(I)D" } : Jvm.MethodName)) ∈ lw_all := lw_g (lw_at lw_m8 135 rfl) rfl
theorem q1892 : (Jvm.Cond.methodLink "PublicanryLaw" (284 : Nat) ({ cls := "PublicanryLaw", name := "wouldBring", desc := "(LPublicanry;IILPublicanryLaw$Out;)I" } : Jvm.MethodName)) ∈ lw_all := lw_g (lw_at lw_m8 139 rfl) rfl
theorem q1893 : (Jvm.Cond.static ({ cls := "PublicanryLaw", name := "wouldBring", desc := "(LPublicanry;IILPublicanryLaw$Out;)I" } : Jvm.MethodName)) ∈ lw_all := lw_g (lw_at lw_m8 140 rfl) rfl
theorem q1894 : (Jvm.Cond.codeWith ({ cls := "PublicanryLaw", name := "wouldBring", desc := "(LPublicanry;IILPublicanryLaw$Out;)I" } : Jvm.MethodName) method_35_code (5 : Nat) (Option.some Jvm.ClassFile.FieldType.int) [((0 : Nat), (11 : Nat), (14 : Nat), (27 : Nat)), ((0 : Nat), (11 : Nat), (18 : Nat), (19 : Nat))]) ∈ lw_all := lw_g (lw_at lw_m8 141 rfl) rfl
theorem q1895 : (Jvm.Cond.methodLink "PublicanryLaw" (136 : Nat) ({ cls := "Publicanry", name := "wouldBring", desc := "(II)I" } : Jvm.MethodName)) ∈ lw_all := lw_g (lw_at lw_m8 142 rfl) rfl
theorem q1899 : (Jvm.Cond.methodLink "PublicanryLaw" (287 : Nat) ({ cls := "PublicanryLaw", name := "bestForce", desc := "(LPublicanry;ILPublicanryLaw$Out;)I" } : Jvm.MethodName)) ∈ lw_all := lw_g (lw_at lw_m8 146 rfl) rfl
theorem q1900 : (Jvm.Cond.static ({ cls := "PublicanryLaw", name := "bestForce", desc := "(LPublicanry;ILPublicanryLaw$Out;)I" } : Jvm.MethodName)) ∈ lw_all := lw_g (lw_at lw_m8 147 rfl) rfl
theorem q1901 : (Jvm.Cond.codeWith ({ cls := "PublicanryLaw", name := "bestForce", desc := "(LPublicanry;ILPublicanryLaw$Out;)I" } : Jvm.MethodName) method_36_code (4 : Nat) (Option.some Jvm.ClassFile.FieldType.int) [((0 : Nat), (10 : Nat), (13 : Nat), (27 : Nat))]) ∈ lw_all := lw_g (lw_at lw_m8 148 rfl) rfl
theorem q1902 : (Jvm.Cond.methodLink "PublicanryLaw" (139 : Nat) ({ cls := "Publicanry", name := "bestForce", desc := "(I)I" } : Jvm.MethodName)) ∈ lw_all := lw_g (lw_at lw_m8 149 rfl) rfl
theorem q1906 : (Jvm.Cond.methodLink "PublicanryLaw" (290 : Nat) ({ cls := "PublicanryLaw", name := "votes", desc := "(LPublicanry;IIIILPublicanryLaw$Out;)I" } : Jvm.MethodName)) ∈ lw_all := lw_g (lw_at lw_m8 153 rfl) rfl
theorem q1907 : (Jvm.Cond.static ({ cls := "PublicanryLaw", name := "votes", desc := "(LPublicanry;IIIILPublicanryLaw$Out;)I" } : Jvm.MethodName)) ∈ lw_all := lw_g (lw_at lw_m8 154 rfl) rfl
theorem q1908 : (Jvm.Cond.codeWith ({ cls := "PublicanryLaw", name := "votes", desc := "(LPublicanry;IIIILPublicanryLaw$Out;)I" } : Jvm.MethodName) method_37_code (7 : Nat) (Option.some Jvm.ClassFile.FieldType.int) [((0 : Nat), (15 : Nat), (18 : Nat), (27 : Nat)), ((0 : Nat), (15 : Nat), (22 : Nat), (19 : Nat))]) ∈ lw_all := lw_g (lw_at lw_m8 155 rfl) rfl
theorem q1909 : (Jvm.Cond.methodLink "PublicanryLaw" (142 : Nat) ({ cls := "Publicanry", name := "votes", desc := "(IIII)I" } : Jvm.MethodName)) ∈ lw_all := lw_g (lw_at lw_m8 156 rfl) rfl
theorem q1914 : (Jvm.Cond.methodLink "PublicanryLaw" (293 : Nat) ({ cls := "PublicanryLaw", name := "harvest", desc := "(LPublicanry;IILPublicanryLaw$Out;)I" } : Jvm.MethodName)) ∈ lw_all := lw_g (lw_at lw_m8 161 rfl) rfl
theorem q1915 : (Jvm.Cond.static ({ cls := "PublicanryLaw", name := "harvest", desc := "(LPublicanry;IILPublicanryLaw$Out;)I" } : Jvm.MethodName)) ∈ lw_all := lw_g (lw_at lw_m8 162 rfl) rfl
theorem q1916 : (Jvm.Cond.codeWith ({ cls := "PublicanryLaw", name := "harvest", desc := "(LPublicanry;IILPublicanryLaw$Out;)I" } : Jvm.MethodName) method_38_code (5 : Nat) (Option.some Jvm.ClassFile.FieldType.int) [((0 : Nat), (11 : Nat), (14 : Nat), (27 : Nat)), ((0 : Nat), (11 : Nat), (18 : Nat), (19 : Nat))]) ∈ lw_all := lw_g (lw_at lw_m8 163 rfl) rfl
theorem q1917 : (Jvm.Cond.methodLink "PublicanryLaw" (145 : Nat) ({ cls := "Publicanry", name := "harvest", desc := "(II)I" } : Jvm.MethodName)) ∈ lw_all := lw_g (lw_at lw_m8 164 rfl) rfl
theorem q1923 : (Jvm.Cond.methodLink "PublicanryLaw" (296 : Nat) ({ cls := "PublicanryLaw", name := "direct", desc := "(LPublicanry;ILPublicanryLaw$Out;)I" } : Jvm.MethodName)) ∈ lw_all := lw_g (lw_at lw_m8 170 rfl) rfl
theorem q1924 : (Jvm.Cond.static ({ cls := "PublicanryLaw", name := "direct", desc := "(LPublicanry;ILPublicanryLaw$Out;)I" } : Jvm.MethodName)) ∈ lw_all := lw_g (lw_at lw_m8 171 rfl) rfl
theorem q1925 : (Jvm.Cond.codeWith ({ cls := "PublicanryLaw", name := "direct", desc := "(LPublicanry;ILPublicanryLaw$Out;)I" } : Jvm.MethodName) method_39_code (4 : Nat) (Option.some Jvm.ClassFile.FieldType.int) [((0 : Nat), (10 : Nat), (13 : Nat), (27 : Nat))]) ∈ lw_all := lw_g (lw_at lw_m8 172 rfl) rfl
theorem q1926 : (Jvm.Cond.methodLink "PublicanryLaw" (148 : Nat) ({ cls := "Publicanry", name := "direct", desc := "(I)I" } : Jvm.MethodName)) ∈ lw_all := lw_g (lw_at lw_m8 173 rfl) rfl
theorem q1930 : (Jvm.Cond.methodLink "PublicanryLaw" (299 : Nat) ({ cls := "PublicanryLaw", name := "wouldWin", desc := "(LPublicanry;ILPublicanryLaw$Out;)I" } : Jvm.MethodName)) ∈ lw_all := lw_g (lw_at lw_m8 177 rfl) rfl
theorem q1931 : (Jvm.Cond.static ({ cls := "PublicanryLaw", name := "wouldWin", desc := "(LPublicanry;ILPublicanryLaw$Out;)I" } : Jvm.MethodName)) ∈ lw_all := lw_g (lw_at lw_m8 178 rfl) rfl
theorem q1932 : (Jvm.Cond.codeWith ({ cls := "PublicanryLaw", name := "wouldWin", desc := "(LPublicanry;ILPublicanryLaw$Out;)I" } : Jvm.MethodName) method_40_code (4 : Nat) (Option.some Jvm.ClassFile.FieldType.int) [((0 : Nat), (10 : Nat), (13 : Nat), (27 : Nat)), ((0 : Nat), (10 : Nat), (16 : Nat), (21 : Nat))]) ∈ lw_all := lw_g (lw_at lw_m8 179 rfl) rfl
theorem q1933 : (Jvm.Cond.methodLink "PublicanryLaw" (151 : Nat) ({ cls := "Publicanry", name := "wouldWin", desc := "(I)I" } : Jvm.MethodName)) ∈ lw_all := lw_g (lw_at lw_m8 180 rfl) rfl
theorem q1937 : (Jvm.Cond.classLink "PublicanryLaw" (155 : Nat) "PublicanryModel") ∈ lw_all := lw_g (lw_at lw_m8 184 rfl) rfl
theorem q1939 : (Jvm.Cond.methodLink "PublicanryLaw" (157 : Nat) ({ cls := "PublicanryModel", name := "<init>", desc := "()V" } : Jvm.MethodName)) ∈ lw_all := lw_g (lw_at lw_m8 186 rfl) rfl
theorem q2012 : (Jvm.Cond.methodLink "PublicanryLaw" (165 : Nat) ({ cls := "PublicanryModel", name := "thrown", desc := "()I" } : Jvm.MethodName)) ∈ lw_all := lw_g (lw_at lw_m9 19 rfl) rfl
theorem q2016 : (Jvm.Cond.methodLink "PublicanryLaw" (164 : Nat) ({ cls := "PublicanryModel", name := "village", desc := "(IIII)I" } : Jvm.MethodName)) ∈ lw_all := lw_g (lw_at lw_m9 23 rfl) rfl
theorem q2105 : (Jvm.Cond.methodLink "PublicanryLaw" (172 : Nat) ({ cls := "PublicanryModel", name := "clear", desc := "(II)I" } : Jvm.MethodName)) ∈ lw_all := lw_g (lw_at lw_m9 112 rfl) rfl
theorem q2114 : (Jvm.Cond.methodLink "PublicanryLaw" (176 : Nat) ({ cls := "PublicanryModel", name := "survey", desc := "(I)I" } : Jvm.MethodName)) ∈ lw_all := lw_g (lw_at lw_m9 121 rfl) rfl
theorem q2122 : (Jvm.Cond.methodLink "PublicanryLaw" (179 : Nat) ({ cls := "PublicanryModel", name := "war", desc := "(I)I" } : Jvm.MethodName)) ∈ lw_all := lw_g (lw_at lw_m9 129 rfl) rfl
theorem q2126 : (Jvm.Cond.methodLink "PublicanryLaw" (183 : Nat) ({ cls := "PublicanryModel", name := "edict", desc := "(III)I" } : Jvm.MethodName)) ∈ lw_all := lw_g (lw_at lw_m9 133 rfl) rfl
theorem q2133 : (Jvm.Cond.methodLink "PublicanryLaw" (186 : Nat) ({ cls := "PublicanryModel", name := "cut", desc := "(I)I" } : Jvm.MethodName)) ∈ lw_all := lw_g (lw_at lw_m9 140 rfl) rfl
theorem q2137 : (Jvm.Cond.methodLink "PublicanryLaw" (189 : Nat) ({ cls := "PublicanryModel", name := "company", desc := "(II)I" } : Jvm.MethodName)) ∈ lw_all := lw_g (lw_at lw_m9 144 rfl) rfl
theorem q2185 : (Jvm.Cond.methodLink "PublicanryLaw" (192 : Nat) ({ cls := "PublicanryModel", name := "join", desc := "(II)I" } : Jvm.MethodName)) ∈ lw_all := lw_g (lw_at lw_m9 192 rfl) rfl
theorem q2213 : (Jvm.Cond.methodLink "PublicanryLaw" (195 : Nat) ({ cls := "PublicanryModel", name := "shareOut", desc := "(II)I" } : Jvm.MethodName)) ∈ lw_all := lw_g (lw_at lw_m9 220 rfl) rfl
theorem q2236 : (Jvm.Cond.methodLink "PublicanryLaw" (198 : Nat) ({ cls := "PublicanryModel", name := "ring", desc := "(II)I" } : Jvm.MethodName)) ∈ lw_all := lw_g (lw_at lw_m10 3 rfl) rfl
theorem q2240 : (Jvm.Cond.methodLink "PublicanryLaw" (201 : Nat) ({ cls := "PublicanryModel", name := "lot", desc := "(IIII)I" } : Jvm.MethodName)) ∈ lw_all := lw_g (lw_at lw_m10 7 rfl) rfl
theorem q2304 : (Jvm.Cond.methodLink "PublicanryLaw" (204 : Nat) ({ cls := "PublicanryModel", name := "bid", desc := "(III)I" } : Jvm.MethodName)) ∈ lw_all := lw_g (lw_at lw_m10 71 rfl) rfl
theorem q2324 : (Jvm.Cond.methodLink "PublicanryLaw" (207 : Nat) ({ cls := "PublicanryModel", name := "award", desc := "(I)I" } : Jvm.MethodName)) ∈ lw_all := lw_g (lw_at lw_m10 91 rfl) rfl
theorem q2340 : (Jvm.Cond.methodLink "PublicanryLaw" (210 : Nat) ({ cls := "PublicanryModel", name := "force", desc := "(II)I" } : Jvm.MethodName)) ∈ lw_all := lw_g (lw_at lw_m10 107 rfl) rfl
theorem q2344 : (Jvm.Cond.methodLink "PublicanryLaw" (213 : Nat) ({ cls := "PublicanryModel", name := "letOn", desc := "(III)I" } : Jvm.MethodName)) ∈ lw_all := lw_g (lw_at lw_m10 111 rfl) rfl
theorem q2351 : (Jvm.Cond.methodLink "PublicanryLaw" (216 : Nat) ({ cls := "PublicanryModel", name := "deliver", desc := "(II)I" } : Jvm.MethodName)) ∈ lw_all := lw_g (lw_at lw_m10 118 rfl) rfl
theorem q2355 : (Jvm.Cond.methodLink "PublicanryLaw" (219 : Nat) ({ cls := "PublicanryModel", name := "sue", desc := "(II)I" } : Jvm.MethodName)) ∈ lw_all := lw_g (lw_at lw_m10 122 rfl) rfl
theorem q2373 : (Jvm.Cond.methodLink "PublicanryLaw" (222 : Nat) ({ cls := "PublicanryModel", name := "bench", desc := "(I)I" } : Jvm.MethodName)) ∈ lw_all := lw_g (lw_at lw_m10 140 rfl) rfl
theorem q2377 : (Jvm.Cond.methodLink "PublicanryLaw" (225 : Nat) ({ cls := "PublicanryModel", name := "gift", desc := "(II)I" } : Jvm.MethodName)) ∈ lw_all := lw_g (lw_at lw_m10 144 rfl) rfl
theorem q2381 : (Jvm.Cond.methodLink "PublicanryLaw" (228 : Nat) ({ cls := "PublicanryModel", name := "quarter", desc := "(I)I" } : Jvm.MethodName)) ∈ lw_all := lw_g (lw_at lw_m10 148 rfl) rfl
theorem q2385 : (Jvm.Cond.methodLink "PublicanryLaw" (231 : Nat) ({ cls := "PublicanryModel", name := "remit", desc := "(I)I" } : Jvm.MethodName)) ∈ lw_all := lw_g (lw_at lw_m10 152 rfl) rfl
theorem q2389 : (Jvm.Cond.methodLink "PublicanryLaw" (235 : Nat) ({ cls := "PublicanryModel", name := "recall", desc := "()I" } : Jvm.MethodName)) ∈ lw_all := lw_g (lw_at lw_m10 156 rfl) rfl
theorem q2393 : (Jvm.Cond.methodLink "PublicanryLaw" (239 : Nat) ({ cls := "PublicanryModel", name := "clerks", desc := "(IZ)Z" } : Jvm.MethodName)) ∈ lw_all := lw_g (lw_at lw_m10 160 rfl) rfl
theorem q2397 : (Jvm.Cond.methodLink "PublicanryLaw" (242 : Nat) ({ cls := "PublicanryModel", name := "pass", desc := "(I)I" } : Jvm.MethodName)) ∈ lw_all := lw_g (lw_at lw_m10 164 rfl) rfl
theorem q2502 : (Jvm.Cond.methodLink "PublicanryLaw" (246 : Nat) ({ cls := "PublicanryModel", name := "call", desc := "()I" } : Jvm.MethodName)) ∈ lw_all := lw_g (lw_at lw_m11 29 rfl) rfl
theorem q2506 : (Jvm.Cond.methodLink "PublicanryLaw" (249 : Nat) ({ cls := "PublicanryModel", name := "ofVillage", desc := "(II)I" } : Jvm.MethodName)) ∈ lw_all := lw_g (lw_at lw_m11 33 rfl) rfl
theorem q2514 : (Jvm.Cond.methodLink "PublicanryLaw" (253 : Nat) ({ cls := "PublicanryModel", name := "due", desc := "(IIZ)I" } : Jvm.MethodName)) ∈ lw_all := lw_g (lw_at lw_m11 41 rfl) rfl
theorem q2518 : (Jvm.Cond.methodLink "PublicanryLaw" (256 : Nat) ({ cls := "PublicanryModel", name := "levy", desc := "(III)I" } : Jvm.MethodName)) ∈ lw_all := lw_g (lw_at lw_m11 45 rfl) rfl
theorem q2526 : (Jvm.Cond.methodLink "PublicanryLaw" (259 : Nat) ({ cls := "PublicanryModel", name := "law", desc := "(II)I" } : Jvm.MethodName)) ∈ lw_all := lw_g (lw_at lw_m11 53 rfl) rfl
theorem q2534 : (Jvm.Cond.methodLink "PublicanryLaw" (262 : Nat) ({ cls := "PublicanryModel", name := "ofCompany", desc := "(II)I" } : Jvm.MethodName)) ∈ lw_all := lw_g (lw_at lw_m11 61 rfl) rfl
theorem q2542 : (Jvm.Cond.methodLink "PublicanryLaw" (265 : Nat) ({ cls := "PublicanryModel", name := "partner", desc := "(IIZ)I" } : Jvm.MethodName)) ∈ lw_all := lw_g (lw_at lw_m11 69 rfl) rfl
theorem q2546 : (Jvm.Cond.methodLink "PublicanryLaw" (268 : Nat) ({ cls := "PublicanryModel", name := "ofLot", desc := "(II)I" } : Jvm.MethodName)) ∈ lw_all := lw_g (lw_at lw_m11 73 rfl) rfl
theorem q2554 : (Jvm.Cond.methodLink "PublicanryLaw" (271 : Nat) ({ cls := "PublicanryModel", name := "land", desc := "(I)I" } : Jvm.MethodName)) ∈ lw_all := lw_g (lw_at lw_m11 81 rfl) rfl
theorem q2562 : (Jvm.Cond.methodLink "PublicanryLaw" (274 : Nat) ({ cls := "PublicanryModel", name := "tell", desc := "(I)Ljava/lang/String;" } : Jvm.MethodName)) ∈ lw_all := lw_g (lw_at lw_m11 89 rfl) rfl
theorem q2577 : (Jvm.Cond.methodLink "PublicanryLaw" (283 : Nat) ({ cls := "PublicanryModel", name := "gain", desc := "(I)D" } : Jvm.MethodName)) ∈ lw_all := lw_g (lw_at lw_m11 104 rfl) rfl
theorem q2585 : (Jvm.Cond.methodLink "PublicanryLaw" (286 : Nat) ({ cls := "PublicanryModel", name := "wouldBring", desc := "(II)I" } : Jvm.MethodName)) ∈ lw_all := lw_g (lw_at lw_m11 112 rfl) rfl
theorem q2593 : (Jvm.Cond.methodLink "PublicanryLaw" (289 : Nat) ({ cls := "PublicanryModel", name := "bestForce", desc := "(I)I" } : Jvm.MethodName)) ∈ lw_all := lw_g (lw_at lw_m11 120 rfl) rfl
theorem q2601 : (Jvm.Cond.methodLink "PublicanryLaw" (292 : Nat) ({ cls := "PublicanryModel", name := "votes", desc := "(IIII)I" } : Jvm.MethodName)) ∈ lw_all := lw_g (lw_at lw_m11 128 rfl) rfl
theorem q2605 : (Jvm.Cond.methodLink "PublicanryLaw" (295 : Nat) ({ cls := "PublicanryModel", name := "harvest", desc := "(II)I" } : Jvm.MethodName)) ∈ lw_all := lw_g (lw_at lw_m11 132 rfl) rfl
theorem q2609 : (Jvm.Cond.methodLink "PublicanryLaw" (298 : Nat) ({ cls := "PublicanryModel", name := "direct", desc := "(I)I" } : Jvm.MethodName)) ∈ lw_all := lw_g (lw_at lw_m11 136 rfl) rfl
theorem q2617 : (Jvm.Cond.methodLink "PublicanryLaw" (301 : Nat) ({ cls := "PublicanryModel", name := "wouldWin", desc := "(I)I" } : Jvm.MethodName)) ∈ lw_all := lw_g (lw_at lw_m11 144 rfl) rfl
theorem q2621 : (Jvm.Cond.methodLink "PublicanryLaw" (306 : Nat) ({ cls := "PublicanryModel", name := "isSound", desc := "()Z" } : Jvm.MethodName)) ∈ lw_all := lw_g (lw_at lw_m11 148 rfl) rfl
theorem q2629 : (Jvm.Cond.methodLink "PublicanryLaw" (311 : Nat) ({ cls := "PublicanryModel", name := "digest", desc := "()J" } : Jvm.MethodName)) ∈ lw_all := lw_g (lw_at lw_m11 156 rfl) rfl
theorem q2636 : (Jvm.Cond.methodLink "PublicanryLaw" (275 : Nat) ({ cls := "java/lang/String", name := "equals", desc := "(Ljava/lang/Object;)Z" } : Jvm.MethodName)) ∈ lw_all := lw_g (lw_at lw_m11 163 rfl) rfl
/-! the law's own entry -/
set_option maxRecDepth 100000
abbrev cL_law : ByteArray := code
def dkwL_law_123 : List UInt8 := [148, 153, 0, 5, 3, 172, 132, 4, 5, 167, 244, 73, 4, 172]
abbrev dktL_law_123 : List UInt8 := dkwL_law_123 ++ []
def dkwL_law_122 : List UInt8 := [167, 0, 30, 43, 182, 1, 46, 44, 182, 1, 50, 159, 0, 19, 3, 172, 43, 182, 1, 51, 44, 182, 1, 55]
abbrev dktL_law_122 : List UInt8 := dkwL_law_122 ++ dktL_law_123
def dkwL_law_121 : List UInt8 := [159, 0, 5, 3, 172, 21, 5, 154, 0, 16, 45, 180, 0, 13, 21, 6, 133, 148, 153, 0, 5, 3, 172]
abbrev dktL_law_121 : List UInt8 := dkwL_law_121 ++ dktL_law_122
def dkwL_law_120 : List UInt8 := [184, 1, 43, 54, 5, 44, 42, 21, 4, 4, 96, 46, 182, 1, 45, 54, 6, 44, 182, 0, 165, 21, 5]
abbrev dktL_law_120 : List UInt8 := dkwL_law_120 ++ dktL_law_121
def dkwL_law_119 : List UInt8 := [180, 0, 13, 21, 6, 133, 148, 153, 0, 5, 3, 172, 167, 0, 87, 43, 42, 21, 4, 4, 96, 46, 45]
abbrev dktL_law_119 : List UInt8 := dkwL_law_119 ++ dktL_law_120
def dkwL_law_118 : List UInt8 := [182, 1, 42, 54, 6, 44, 182, 0, 165, 21, 5, 159, 0, 5, 3, 172, 21, 5, 154, 0, 16, 45]
abbrev dktL_law_118 : List UInt8 := dkwL_law_118 ++ dktL_law_119
def dkwL_law_117 : List UInt8 := [167, 0, 144, 43, 42, 21, 4, 4, 96, 46, 45, 184, 1, 40, 54, 5, 44, 42, 21, 4, 4, 96, 46]
abbrev dktL_law_117 : List UInt8 := dkwL_law_117 ++ dktL_law_118
def dkwL_law_116 : List UInt8 := [159, 0, 5, 3, 172, 21, 5, 154, 0, 16, 45, 180, 0, 13, 21, 6, 133, 148, 153, 0, 5, 3, 172]
abbrev dktL_law_116 : List UInt8 := dkwL_law_116 ++ dktL_law_117
def dkwL_law_115 : List UInt8 := [21, 4, 4, 96, 46, 42, 21, 4, 5, 96, 46, 182, 1, 39, 54, 6, 44, 182, 0, 165, 21, 5]
abbrev dktL_law_115 : List UInt8 := dkwL_law_115 ++ dktL_law_116
def dkwL_law_114 : List UInt8 := [167, 0, 213, 43, 42, 21, 4, 4, 96, 46, 42, 21, 4, 5, 96, 46, 45, 184, 1, 37, 54, 5, 44, 42]
abbrev dktL_law_114 : List UInt8 := dkwL_law_114 ++ dktL_law_115
def dkwL_law_113 : List UInt8 := [159, 0, 5, 3, 172, 21, 5, 154, 0, 16, 45, 180, 0, 13, 21, 6, 133, 148, 153, 0, 5, 3, 172]
abbrev dktL_law_113 : List UInt8 := dkwL_law_113 ++ dktL_law_114
def dkwL_law_112 : List UInt8 := [42, 21, 4, 6, 96, 46, 42, 21, 4, 7, 96, 46, 182, 1, 36, 54, 6, 44, 182, 0, 165, 21, 5]
abbrev dktL_law_112 : List UInt8 := dkwL_law_112 ++ dktL_law_113
def dkwL_law_111 : List UInt8 := [21, 4, 7, 96, 46, 45, 184, 1, 34, 54, 5, 44, 42, 21, 4, 4, 96, 46, 42, 21, 4, 5, 96, 46]
abbrev dktL_law_111 : List UInt8 := dkwL_law_111 ++ dktL_law_112
def dkwL_law_110 : List UInt8 := [172, 167, 1, 50, 43, 42, 21, 4, 4, 96, 46, 42, 21, 4, 5, 96, 46, 42, 21, 4, 6, 96, 46, 42]
abbrev dktL_law_110 : List UInt8 := dkwL_law_110 ++ dktL_law_111
def dkwL_law_109 : List UInt8 := [21, 5, 159, 0, 5, 3, 172, 21, 5, 154, 0, 16, 45, 180, 0, 13, 21, 6, 133, 148, 153, 0, 5, 3]
abbrev dktL_law_109 : List UInt8 := dkwL_law_109 ++ dktL_law_110
def dkwL_law_108 : List UInt8 := [96, 46, 45, 184, 1, 31, 54, 5, 44, 42, 21, 4, 4, 96, 46, 182, 1, 33, 54, 6, 44, 182, 0, 165]
abbrev dktL_law_108 : List UInt8 := dkwL_law_108 ++ dktL_law_109
def dkwL_law_107 : List UInt8 := [154, 0, 16, 45, 180, 0, 13, 21, 6, 133, 148, 153, 0, 5, 3, 172, 167, 1, 107, 43, 42, 21, 4, 4]
abbrev dktL_law_107 : List UInt8 := dkwL_law_107 ++ dktL_law_108
def dkwL_law_106 : List UInt8 := [42, 21, 4, 5, 96, 46, 182, 1, 30, 54, 6, 44, 182, 0, 165, 21, 5, 159, 0, 5, 3, 172, 21, 5]
abbrev dktL_law_106 : List UInt8 := dkwL_law_106 ++ dktL_law_107
def dkwL_law_105 : List UInt8 := [21, 4, 4, 96, 46, 42, 21, 4, 5, 96, 46, 45, 184, 1, 28, 54, 5, 44, 42, 21, 4, 4, 96, 46]
abbrev dktL_law_105 : List UInt8 := dkwL_law_105 ++ dktL_law_106
def dkwL_law_104 : List UInt8 := [45, 180, 0, 132, 151, 153, 0, 11, 24, 6, 24, 6, 151, 154, 0, 5, 3, 172, 167, 1, 176, 43, 42]
abbrev dktL_law_104 : List UInt8 := dkwL_law_104 ++ dktL_law_105
def dkwL_law_103 : List UInt8 := [159, 0, 5, 3, 172, 21, 5, 154, 0, 35, 45, 180, 0, 132, 24, 6, 151, 153, 0, 25, 45, 180, 0, 132]
abbrev dktL_law_103 : List UInt8 := dkwL_law_103 ++ dktL_law_104
def dkwL_law_102 : List UInt8 := [184, 1, 25, 54, 5, 44, 42, 21, 4, 4, 96, 46, 182, 1, 27, 57, 6, 44, 182, 0, 165, 21, 5]
abbrev dktL_law_102 : List UInt8 := dkwL_law_102 ++ dktL_law_103
def dkwL_law_101 : List UInt8 := [180, 0, 124, 25, 6, 182, 1, 19, 154, 0, 5, 3, 172, 167, 1, 252, 43, 42, 21, 4, 4, 96, 46, 45]
abbrev dktL_law_101 : List UInt8 := dkwL_law_101 ++ dktL_law_102
def dkwL_law_100 : List UInt8 := [182, 1, 18, 58, 6, 44, 182, 0, 165, 21, 5, 159, 0, 5, 3, 172, 21, 5, 154, 0, 17, 45]
abbrev dktL_law_100 : List UInt8 := dkwL_law_100 ++ dktL_law_101
def dkwL_law_99 : List UInt8 := [167, 2, 54, 43, 42, 21, 4, 4, 96, 46, 45, 184, 1, 16, 54, 5, 44, 42, 21, 4, 4, 96, 46]
abbrev dktL_law_99 : List UInt8 := dkwL_law_99 ++ dktL_law_100
def dkwL_law_98 : List UInt8 := [159, 0, 5, 3, 172, 21, 5, 154, 0, 16, 45, 180, 0, 13, 21, 6, 133, 148, 153, 0, 5, 3, 172]
abbrev dktL_law_98 : List UInt8 := dkwL_law_98 ++ dktL_law_99
def dkwL_law_97 : List UInt8 := [184, 1, 13, 54, 5, 44, 42, 21, 4, 4, 96, 46, 182, 1, 15, 54, 6, 44, 182, 0, 165, 21, 5]
abbrev dktL_law_97 : List UInt8 := dkwL_law_97 ++ dktL_law_98
def dkwL_law_96 : List UInt8 := [45, 180, 0, 13, 21, 6, 133, 148, 153, 0, 5, 3, 172, 167, 2, 111, 43, 42, 21, 4, 4, 96, 46, 45]
abbrev dktL_law_96 : List UInt8 := dkwL_law_96 ++ dktL_law_97
def dkwL_law_95 : List UInt8 := [5, 96, 46, 182, 1, 12, 54, 6, 44, 182, 0, 165, 21, 5, 159, 0, 5, 3, 172, 21, 5, 154, 0, 16]
abbrev dktL_law_95 : List UInt8 := dkwL_law_95 ++ dktL_law_96
def dkwL_law_94 : List UInt8 := [96, 46, 42, 21, 4, 5, 96, 46, 45, 184, 1, 10, 54, 5, 44, 42, 21, 4, 4, 96, 46, 42, 21, 4]
abbrev dktL_law_94 : List UInt8 := dkwL_law_94 ++ dktL_law_95
def dkwL_law_93 : List UInt8 := [154, 0, 16, 45, 180, 0, 13, 21, 6, 133, 148, 153, 0, 5, 3, 172, 167, 2, 180, 43, 42, 21, 4, 4]
abbrev dktL_law_93 : List UInt8 := dkwL_law_93 ++ dktL_law_94
def dkwL_law_92 : List UInt8 := [4, 167, 0, 4, 3, 182, 1, 9, 54, 6, 44, 182, 0, 165, 21, 5, 159, 0, 5, 3, 172, 21, 5]
abbrev dktL_law_92 : List UInt8 := dkwL_law_92 ++ dktL_law_93
def dkwL_law_91 : List UInt8 := [54, 5, 44, 42, 21, 4, 4, 96, 46, 42, 21, 4, 5, 96, 46, 42, 21, 4, 6, 96, 46, 153, 0, 7]
abbrev dktL_law_91 : List UInt8 := dkwL_law_91 ++ dktL_law_92
def dkwL_law_90 : List UInt8 := [21, 4, 5, 96, 46, 42, 21, 4, 6, 96, 46, 153, 0, 7, 4, 167, 0, 4, 3, 45, 184, 1, 7]
abbrev dktL_law_90 : List UInt8 := dkwL_law_90 ++ dktL_law_91
def dkwL_law_89 : List UInt8 := [180, 0, 13, 21, 6, 133, 148, 153, 0, 5, 3, 172, 167, 3, 21, 43, 42, 21, 4, 4, 96, 46, 42]
abbrev dktL_law_89 : List UInt8 := dkwL_law_89 ++ dktL_law_90
def dkwL_law_88 : List UInt8 := [182, 1, 6, 54, 6, 44, 182, 0, 165, 21, 5, 159, 0, 5, 3, 172, 21, 5, 154, 0, 16, 45]
abbrev dktL_law_88 : List UInt8 := dkwL_law_88 ++ dktL_law_89
def dkwL_law_87 : List UInt8 := [21, 4, 5, 96, 46, 45, 184, 1, 4, 54, 5, 44, 42, 21, 4, 4, 96, 46, 42, 21, 4, 5, 96, 46]
abbrev dktL_law_87 : List UInt8 := dkwL_law_87 ++ dktL_law_88
def dkwL_law_86 : List UInt8 := [45, 180, 0, 13, 21, 6, 133, 148, 153, 0, 5, 3, 172, 167, 3, 90, 43, 42, 21, 4, 4, 96, 46, 42]
abbrev dktL_law_86 : List UInt8 := dkwL_law_86 ++ dktL_law_87
def dkwL_law_85 : List UInt8 := [5, 96, 46, 182, 1, 3, 54, 6, 44, 182, 0, 165, 21, 5, 159, 0, 5, 3, 172, 21, 5, 154, 0, 16]
abbrev dktL_law_85 : List UInt8 := dkwL_law_85 ++ dktL_law_86
def dkwL_law_84 : List UInt8 := [96, 46, 42, 21, 4, 5, 96, 46, 45, 184, 1, 1, 54, 5, 44, 42, 21, 4, 4, 96, 46, 42, 21, 4]
abbrev dktL_law_84 : List UInt8 := dkwL_law_84 ++ dktL_law_85
def dkwL_law_83 : List UInt8 := [154, 0, 16, 45, 180, 0, 13, 21, 6, 133, 148, 153, 0, 5, 3, 172, 167, 3, 159, 43, 42, 21, 4, 4]
abbrev dktL_law_83 : List UInt8 := dkwL_law_83 ++ dktL_law_84
def dkwL_law_82 : List UInt8 := [21, 4, 6, 96, 46, 182, 1, 0, 54, 6, 44, 182, 0, 165, 21, 5, 159, 0, 5, 3, 172, 21, 5]
abbrev dktL_law_82 : List UInt8 := dkwL_law_82 ++ dktL_law_83
def dkwL_law_81 : List UInt8 := [6, 96, 46, 45, 184, 0, 254, 54, 5, 44, 42, 21, 4, 4, 96, 46, 42, 21, 4, 5, 96, 46, 42]
abbrev dktL_law_81 : List UInt8 := dkwL_law_81 ++ dktL_law_82
def dkwL_law_80 : List UInt8 := [153, 0, 5, 3, 172, 167, 3, 240, 43, 42, 21, 4, 4, 96, 46, 42, 21, 4, 5, 96, 46, 42, 21, 4]
abbrev dktL_law_80 : List UInt8 := dkwL_law_80 ++ dktL_law_81
def dkwL_law_79 : List UInt8 := [182, 0, 165, 21, 5, 159, 0, 5, 3, 172, 21, 5, 154, 0, 16, 45, 180, 0, 13, 21, 6, 133, 148]
abbrev dktL_law_79 : List UInt8 := dkwL_law_79 ++ dktL_law_80
def dkwL_law_78 : List UInt8 := [5, 96, 46, 42, 21, 4, 6, 96, 46, 153, 0, 7, 4, 167, 0, 4, 3, 182, 0, 253, 54, 6, 44]
abbrev dktL_law_78 : List UInt8 := dkwL_law_78 ++ dktL_law_79
def dkwL_law_77 : List UInt8 := [153, 0, 7, 4, 167, 0, 4, 3, 45, 184, 0, 250, 54, 5, 44, 42, 21, 4, 4, 96, 46, 42, 21, 4]
abbrev dktL_law_77 : List UInt8 := dkwL_law_77 ++ dktL_law_78
def dkwL_law_76 : List UInt8 := [167, 4, 81, 43, 42, 21, 4, 4, 96, 46, 42, 21, 4, 5, 96, 46, 42, 21, 4, 6, 96, 46]
abbrev dktL_law_76 : List UInt8 := dkwL_law_76 ++ dktL_law_77
def dkwL_law_75 : List UInt8 := [159, 0, 5, 3, 172, 21, 5, 154, 0, 16, 45, 180, 0, 13, 21, 6, 133, 148, 153, 0, 5, 3, 172]
abbrev dktL_law_75 : List UInt8 := dkwL_law_75 ++ dktL_law_76
def dkwL_law_74 : List UInt8 := [44, 42, 21, 4, 4, 96, 46, 42, 21, 4, 5, 96, 46, 182, 0, 249, 54, 6, 44, 182, 0, 165, 21, 5]
abbrev dktL_law_74 : List UInt8 := dkwL_law_74 ++ dktL_law_75
def dkwL_law_73 : List UInt8 := [159, 4, 152, 3, 172, 43, 42, 21, 4, 4, 96, 46, 42, 21, 4, 5, 96, 46, 45, 184, 0, 247, 54, 5]
abbrev dktL_law_73 : List UInt8 := dkwL_law_73 ++ dktL_law_74
def dkwL_law_72 : List UInt8 := [180, 0, 13, 21, 6, 133, 148, 153, 0, 5, 3, 172, 167, 4, 163, 43, 182, 0, 243, 44, 182, 0, 246]
abbrev dktL_law_72 : List UInt8 := dkwL_law_72 ++ dktL_law_73
def dkwL_law_71 : List UInt8 := [182, 0, 242, 54, 6, 44, 182, 0, 165, 21, 5, 159, 0, 5, 3, 172, 21, 5, 154, 0, 16, 45]
abbrev dktL_law_71 : List UInt8 := dkwL_law_71 ++ dktL_law_72
def dkwL_law_70 : List UInt8 := [172, 167, 4, 220, 43, 42, 21, 4, 4, 96, 46, 45, 184, 0, 240, 54, 5, 44, 42, 21, 4, 4, 96, 46]
abbrev dktL_law_70 : List UInt8 := dkwL_law_70 ++ dktL_law_71
def dkwL_law_69 : List UInt8 := [21, 5, 154, 0, 23, 45, 180, 0, 13, 21, 6, 153, 0, 7, 10, 167, 0, 4, 9, 148, 153, 0, 5, 3]
abbrev dktL_law_69 : List UInt8 := dkwL_law_69 ++ dktL_law_70
def dkwL_law_68 : List UInt8 := [153, 0, 7, 4, 167, 0, 4, 3, 182, 0, 239, 54, 6, 44, 182, 0, 165, 21, 5, 159, 0, 5, 3, 172]
abbrev dktL_law_68 : List UInt8 := dkwL_law_68 ++ dktL_law_69
def dkwL_law_67 : List UInt8 := [167, 0, 4, 3, 45, 184, 0, 236, 54, 5, 44, 42, 21, 4, 4, 96, 46, 42, 21, 4, 5, 96, 46]
abbrev dktL_law_67 : List UInt8 := dkwL_law_67 ++ dktL_law_68
def dkwL_law_66 : List UInt8 := [159, 5, 58, 3, 172, 43, 42, 21, 4, 4, 96, 46, 42, 21, 4, 5, 96, 46, 153, 0, 7, 4]
abbrev dktL_law_66 : List UInt8 := dkwL_law_66 ++ dktL_law_67
def dkwL_law_65 : List UInt8 := [180, 0, 13, 21, 6, 133, 148, 153, 0, 5, 3, 172, 167, 5, 69, 43, 182, 0, 232, 44, 182, 0, 235]
abbrev dktL_law_65 : List UInt8 := dkwL_law_65 ++ dktL_law_66
def dkwL_law_64 : List UInt8 := [182, 0, 231, 54, 6, 44, 182, 0, 165, 21, 5, 159, 0, 5, 3, 172, 21, 5, 154, 0, 16, 45]
abbrev dktL_law_64 : List UInt8 := dkwL_law_64 ++ dktL_law_65
def dkwL_law_63 : List UInt8 := [167, 5, 126, 43, 42, 21, 4, 4, 96, 46, 45, 184, 0, 229, 54, 5, 44, 42, 21, 4, 4, 96, 46]
abbrev dktL_law_63 : List UInt8 := dkwL_law_63 ++ dktL_law_64
def dkwL_law_62 : List UInt8 := [159, 0, 5, 3, 172, 21, 5, 154, 0, 16, 45, 180, 0, 13, 21, 6, 133, 148, 153, 0, 5, 3, 172]
abbrev dktL_law_62 : List UInt8 := dkwL_law_62 ++ dktL_law_63
def dkwL_law_61 : List UInt8 := [184, 0, 226, 54, 5, 44, 42, 21, 4, 4, 96, 46, 182, 0, 228, 54, 6, 44, 182, 0, 165, 21, 5]
abbrev dktL_law_61 : List UInt8 := dkwL_law_61 ++ dktL_law_62
def dkwL_law_60 : List UInt8 := [180, 0, 13, 21, 6, 133, 148, 153, 0, 5, 3, 172, 167, 5, 183, 43, 42, 21, 4, 4, 96, 46, 45]
abbrev dktL_law_60 : List UInt8 := dkwL_law_60 ++ dktL_law_61
def dkwL_law_59 : List UInt8 := [182, 0, 225, 54, 6, 44, 182, 0, 165, 21, 5, 159, 0, 5, 3, 172, 21, 5, 154, 0, 16, 45]
abbrev dktL_law_59 : List UInt8 := dkwL_law_59 ++ dktL_law_60
def dkwL_law_58 : List UInt8 := [21, 4, 5, 96, 46, 45, 184, 0, 223, 54, 5, 44, 42, 21, 4, 4, 96, 46, 42, 21, 4, 5, 96, 46]
abbrev dktL_law_58 : List UInt8 := dkwL_law_58 ++ dktL_law_59
def dkwL_law_57 : List UInt8 := [180, 0, 13, 21, 6, 133, 148, 153, 0, 5, 3, 172, 167, 5, 252, 43, 42, 21, 4, 4, 96, 46, 42]
abbrev dktL_law_57 : List UInt8 := dkwL_law_57 ++ dktL_law_58
def dkwL_law_56 : List UInt8 := [182, 0, 222, 54, 6, 44, 182, 0, 165, 21, 5, 159, 0, 5, 3, 172, 21, 5, 154, 0, 16, 45]
abbrev dktL_law_56 : List UInt8 := dkwL_law_56 ++ dktL_law_57
def dkwL_law_55 : List UInt8 := [167, 6, 53, 43, 42, 21, 4, 4, 96, 46, 45, 184, 0, 220, 54, 5, 44, 42, 21, 4, 4, 96, 46]
abbrev dktL_law_55 : List UInt8 := dkwL_law_55 ++ dktL_law_56
def dkwL_law_54 : List UInt8 := [159, 0, 5, 3, 172, 21, 5, 154, 0, 16, 45, 180, 0, 13, 21, 6, 133, 148, 153, 0, 5, 3, 172]
abbrev dktL_law_54 : List UInt8 := dkwL_law_54 ++ dktL_law_55
def dkwL_law_53 : List UInt8 := [21, 4, 4, 96, 46, 42, 21, 4, 5, 96, 46, 182, 0, 219, 54, 6, 44, 182, 0, 165, 21, 5]
abbrev dktL_law_53 : List UInt8 := dkwL_law_53 ++ dktL_law_54
def dkwL_law_52 : List UInt8 := [167, 6, 122, 43, 42, 21, 4, 4, 96, 46, 42, 21, 4, 5, 96, 46, 45, 184, 0, 217, 54, 5, 44, 42]
abbrev dktL_law_52 : List UInt8 := dkwL_law_52 ++ dktL_law_53
def dkwL_law_51 : List UInt8 := [159, 0, 5, 3, 172, 21, 5, 154, 0, 16, 45, 180, 0, 13, 21, 6, 133, 148, 153, 0, 5, 3, 172]
abbrev dktL_law_51 : List UInt8 := dkwL_law_51 ++ dktL_law_52
def dkwL_law_50 : List UInt8 := [21, 4, 4, 96, 46, 42, 21, 4, 5, 96, 46, 182, 0, 216, 54, 6, 44, 182, 0, 165, 21, 5]
abbrev dktL_law_50 : List UInt8 := dkwL_law_50 ++ dktL_law_51
def dkwL_law_49 : List UInt8 := [167, 6, 191, 43, 42, 21, 4, 4, 96, 46, 42, 21, 4, 5, 96, 46, 45, 184, 0, 214, 54, 5, 44, 42]
abbrev dktL_law_49 : List UInt8 := dkwL_law_49 ++ dktL_law_50
def dkwL_law_48 : List UInt8 := [159, 0, 5, 3, 172, 21, 5, 154, 0, 16, 45, 180, 0, 13, 21, 6, 133, 148, 153, 0, 5, 3, 172]
abbrev dktL_law_48 : List UInt8 := dkwL_law_48 ++ dktL_law_49
def dkwL_law_47 : List UInt8 := [42, 21, 4, 5, 96, 46, 42, 21, 4, 6, 96, 46, 182, 0, 213, 54, 6, 44, 182, 0, 165, 21, 5]
abbrev dktL_law_47 : List UInt8 := dkwL_law_47 ++ dktL_law_48
def dkwL_law_46 : List UInt8 := [21, 4, 5, 96, 46, 42, 21, 4, 6, 96, 46, 45, 184, 0, 211, 54, 5, 44, 42, 21, 4, 4, 96, 46]
abbrev dktL_law_46 : List UInt8 := dkwL_law_46 ++ dktL_law_47
def dkwL_law_45 : List UInt8 := [180, 0, 13, 21, 6, 133, 148, 153, 0, 5, 3, 172, 167, 7, 16, 43, 42, 21, 4, 4, 96, 46, 42]
abbrev dktL_law_45 : List UInt8 := dkwL_law_45 ++ dktL_law_46
def dkwL_law_44 : List UInt8 := [182, 0, 210, 54, 6, 44, 182, 0, 165, 21, 5, 159, 0, 5, 3, 172, 21, 5, 154, 0, 16, 45]
abbrev dktL_law_44 : List UInt8 := dkwL_law_44 ++ dktL_law_45
def dkwL_law_43 : List UInt8 := [21, 4, 5, 96, 46, 45, 184, 0, 208, 54, 5, 44, 42, 21, 4, 4, 96, 46, 42, 21, 4, 5, 96, 46]
abbrev dktL_law_43 : List UInt8 := dkwL_law_43 ++ dktL_law_44
def dkwL_law_42 : List UInt8 := [180, 0, 13, 21, 6, 133, 148, 153, 0, 5, 3, 172, 167, 7, 85, 43, 42, 21, 4, 4, 96, 46, 42]
abbrev dktL_law_42 : List UInt8 := dkwL_law_42 ++ dktL_law_43
def dkwL_law_41 : List UInt8 := [182, 0, 207, 54, 6, 44, 182, 0, 165, 21, 5, 159, 0, 5, 3, 172, 21, 5, 154, 0, 16, 45]
abbrev dktL_law_41 : List UInt8 := dkwL_law_41 ++ dktL_law_42
def dkwL_law_40 : List UInt8 := [167, 7, 142, 43, 42, 21, 4, 4, 96, 46, 45, 184, 0, 205, 54, 5, 44, 42, 21, 4, 4, 96, 46]
abbrev dktL_law_40 : List UInt8 := dkwL_law_40 ++ dktL_law_41
def dkwL_law_39 : List UInt8 := [159, 0, 5, 3, 172, 21, 5, 154, 0, 16, 45, 180, 0, 13, 21, 6, 133, 148, 153, 0, 5, 3, 172]
abbrev dktL_law_39 : List UInt8 := dkwL_law_39 ++ dktL_law_40
def dkwL_law_38 : List UInt8 := [42, 21, 4, 5, 96, 46, 42, 21, 4, 6, 96, 46, 182, 0, 204, 54, 6, 44, 182, 0, 165, 21, 5]
abbrev dktL_law_38 : List UInt8 := dkwL_law_38 ++ dktL_law_39
def dkwL_law_37 : List UInt8 := [21, 4, 5, 96, 46, 42, 21, 4, 6, 96, 46, 45, 184, 0, 202, 54, 5, 44, 42, 21, 4, 4, 96, 46]
abbrev dktL_law_37 : List UInt8 := dkwL_law_37 ++ dktL_law_38
def dkwL_law_36 : List UInt8 := [180, 0, 13, 21, 6, 133, 148, 153, 0, 5, 3, 172, 167, 7, 223, 43, 42, 21, 4, 4, 96, 46, 42]
abbrev dktL_law_36 : List UInt8 := dkwL_law_36 ++ dktL_law_37
def dkwL_law_35 : List UInt8 := [182, 0, 201, 54, 6, 44, 182, 0, 165, 21, 5, 159, 0, 5, 3, 172, 21, 5, 154, 0, 16, 45]
abbrev dktL_law_35 : List UInt8 := dkwL_law_35 ++ dktL_law_36
def dkwL_law_34 : List UInt8 := [42, 21, 4, 4, 96, 46, 42, 21, 4, 5, 96, 46, 42, 21, 4, 6, 96, 46, 42, 21, 4, 7, 96, 46]
abbrev dktL_law_34 : List UInt8 := dkwL_law_34 ++ dktL_law_35
def dkwL_law_33 : List UInt8 := [21, 4, 5, 96, 46, 42, 21, 4, 6, 96, 46, 42, 21, 4, 7, 96, 46, 45, 184, 0, 199, 54, 5, 44]
abbrev dktL_law_33 : List UInt8 := dkwL_law_33 ++ dktL_law_34
def dkwL_law_32 : List UInt8 := [180, 0, 13, 21, 6, 133, 148, 153, 0, 5, 3, 172, 167, 8, 60, 43, 42, 21, 4, 4, 96, 46, 42]
abbrev dktL_law_32 : List UInt8 := dkwL_law_32 ++ dktL_law_33
def dkwL_law_31 : List UInt8 := [182, 0, 198, 54, 6, 44, 182, 0, 165, 21, 5, 159, 0, 5, 3, 172, 21, 5, 154, 0, 16, 45]
abbrev dktL_law_31 : List UInt8 := dkwL_law_31 ++ dktL_law_32
def dkwL_law_30 : List UInt8 := [21, 4, 5, 96, 46, 45, 184, 0, 196, 54, 5, 44, 42, 21, 4, 4, 96, 46, 42, 21, 4, 5, 96, 46]
abbrev dktL_law_30 : List UInt8 := dkwL_law_30 ++ dktL_law_31
def dkwL_law_29 : List UInt8 := [180, 0, 13, 21, 6, 133, 148, 153, 0, 5, 3, 172, 167, 8, 129, 43, 42, 21, 4, 4, 96, 46, 42]
abbrev dktL_law_29 : List UInt8 := dkwL_law_29 ++ dktL_law_30
def dkwL_law_28 : List UInt8 := [182, 0, 195, 54, 6, 44, 182, 0, 165, 21, 5, 159, 0, 5, 3, 172, 21, 5, 154, 0, 16, 45]
abbrev dktL_law_28 : List UInt8 := dkwL_law_28 ++ dktL_law_29
def dkwL_law_27 : List UInt8 := [21, 4, 5, 96, 46, 45, 184, 0, 193, 54, 5, 44, 42, 21, 4, 4, 96, 46, 42, 21, 4, 5, 96, 46]
abbrev dktL_law_27 : List UInt8 := dkwL_law_27 ++ dktL_law_28
def dkwL_law_26 : List UInt8 := [180, 0, 13, 21, 6, 133, 148, 153, 0, 5, 3, 172, 167, 8, 198, 43, 42, 21, 4, 4, 96, 46, 42]
abbrev dktL_law_26 : List UInt8 := dkwL_law_26 ++ dktL_law_27
def dkwL_law_25 : List UInt8 := [182, 0, 192, 54, 6, 44, 182, 0, 165, 21, 5, 159, 0, 5, 3, 172, 21, 5, 154, 0, 16, 45]
abbrev dktL_law_25 : List UInt8 := dkwL_law_25 ++ dktL_law_26
def dkwL_law_24 : List UInt8 := [21, 4, 5, 96, 46, 45, 184, 0, 190, 54, 5, 44, 42, 21, 4, 4, 96, 46, 42, 21, 4, 5, 96, 46]
abbrev dktL_law_24 : List UInt8 := dkwL_law_24 ++ dktL_law_25
def dkwL_law_23 : List UInt8 := [180, 0, 13, 21, 6, 133, 148, 153, 0, 5, 3, 172, 167, 9, 11, 43, 42, 21, 4, 4, 96, 46, 42]
abbrev dktL_law_23 : List UInt8 := dkwL_law_23 ++ dktL_law_24
def dkwL_law_22 : List UInt8 := [182, 0, 189, 54, 6, 44, 182, 0, 165, 21, 5, 159, 0, 5, 3, 172, 21, 5, 154, 0, 16, 45]
abbrev dktL_law_22 : List UInt8 := dkwL_law_22 ++ dktL_law_23
def dkwL_law_21 : List UInt8 := [21, 4, 5, 96, 46, 45, 184, 0, 187, 54, 5, 44, 42, 21, 4, 4, 96, 46, 42, 21, 4, 5, 96, 46]
abbrev dktL_law_21 : List UInt8 := dkwL_law_21 ++ dktL_law_22
def dkwL_law_20 : List UInt8 := [180, 0, 13, 21, 6, 133, 148, 153, 0, 5, 3, 172, 167, 9, 80, 43, 42, 21, 4, 4, 96, 46, 42]
abbrev dktL_law_20 : List UInt8 := dkwL_law_20 ++ dktL_law_21
def dkwL_law_19 : List UInt8 := [182, 0, 186, 54, 6, 44, 182, 0, 165, 21, 5, 159, 0, 5, 3, 172, 21, 5, 154, 0, 16, 45]
abbrev dktL_law_19 : List UInt8 := dkwL_law_19 ++ dktL_law_20
def dkwL_law_18 : List UInt8 := [167, 9, 137, 43, 42, 21, 4, 4, 96, 46, 45, 184, 0, 184, 54, 5, 44, 42, 21, 4, 4, 96, 46]
abbrev dktL_law_18 : List UInt8 := dkwL_law_18 ++ dktL_law_19
def dkwL_law_17 : List UInt8 := [159, 0, 5, 3, 172, 21, 5, 154, 0, 16, 45, 180, 0, 13, 21, 6, 133, 148, 153, 0, 5, 3, 172]
abbrev dktL_law_17 : List UInt8 := dkwL_law_17 ++ dktL_law_18
def dkwL_law_16 : List UInt8 := [42, 21, 4, 5, 96, 46, 42, 21, 4, 6, 96, 46, 182, 0, 183, 54, 6, 44, 182, 0, 165, 21, 5]
abbrev dktL_law_16 : List UInt8 := dkwL_law_16 ++ dktL_law_17
def dkwL_law_15 : List UInt8 := [21, 4, 5, 96, 46, 42, 21, 4, 6, 96, 46, 45, 184, 0, 180, 54, 5, 44, 42, 21, 4, 4, 96, 46]
abbrev dktL_law_15 : List UInt8 := dkwL_law_15 ++ dktL_law_16
def dkwL_law_14 : List UInt8 := [180, 0, 13, 21, 6, 133, 148, 153, 0, 5, 3, 172, 167, 9, 218, 43, 42, 21, 4, 4, 96, 46, 42]
abbrev dktL_law_14 : List UInt8 := dkwL_law_14 ++ dktL_law_15
def dkwL_law_13 : List UInt8 := [182, 0, 179, 54, 6, 44, 182, 0, 165, 21, 5, 159, 0, 5, 3, 172, 21, 5, 154, 0, 16, 45]
abbrev dktL_law_13 : List UInt8 := dkwL_law_13 ++ dktL_law_14
def dkwL_law_12 : List UInt8 := [172, 167, 10, 19, 43, 42, 21, 4, 4, 96, 46, 45, 184, 0, 177, 54, 5, 44, 42, 21, 4, 4, 96, 46]
abbrev dktL_law_12 : List UInt8 := dkwL_law_12 ++ dktL_law_13
def dkwL_law_11 : List UInt8 := [21, 5, 159, 0, 5, 3, 172, 21, 5, 154, 0, 16, 45, 180, 0, 13, 21, 6, 133, 148, 153, 0, 5, 3]
abbrev dktL_law_11 : List UInt8 := dkwL_law_11 ++ dktL_law_12
def dkwL_law_10 : List UInt8 := [96, 46, 45, 184, 0, 173, 54, 5, 44, 42, 21, 4, 4, 96, 46, 182, 0, 176, 54, 6, 44, 182, 0, 165]
abbrev dktL_law_10 : List UInt8 := dkwL_law_10 ++ dktL_law_11
def dkwL_law_9 : List UInt8 := [154, 0, 16, 45, 180, 0, 13, 21, 6, 133, 148, 153, 0, 5, 3, 172, 167, 10, 76, 43, 42, 21, 4, 4]
abbrev dktL_law_9 : List UInt8 := dkwL_law_9 ++ dktL_law_10
def dkwL_law_8 : List UInt8 := [42, 21, 4, 5, 96, 46, 182, 0, 172, 54, 6, 44, 182, 0, 165, 21, 5, 159, 0, 5, 3, 172, 21, 5]
abbrev dktL_law_8 : List UInt8 := dkwL_law_8 ++ dktL_law_9
def dkwL_law_7 : List UInt8 := [21, 4, 4, 96, 46, 42, 21, 4, 5, 96, 46, 45, 184, 0, 169, 54, 5, 44, 42, 21, 4, 4, 96, 46]
abbrev dktL_law_7 : List UInt8 := dkwL_law_7 ++ dktL_law_8
def dkwL_law_6 : List UInt8 := [21, 5, 154, 0, 16, 45, 180, 0, 13, 21, 6, 133, 148, 153, 0, 5, 3, 172, 167, 10, 145, 43, 42]
abbrev dktL_law_6 : List UInt8 := dkwL_law_6 ++ dktL_law_7
def dkwL_law_5 : List UInt8 := [96, 46, 42, 21, 4, 7, 96, 46, 182, 0, 164, 54, 6, 44, 182, 0, 165, 21, 5, 159, 0, 5, 3, 172]
abbrev dktL_law_5 : List UInt8 := dkwL_law_5 ++ dktL_law_6
def dkwL_law_4 : List UInt8 := [46, 45, 184, 0, 159, 54, 5, 44, 42, 21, 4, 4, 96, 46, 42, 21, 4, 5, 96, 46, 42, 21, 4, 6]
abbrev dktL_law_4 : List UInt8 := dkwL_law_4 ++ dktL_law_5
def dkwL_law_3 : List UInt8 := [43, 42, 21, 4, 4, 96, 46, 42, 21, 4, 5, 96, 46, 42, 21, 4, 6, 96, 46, 42, 21, 4, 7, 96]
abbrev dktL_law_3 : List UInt8 := dkwL_law_3 ++ dktL_law_4
def dkwL_law_2 : List UInt8 := [170, 0, 0, 11, 164, 0, 0, 0, 0, 0, 0, 0, 42, 0, 0, 0, 185, 0, 0, 1, 22, 0, 0, 1, 91, 0, 0, 1, 148, 0, 0, 1, 205, 0, 0, 2, 30, 0, 0, 2, 87, 0, 0, 2, 156, 0, 0, 2, 225, 0, 0, 3, 38, 0, 0, 3, 107, 0, 0, 3, 200, 0, 0, 4, 25, 0, 0, 4, 82, 0, 0, 4, 151, 0, 0, 4, 232, 0, 0, 5, 45, 0, 0, 5, 114, 0, 0, 5, 171, 0, 0, 5, 240, 0, 0, 6, 41, 0, 0, 6, 98, 0, 0, 6, 111, 0, 0, 6, 203, 0, 0, 7, 4, 0, 0, 7, 17, 0, 0, 7, 86, 0, 0, 7, 183, 0, 0, 8, 8, 0, 0, 8, 77, 0, 0, 8, 146, 0, 0, 8, 243, 0, 0, 9, 56, 0, 0, 9, 113, 0, 0, 9, 171, 0, 0, 9, 247, 0, 0, 10, 60, 0, 0, 10, 117, 0, 0, 10, 210, 0, 0, 11, 23, 0, 0, 11, 80, 0, 0, 11, 137, 0, 0, 11, 150]
abbrev dktL_law_2 : List UInt8 := dkwL_law_2 ++ dktL_law_3
def dkwL_law_1 : List UInt8 := [3, 54, 4, 21, 4, 42, 190, 8, 100, 163, 11, 180, 42, 21, 4, 46, 16, 63, 126]
abbrev dktL_law_1 : List UInt8 := dkwL_law_1 ++ dktL_law_2
def dkwL_law_0 : List UInt8 := [187, 0, 8, 89, 183, 0, 154, 76, 187, 0, 155, 89, 183, 0, 157, 77, 187, 0, 14, 89, 183, 0, 158, 78]
abbrev dktL_law_0 : List UInt8 := dkwL_law_0 ++ dktL_law_1
theorem dksL_law_0 : cL_law.data.toList.drop 0 = dktL_law_0 := by decide +kernel
theorem dksL_law_1 : cL_law.data.toList.drop 24 = dktL_law_1 := dk_seg dksL_law_0 24 rfl rfl
theorem dksL_law_2 : cL_law.data.toList.drop 43 = dktL_law_2 := dk_seg dksL_law_1 19 rfl rfl
theorem dksL_law_3 : cL_law.data.toList.drop 228 = dktL_law_3 := dk_seg dksL_law_2 185 rfl rfl
theorem dksL_law_4 : cL_law.data.toList.drop 252 = dktL_law_4 := dk_seg dksL_law_3 24 rfl rfl
theorem dksL_law_5 : cL_law.data.toList.drop 276 = dktL_law_5 := dk_seg dksL_law_4 24 rfl rfl
theorem dksL_law_6 : cL_law.data.toList.drop 300 = dktL_law_6 := dk_seg dksL_law_5 24 rfl rfl
theorem dksL_law_7 : cL_law.data.toList.drop 323 = dktL_law_7 := dk_seg dksL_law_6 23 rfl rfl
theorem dksL_law_8 : cL_law.data.toList.drop 347 = dktL_law_8 := dk_seg dksL_law_7 24 rfl rfl
theorem dksL_law_9 : cL_law.data.toList.drop 371 = dktL_law_9 := dk_seg dksL_law_8 24 rfl rfl
theorem dksL_law_10 : cL_law.data.toList.drop 395 = dktL_law_10 := dk_seg dksL_law_9 24 rfl rfl
theorem dksL_law_11 : cL_law.data.toList.drop 419 = dktL_law_11 := dk_seg dksL_law_10 24 rfl rfl
theorem dksL_law_12 : cL_law.data.toList.drop 443 = dktL_law_12 := dk_seg dksL_law_11 24 rfl rfl
theorem dksL_law_13 : cL_law.data.toList.drop 467 = dktL_law_13 := dk_seg dksL_law_12 24 rfl rfl
theorem dksL_law_14 : cL_law.data.toList.drop 489 = dktL_law_14 := dk_seg dksL_law_13 22 rfl rfl
theorem dksL_law_15 : cL_law.data.toList.drop 512 = dktL_law_15 := dk_seg dksL_law_14 23 rfl rfl
theorem dksL_law_16 : cL_law.data.toList.drop 536 = dktL_law_16 := dk_seg dksL_law_15 24 rfl rfl
theorem dksL_law_17 : cL_law.data.toList.drop 559 = dktL_law_17 := dk_seg dksL_law_16 23 rfl rfl
theorem dksL_law_18 : cL_law.data.toList.drop 582 = dktL_law_18 := dk_seg dksL_law_17 23 rfl rfl
theorem dksL_law_19 : cL_law.data.toList.drop 605 = dktL_law_19 := dk_seg dksL_law_18 23 rfl rfl
theorem dksL_law_20 : cL_law.data.toList.drop 627 = dktL_law_20 := dk_seg dksL_law_19 22 rfl rfl
theorem dksL_law_21 : cL_law.data.toList.drop 650 = dktL_law_21 := dk_seg dksL_law_20 23 rfl rfl
theorem dksL_law_22 : cL_law.data.toList.drop 674 = dktL_law_22 := dk_seg dksL_law_21 24 rfl rfl
theorem dksL_law_23 : cL_law.data.toList.drop 696 = dktL_law_23 := dk_seg dksL_law_22 22 rfl rfl
theorem dksL_law_24 : cL_law.data.toList.drop 719 = dktL_law_24 := dk_seg dksL_law_23 23 rfl rfl
theorem dksL_law_25 : cL_law.data.toList.drop 743 = dktL_law_25 := dk_seg dksL_law_24 24 rfl rfl
theorem dksL_law_26 : cL_law.data.toList.drop 765 = dktL_law_26 := dk_seg dksL_law_25 22 rfl rfl
theorem dksL_law_27 : cL_law.data.toList.drop 788 = dktL_law_27 := dk_seg dksL_law_26 23 rfl rfl
theorem dksL_law_28 : cL_law.data.toList.drop 812 = dktL_law_28 := dk_seg dksL_law_27 24 rfl rfl
theorem dksL_law_29 : cL_law.data.toList.drop 834 = dktL_law_29 := dk_seg dksL_law_28 22 rfl rfl
theorem dksL_law_30 : cL_law.data.toList.drop 857 = dktL_law_30 := dk_seg dksL_law_29 23 rfl rfl
theorem dksL_law_31 : cL_law.data.toList.drop 881 = dktL_law_31 := dk_seg dksL_law_30 24 rfl rfl
theorem dksL_law_32 : cL_law.data.toList.drop 903 = dktL_law_32 := dk_seg dksL_law_31 22 rfl rfl
theorem dksL_law_33 : cL_law.data.toList.drop 926 = dktL_law_33 := dk_seg dksL_law_32 23 rfl rfl
theorem dksL_law_34 : cL_law.data.toList.drop 950 = dktL_law_34 := dk_seg dksL_law_33 24 rfl rfl
theorem dksL_law_35 : cL_law.data.toList.drop 974 = dktL_law_35 := dk_seg dksL_law_34 24 rfl rfl
theorem dksL_law_36 : cL_law.data.toList.drop 996 = dktL_law_36 := dk_seg dksL_law_35 22 rfl rfl
theorem dksL_law_37 : cL_law.data.toList.drop 1019 = dktL_law_37 := dk_seg dksL_law_36 23 rfl rfl
theorem dksL_law_38 : cL_law.data.toList.drop 1043 = dktL_law_38 := dk_seg dksL_law_37 24 rfl rfl
theorem dksL_law_39 : cL_law.data.toList.drop 1066 = dktL_law_39 := dk_seg dksL_law_38 23 rfl rfl
theorem dksL_law_40 : cL_law.data.toList.drop 1089 = dktL_law_40 := dk_seg dksL_law_39 23 rfl rfl
theorem dksL_law_41 : cL_law.data.toList.drop 1112 = dktL_law_41 := dk_seg dksL_law_40 23 rfl rfl
theorem dksL_law_42 : cL_law.data.toList.drop 1134 = dktL_law_42 := dk_seg dksL_law_41 22 rfl rfl
theorem dksL_law_43 : cL_law.data.toList.drop 1157 = dktL_law_43 := dk_seg dksL_law_42 23 rfl rfl
theorem dksL_law_44 : cL_law.data.toList.drop 1181 = dktL_law_44 := dk_seg dksL_law_43 24 rfl rfl
theorem dksL_law_45 : cL_law.data.toList.drop 1203 = dktL_law_45 := dk_seg dksL_law_44 22 rfl rfl
theorem dksL_law_46 : cL_law.data.toList.drop 1226 = dktL_law_46 := dk_seg dksL_law_45 23 rfl rfl
theorem dksL_law_47 : cL_law.data.toList.drop 1250 = dktL_law_47 := dk_seg dksL_law_46 24 rfl rfl
theorem dksL_law_48 : cL_law.data.toList.drop 1273 = dktL_law_48 := dk_seg dksL_law_47 23 rfl rfl
theorem dksL_law_49 : cL_law.data.toList.drop 1296 = dktL_law_49 := dk_seg dksL_law_48 23 rfl rfl
theorem dksL_law_50 : cL_law.data.toList.drop 1320 = dktL_law_50 := dk_seg dksL_law_49 24 rfl rfl
theorem dksL_law_51 : cL_law.data.toList.drop 1342 = dktL_law_51 := dk_seg dksL_law_50 22 rfl rfl
theorem dksL_law_52 : cL_law.data.toList.drop 1365 = dktL_law_52 := dk_seg dksL_law_51 23 rfl rfl
theorem dksL_law_53 : cL_law.data.toList.drop 1389 = dktL_law_53 := dk_seg dksL_law_52 24 rfl rfl
theorem dksL_law_54 : cL_law.data.toList.drop 1411 = dktL_law_54 := dk_seg dksL_law_53 22 rfl rfl
theorem dksL_law_55 : cL_law.data.toList.drop 1434 = dktL_law_55 := dk_seg dksL_law_54 23 rfl rfl
theorem dksL_law_56 : cL_law.data.toList.drop 1457 = dktL_law_56 := dk_seg dksL_law_55 23 rfl rfl
theorem dksL_law_57 : cL_law.data.toList.drop 1479 = dktL_law_57 := dk_seg dksL_law_56 22 rfl rfl
theorem dksL_law_58 : cL_law.data.toList.drop 1502 = dktL_law_58 := dk_seg dksL_law_57 23 rfl rfl
theorem dksL_law_59 : cL_law.data.toList.drop 1526 = dktL_law_59 := dk_seg dksL_law_58 24 rfl rfl
theorem dksL_law_60 : cL_law.data.toList.drop 1548 = dktL_law_60 := dk_seg dksL_law_59 22 rfl rfl
theorem dksL_law_61 : cL_law.data.toList.drop 1571 = dktL_law_61 := dk_seg dksL_law_60 23 rfl rfl
theorem dksL_law_62 : cL_law.data.toList.drop 1594 = dktL_law_62 := dk_seg dksL_law_61 23 rfl rfl
theorem dksL_law_63 : cL_law.data.toList.drop 1617 = dktL_law_63 := dk_seg dksL_law_62 23 rfl rfl
theorem dksL_law_64 : cL_law.data.toList.drop 1640 = dktL_law_64 := dk_seg dksL_law_63 23 rfl rfl
theorem dksL_law_65 : cL_law.data.toList.drop 1662 = dktL_law_65 := dk_seg dksL_law_64 22 rfl rfl
theorem dksL_law_66 : cL_law.data.toList.drop 1685 = dktL_law_66 := dk_seg dksL_law_65 23 rfl rfl
theorem dksL_law_67 : cL_law.data.toList.drop 1707 = dktL_law_67 := dk_seg dksL_law_66 22 rfl rfl
theorem dksL_law_68 : cL_law.data.toList.drop 1730 = dktL_law_68 := dk_seg dksL_law_67 23 rfl rfl
theorem dksL_law_69 : cL_law.data.toList.drop 1754 = dktL_law_69 := dk_seg dksL_law_68 24 rfl rfl
theorem dksL_law_70 : cL_law.data.toList.drop 1778 = dktL_law_70 := dk_seg dksL_law_69 24 rfl rfl
theorem dksL_law_71 : cL_law.data.toList.drop 1802 = dktL_law_71 := dk_seg dksL_law_70 24 rfl rfl
theorem dksL_law_72 : cL_law.data.toList.drop 1824 = dktL_law_72 := dk_seg dksL_law_71 22 rfl rfl
theorem dksL_law_73 : cL_law.data.toList.drop 1847 = dktL_law_73 := dk_seg dksL_law_72 23 rfl rfl
theorem dksL_law_74 : cL_law.data.toList.drop 1871 = dktL_law_74 := dk_seg dksL_law_73 24 rfl rfl
theorem dksL_law_75 : cL_law.data.toList.drop 1895 = dktL_law_75 := dk_seg dksL_law_74 24 rfl rfl
theorem dksL_law_76 : cL_law.data.toList.drop 1918 = dktL_law_76 := dk_seg dksL_law_75 23 rfl rfl
theorem dksL_law_77 : cL_law.data.toList.drop 1940 = dktL_law_77 := dk_seg dksL_law_76 22 rfl rfl
theorem dksL_law_78 : cL_law.data.toList.drop 1964 = dktL_law_78 := dk_seg dksL_law_77 24 rfl rfl
theorem dksL_law_79 : cL_law.data.toList.drop 1987 = dktL_law_79 := dk_seg dksL_law_78 23 rfl rfl
theorem dksL_law_80 : cL_law.data.toList.drop 2010 = dktL_law_80 := dk_seg dksL_law_79 23 rfl rfl
theorem dksL_law_81 : cL_law.data.toList.drop 2034 = dktL_law_81 := dk_seg dksL_law_80 24 rfl rfl
theorem dksL_law_82 : cL_law.data.toList.drop 2057 = dktL_law_82 := dk_seg dksL_law_81 23 rfl rfl
theorem dksL_law_83 : cL_law.data.toList.drop 2080 = dktL_law_83 := dk_seg dksL_law_82 23 rfl rfl
theorem dksL_law_84 : cL_law.data.toList.drop 2104 = dktL_law_84 := dk_seg dksL_law_83 24 rfl rfl
theorem dksL_law_85 : cL_law.data.toList.drop 2128 = dktL_law_85 := dk_seg dksL_law_84 24 rfl rfl
theorem dksL_law_86 : cL_law.data.toList.drop 2152 = dktL_law_86 := dk_seg dksL_law_85 24 rfl rfl
theorem dksL_law_87 : cL_law.data.toList.drop 2176 = dktL_law_87 := dk_seg dksL_law_86 24 rfl rfl
theorem dksL_law_88 : cL_law.data.toList.drop 2200 = dktL_law_88 := dk_seg dksL_law_87 24 rfl rfl
theorem dksL_law_89 : cL_law.data.toList.drop 2222 = dktL_law_89 := dk_seg dksL_law_88 22 rfl rfl
theorem dksL_law_90 : cL_law.data.toList.drop 2245 = dktL_law_90 := dk_seg dksL_law_89 23 rfl rfl
theorem dksL_law_91 : cL_law.data.toList.drop 2268 = dktL_law_91 := dk_seg dksL_law_90 23 rfl rfl
theorem dksL_law_92 : cL_law.data.toList.drop 2292 = dktL_law_92 := dk_seg dksL_law_91 24 rfl rfl
theorem dksL_law_93 : cL_law.data.toList.drop 2315 = dktL_law_93 := dk_seg dksL_law_92 23 rfl rfl
theorem dksL_law_94 : cL_law.data.toList.drop 2339 = dktL_law_94 := dk_seg dksL_law_93 24 rfl rfl
theorem dksL_law_95 : cL_law.data.toList.drop 2363 = dktL_law_95 := dk_seg dksL_law_94 24 rfl rfl
theorem dksL_law_96 : cL_law.data.toList.drop 2387 = dktL_law_96 := dk_seg dksL_law_95 24 rfl rfl
theorem dksL_law_97 : cL_law.data.toList.drop 2411 = dktL_law_97 := dk_seg dksL_law_96 24 rfl rfl
theorem dksL_law_98 : cL_law.data.toList.drop 2434 = dktL_law_98 := dk_seg dksL_law_97 23 rfl rfl
theorem dksL_law_99 : cL_law.data.toList.drop 2457 = dktL_law_99 := dk_seg dksL_law_98 23 rfl rfl
theorem dksL_law_100 : cL_law.data.toList.drop 2480 = dktL_law_100 := dk_seg dksL_law_99 23 rfl rfl
theorem dksL_law_101 : cL_law.data.toList.drop 2502 = dktL_law_101 := dk_seg dksL_law_100 22 rfl rfl
theorem dksL_law_102 : cL_law.data.toList.drop 2526 = dktL_law_102 := dk_seg dksL_law_101 24 rfl rfl
theorem dksL_law_103 : cL_law.data.toList.drop 2549 = dktL_law_103 := dk_seg dksL_law_102 23 rfl rfl
theorem dksL_law_104 : cL_law.data.toList.drop 2573 = dktL_law_104 := dk_seg dksL_law_103 24 rfl rfl
theorem dksL_law_105 : cL_law.data.toList.drop 2596 = dktL_law_105 := dk_seg dksL_law_104 23 rfl rfl
theorem dksL_law_106 : cL_law.data.toList.drop 2620 = dktL_law_106 := dk_seg dksL_law_105 24 rfl rfl
theorem dksL_law_107 : cL_law.data.toList.drop 2644 = dktL_law_107 := dk_seg dksL_law_106 24 rfl rfl
theorem dksL_law_108 : cL_law.data.toList.drop 2668 = dktL_law_108 := dk_seg dksL_law_107 24 rfl rfl
theorem dksL_law_109 : cL_law.data.toList.drop 2692 = dktL_law_109 := dk_seg dksL_law_108 24 rfl rfl
theorem dksL_law_110 : cL_law.data.toList.drop 2716 = dktL_law_110 := dk_seg dksL_law_109 24 rfl rfl
theorem dksL_law_111 : cL_law.data.toList.drop 2740 = dktL_law_111 := dk_seg dksL_law_110 24 rfl rfl
theorem dksL_law_112 : cL_law.data.toList.drop 2764 = dktL_law_112 := dk_seg dksL_law_111 24 rfl rfl
theorem dksL_law_113 : cL_law.data.toList.drop 2787 = dktL_law_113 := dk_seg dksL_law_112 23 rfl rfl
theorem dksL_law_114 : cL_law.data.toList.drop 2810 = dktL_law_114 := dk_seg dksL_law_113 23 rfl rfl
theorem dksL_law_115 : cL_law.data.toList.drop 2834 = dktL_law_115 := dk_seg dksL_law_114 24 rfl rfl
theorem dksL_law_116 : cL_law.data.toList.drop 2856 = dktL_law_116 := dk_seg dksL_law_115 22 rfl rfl
theorem dksL_law_117 : cL_law.data.toList.drop 2879 = dktL_law_117 := dk_seg dksL_law_116 23 rfl rfl
theorem dksL_law_118 : cL_law.data.toList.drop 2902 = dktL_law_118 := dk_seg dksL_law_117 23 rfl rfl
theorem dksL_law_119 : cL_law.data.toList.drop 2924 = dktL_law_119 := dk_seg dksL_law_118 22 rfl rfl
theorem dksL_law_120 : cL_law.data.toList.drop 2947 = dktL_law_120 := dk_seg dksL_law_119 23 rfl rfl
theorem dksL_law_121 : cL_law.data.toList.drop 2970 = dktL_law_121 := dk_seg dksL_law_120 23 rfl rfl
theorem dksL_law_122 : cL_law.data.toList.drop 2993 = dktL_law_122 := dk_seg dksL_law_121 23 rfl rfl
theorem dksL_law_123 : cL_law.data.toList.drop 3017 = dktL_law_123 := dk_seg dksL_law_122 24 rfl rfl
theorem dL_law_0 : decode cL_law 0 = .ok (.new 8, 3) := dk_187 0 8 (dk_at dksL_law_0 0 rfl rfl)
theorem dL_law_3 : decode cL_law 3 = .ok (.dup, 1) := dk_89 (dk_at dksL_law_0 3 rfl rfl)
theorem dL_law_4 : decode cL_law 4 = .ok (.invokespecial 154, 3) := dk_183 0 154 (dk_at dksL_law_0 4 rfl rfl)
theorem dL_law_7 : decode cL_law 7 = .ok (.astore_n 1, 1) := dk_76 (dk_at dksL_law_0 7 rfl rfl)
theorem dL_law_8 : decode cL_law 8 = .ok (.new 155, 3) := dk_187 0 155 (dk_at dksL_law_0 8 rfl rfl)
theorem dL_law_11 : decode cL_law 11 = .ok (.dup, 1) := dk_89 (dk_at dksL_law_0 11 rfl rfl)
theorem dL_law_12 : decode cL_law 12 = .ok (.invokespecial 157, 3) := dk_183 0 157 (dk_at dksL_law_0 12 rfl rfl)
theorem dL_law_15 : decode cL_law 15 = .ok (.astore_n 2, 1) := dk_77 (dk_at dksL_law_0 15 rfl rfl)
theorem dL_law_16 : decode cL_law 16 = .ok (.new 14, 3) := dk_187 0 14 (dk_at dksL_law_0 16 rfl rfl)
theorem dL_law_19 : decode cL_law 19 = .ok (.dup, 1) := dk_89 (dk_at dksL_law_0 19 rfl rfl)
theorem dL_law_20 : decode cL_law 20 = .ok (.invokespecial 158, 3) := dk_183 0 158 (dk_at dksL_law_0 20 rfl rfl)
theorem dL_law_23 : decode cL_law 23 = .ok (.astore_n 3, 1) := dk_78 (dk_at dksL_law_0 23 rfl rfl)
theorem dL_law_24 : decode cL_law 24 = .ok (.iconst 0, 1) := dk_3 (dk_at dksL_law_1 0 rfl rfl)
theorem dL_law_25 : decode cL_law 25 = .ok (.istore 4, 2) := dk_54 4 (dk_at dksL_law_1 1 rfl rfl)
theorem dL_law_27 : decode cL_law 27 = .ok (.iload 4, 2) := dk_21 4 (dk_at dksL_law_1 3 rfl rfl)
theorem dL_law_29 : decode cL_law 29 = .ok (.aload_n 0, 1) := dk_42 (dk_at dksL_law_1 5 rfl rfl)
theorem dL_law_30 : decode cL_law 30 = .ok (.arraylength, 1) := dk_190 (dk_at dksL_law_1 6 rfl rfl)
theorem dL_law_31 : decode cL_law 31 = .ok (.iconst 5, 1) := dk_8 (dk_at dksL_law_1 7 rfl rfl)
theorem dL_law_32 : decode cL_law 32 = .ok (.isub, 1) := dk_100 (dk_at dksL_law_1 8 rfl rfl)
theorem dL_law_33 : decode cL_law 33 = .ok (.if_icmp .gt 2996, 3) := dk_163 11 180 (dk_at dksL_law_1 9 rfl rfl)
theorem dL_law_36 : decode cL_law 36 = .ok (.aload_n 0, 1) := dk_42 (dk_at dksL_law_1 12 rfl rfl)
theorem dL_law_37 : decode cL_law 37 = .ok (.iload 4, 2) := dk_21 4 (dk_at dksL_law_1 13 rfl rfl)
theorem dL_law_39 : decode cL_law 39 = .ok (.iaload, 1) := dk_46 (dk_at dksL_law_1 15 rfl rfl)
theorem dL_law_40 : decode cL_law 40 = .ok (.bipush 63, 2) := dk_16 63 (dk_at dksL_law_1 16 rfl rfl)
theorem dL_law_42 : decode cL_law 42 = .ok (.iand, 1) := dk_126 (dk_at dksL_law_1 18 rfl rfl)
theorem dL_law_43 : decode cL_law 43 = .ok (.tableswitch 2980 0 42 #[185, 278, 347, 404, 461, 542, 599, 668, 737, 806, 875, 968, 1049, 1106, 1175, 1256, 1325, 1394, 1451, 1520, 1577, 1634, 1647, 1739, 1796, 1809, 1878, 1975, 2056, 2125, 2194, 2291, 2360, 2417, 2475, 2551, 2620, 2677, 2770, 2839, 2896, 2953, 2966], 185) := by decide +kernel
theorem dL_law_228 : decode cL_law 228 = .ok (.aload_n 1, 1) := dk_43 (dk_at dksL_law_3 0 rfl rfl)
theorem dL_law_229 : decode cL_law 229 = .ok (.aload_n 0, 1) := dk_42 (dk_at dksL_law_3 1 rfl rfl)
theorem dL_law_230 : decode cL_law 230 = .ok (.iload 4, 2) := dk_21 4 (dk_at dksL_law_3 2 rfl rfl)
theorem dL_law_232 : decode cL_law 232 = .ok (.iconst 1, 1) := dk_4 (dk_at dksL_law_3 4 rfl rfl)
theorem dL_law_233 : decode cL_law 233 = .ok (.iadd, 1) := dk_96 (dk_at dksL_law_3 5 rfl rfl)
theorem dL_law_234 : decode cL_law 234 = .ok (.iaload, 1) := dk_46 (dk_at dksL_law_3 6 rfl rfl)
theorem dL_law_235 : decode cL_law 235 = .ok (.aload_n 0, 1) := dk_42 (dk_at dksL_law_3 7 rfl rfl)
theorem dL_law_236 : decode cL_law 236 = .ok (.iload 4, 2) := dk_21 4 (dk_at dksL_law_3 8 rfl rfl)
theorem dL_law_238 : decode cL_law 238 = .ok (.iconst 2, 1) := dk_5 (dk_at dksL_law_3 10 rfl rfl)
theorem dL_law_239 : decode cL_law 239 = .ok (.iadd, 1) := dk_96 (dk_at dksL_law_3 11 rfl rfl)
theorem dL_law_240 : decode cL_law 240 = .ok (.iaload, 1) := dk_46 (dk_at dksL_law_3 12 rfl rfl)
theorem dL_law_241 : decode cL_law 241 = .ok (.aload_n 0, 1) := dk_42 (dk_at dksL_law_3 13 rfl rfl)
theorem dL_law_242 : decode cL_law 242 = .ok (.iload 4, 2) := dk_21 4 (dk_at dksL_law_3 14 rfl rfl)
theorem dL_law_244 : decode cL_law 244 = .ok (.iconst 3, 1) := dk_6 (dk_at dksL_law_3 16 rfl rfl)
theorem dL_law_245 : decode cL_law 245 = .ok (.iadd, 1) := dk_96 (dk_at dksL_law_3 17 rfl rfl)
theorem dL_law_246 : decode cL_law 246 = .ok (.iaload, 1) := dk_46 (dk_at dksL_law_3 18 rfl rfl)
theorem dL_law_247 : decode cL_law 247 = .ok (.aload_n 0, 1) := dk_42 (dk_at dksL_law_3 19 rfl rfl)
theorem dL_law_248 : decode cL_law 248 = .ok (.iload 4, 2) := dk_21 4 (dk_at dksL_law_3 20 rfl rfl)
theorem dL_law_250 : decode cL_law 250 = .ok (.iconst 4, 1) := dk_7 (dk_at dksL_law_3 22 rfl rfl)
theorem dL_law_251 : decode cL_law 251 = .ok (.iadd, 1) := dk_96 (dk_at dksL_law_3 23 rfl rfl)
theorem dL_law_252 : decode cL_law 252 = .ok (.iaload, 1) := dk_46 (dk_at dksL_law_4 0 rfl rfl)
theorem dL_law_253 : decode cL_law 253 = .ok (.aload_n 3, 1) := dk_45 (dk_at dksL_law_4 1 rfl rfl)
theorem dL_law_254 : decode cL_law 254 = .ok (.invokestatic 159, 3) := dk_184 0 159 (dk_at dksL_law_4 2 rfl rfl)
theorem dL_law_257 : decode cL_law 257 = .ok (.istore 5, 2) := dk_54 5 (dk_at dksL_law_4 5 rfl rfl)
theorem dL_law_259 : decode cL_law 259 = .ok (.aload_n 2, 1) := dk_44 (dk_at dksL_law_4 7 rfl rfl)
theorem dL_law_260 : decode cL_law 260 = .ok (.aload_n 0, 1) := dk_42 (dk_at dksL_law_4 8 rfl rfl)
theorem dL_law_261 : decode cL_law 261 = .ok (.iload 4, 2) := dk_21 4 (dk_at dksL_law_4 9 rfl rfl)
theorem dL_law_263 : decode cL_law 263 = .ok (.iconst 1, 1) := dk_4 (dk_at dksL_law_4 11 rfl rfl)
theorem dL_law_264 : decode cL_law 264 = .ok (.iadd, 1) := dk_96 (dk_at dksL_law_4 12 rfl rfl)
theorem dL_law_265 : decode cL_law 265 = .ok (.iaload, 1) := dk_46 (dk_at dksL_law_4 13 rfl rfl)
theorem dL_law_266 : decode cL_law 266 = .ok (.aload_n 0, 1) := dk_42 (dk_at dksL_law_4 14 rfl rfl)
theorem dL_law_267 : decode cL_law 267 = .ok (.iload 4, 2) := dk_21 4 (dk_at dksL_law_4 15 rfl rfl)
theorem dL_law_269 : decode cL_law 269 = .ok (.iconst 2, 1) := dk_5 (dk_at dksL_law_4 17 rfl rfl)
theorem dL_law_270 : decode cL_law 270 = .ok (.iadd, 1) := dk_96 (dk_at dksL_law_4 18 rfl rfl)
theorem dL_law_271 : decode cL_law 271 = .ok (.iaload, 1) := dk_46 (dk_at dksL_law_4 19 rfl rfl)
theorem dL_law_272 : decode cL_law 272 = .ok (.aload_n 0, 1) := dk_42 (dk_at dksL_law_4 20 rfl rfl)
theorem dL_law_273 : decode cL_law 273 = .ok (.iload 4, 2) := dk_21 4 (dk_at dksL_law_4 21 rfl rfl)
theorem dL_law_275 : decode cL_law 275 = .ok (.iconst 3, 1) := dk_6 (dk_at dksL_law_4 23 rfl rfl)
theorem dL_law_276 : decode cL_law 276 = .ok (.iadd, 1) := dk_96 (dk_at dksL_law_5 0 rfl rfl)
theorem dL_law_277 : decode cL_law 277 = .ok (.iaload, 1) := dk_46 (dk_at dksL_law_5 1 rfl rfl)
theorem dL_law_278 : decode cL_law 278 = .ok (.aload_n 0, 1) := dk_42 (dk_at dksL_law_5 2 rfl rfl)
theorem dL_law_279 : decode cL_law 279 = .ok (.iload 4, 2) := dk_21 4 (dk_at dksL_law_5 3 rfl rfl)
theorem dL_law_281 : decode cL_law 281 = .ok (.iconst 4, 1) := dk_7 (dk_at dksL_law_5 5 rfl rfl)
theorem dL_law_282 : decode cL_law 282 = .ok (.iadd, 1) := dk_96 (dk_at dksL_law_5 6 rfl rfl)
theorem dL_law_283 : decode cL_law 283 = .ok (.iaload, 1) := dk_46 (dk_at dksL_law_5 7 rfl rfl)
theorem dL_law_284 : decode cL_law 284 = .ok (.invokevirtual 164, 3) := dk_182 0 164 (dk_at dksL_law_5 8 rfl rfl)
theorem dL_law_287 : decode cL_law 287 = .ok (.istore 6, 2) := dk_54 6 (dk_at dksL_law_5 11 rfl rfl)
theorem dL_law_289 : decode cL_law 289 = .ok (.aload_n 2, 1) := dk_44 (dk_at dksL_law_5 13 rfl rfl)
theorem dL_law_290 : decode cL_law 290 = .ok (.invokevirtual 165, 3) := dk_182 0 165 (dk_at dksL_law_5 14 rfl rfl)
theorem dL_law_293 : decode cL_law 293 = .ok (.iload 5, 2) := dk_21 5 (dk_at dksL_law_5 17 rfl rfl)
theorem dL_law_295 : decode cL_law 295 = .ok (.if_icmp .eq 5, 3) := dk_159 0 5 (dk_at dksL_law_5 19 rfl rfl)
theorem dL_law_298 : decode cL_law 298 = .ok (.iconst 0, 1) := dk_3 (dk_at dksL_law_5 22 rfl rfl)
theorem dL_law_299 : decode cL_law 299 = .ok (.ireturn, 1) := dk_172 (dk_at dksL_law_5 23 rfl rfl)
theorem dL_law_300 : decode cL_law 300 = .ok (.iload 5, 2) := dk_21 5 (dk_at dksL_law_6 0 rfl rfl)
theorem dL_law_302 : decode cL_law 302 = .ok (.ifCond .ne 16, 3) := dk_154 0 16 (dk_at dksL_law_6 2 rfl rfl)
theorem dL_law_305 : decode cL_law 305 = .ok (.aload_n 3, 1) := dk_45 (dk_at dksL_law_6 5 rfl rfl)
theorem dL_law_306 : decode cL_law 306 = .ok (.getfield 13, 3) := dk_180 0 13 (dk_at dksL_law_6 6 rfl rfl)
theorem dL_law_309 : decode cL_law 309 = .ok (.iload 6, 2) := dk_21 6 (dk_at dksL_law_6 9 rfl rfl)
theorem dL_law_311 : decode cL_law 311 = .ok (.i2l, 1) := dk_133 (dk_at dksL_law_6 11 rfl rfl)
theorem dL_law_312 : decode cL_law 312 = .ok (.lcmp, 1) := dk_148 (dk_at dksL_law_6 12 rfl rfl)
theorem dL_law_313 : decode cL_law 313 = .ok (.ifCond .eq 5, 3) := dk_153 0 5 (dk_at dksL_law_6 13 rfl rfl)
theorem dL_law_316 : decode cL_law 316 = .ok (.iconst 0, 1) := dk_3 (dk_at dksL_law_6 16 rfl rfl)
theorem dL_law_317 : decode cL_law 317 = .ok (.ireturn, 1) := dk_172 (dk_at dksL_law_6 17 rfl rfl)
theorem dL_law_318 : decode cL_law 318 = .ok (.goto 2705, 3) := dk_167 10 145 (dk_at dksL_law_6 18 rfl rfl)
theorem dL_law_321 : decode cL_law 321 = .ok (.aload_n 1, 1) := dk_43 (dk_at dksL_law_6 21 rfl rfl)
theorem dL_law_322 : decode cL_law 322 = .ok (.aload_n 0, 1) := dk_42 (dk_at dksL_law_6 22 rfl rfl)
theorem dL_law_323 : decode cL_law 323 = .ok (.iload 4, 2) := dk_21 4 (dk_at dksL_law_7 0 rfl rfl)
theorem dL_law_325 : decode cL_law 325 = .ok (.iconst 1, 1) := dk_4 (dk_at dksL_law_7 2 rfl rfl)
theorem dL_law_326 : decode cL_law 326 = .ok (.iadd, 1) := dk_96 (dk_at dksL_law_7 3 rfl rfl)
theorem dL_law_327 : decode cL_law 327 = .ok (.iaload, 1) := dk_46 (dk_at dksL_law_7 4 rfl rfl)
theorem dL_law_328 : decode cL_law 328 = .ok (.aload_n 0, 1) := dk_42 (dk_at dksL_law_7 5 rfl rfl)
theorem dL_law_329 : decode cL_law 329 = .ok (.iload 4, 2) := dk_21 4 (dk_at dksL_law_7 6 rfl rfl)
theorem dL_law_331 : decode cL_law 331 = .ok (.iconst 2, 1) := dk_5 (dk_at dksL_law_7 8 rfl rfl)
theorem dL_law_332 : decode cL_law 332 = .ok (.iadd, 1) := dk_96 (dk_at dksL_law_7 9 rfl rfl)
theorem dL_law_333 : decode cL_law 333 = .ok (.iaload, 1) := dk_46 (dk_at dksL_law_7 10 rfl rfl)
theorem dL_law_334 : decode cL_law 334 = .ok (.aload_n 3, 1) := dk_45 (dk_at dksL_law_7 11 rfl rfl)
theorem dL_law_335 : decode cL_law 335 = .ok (.invokestatic 169, 3) := dk_184 0 169 (dk_at dksL_law_7 12 rfl rfl)
theorem dL_law_338 : decode cL_law 338 = .ok (.istore 5, 2) := dk_54 5 (dk_at dksL_law_7 15 rfl rfl)
theorem dL_law_340 : decode cL_law 340 = .ok (.aload_n 2, 1) := dk_44 (dk_at dksL_law_7 17 rfl rfl)
theorem dL_law_341 : decode cL_law 341 = .ok (.aload_n 0, 1) := dk_42 (dk_at dksL_law_7 18 rfl rfl)
theorem dL_law_342 : decode cL_law 342 = .ok (.iload 4, 2) := dk_21 4 (dk_at dksL_law_7 19 rfl rfl)
theorem dL_law_344 : decode cL_law 344 = .ok (.iconst 1, 1) := dk_4 (dk_at dksL_law_7 21 rfl rfl)
theorem dL_law_345 : decode cL_law 345 = .ok (.iadd, 1) := dk_96 (dk_at dksL_law_7 22 rfl rfl)
theorem dL_law_346 : decode cL_law 346 = .ok (.iaload, 1) := dk_46 (dk_at dksL_law_7 23 rfl rfl)
theorem dL_law_347 : decode cL_law 347 = .ok (.aload_n 0, 1) := dk_42 (dk_at dksL_law_8 0 rfl rfl)
theorem dL_law_348 : decode cL_law 348 = .ok (.iload 4, 2) := dk_21 4 (dk_at dksL_law_8 1 rfl rfl)
theorem dL_law_350 : decode cL_law 350 = .ok (.iconst 2, 1) := dk_5 (dk_at dksL_law_8 3 rfl rfl)
theorem dL_law_351 : decode cL_law 351 = .ok (.iadd, 1) := dk_96 (dk_at dksL_law_8 4 rfl rfl)
theorem dL_law_352 : decode cL_law 352 = .ok (.iaload, 1) := dk_46 (dk_at dksL_law_8 5 rfl rfl)
theorem dL_law_353 : decode cL_law 353 = .ok (.invokevirtual 172, 3) := dk_182 0 172 (dk_at dksL_law_8 6 rfl rfl)
theorem dL_law_356 : decode cL_law 356 = .ok (.istore 6, 2) := dk_54 6 (dk_at dksL_law_8 9 rfl rfl)
theorem dL_law_358 : decode cL_law 358 = .ok (.aload_n 2, 1) := dk_44 (dk_at dksL_law_8 11 rfl rfl)
theorem dL_law_359 : decode cL_law 359 = .ok (.invokevirtual 165, 3) := dk_182 0 165 (dk_at dksL_law_8 12 rfl rfl)
theorem dL_law_362 : decode cL_law 362 = .ok (.iload 5, 2) := dk_21 5 (dk_at dksL_law_8 15 rfl rfl)
theorem dL_law_364 : decode cL_law 364 = .ok (.if_icmp .eq 5, 3) := dk_159 0 5 (dk_at dksL_law_8 17 rfl rfl)
theorem dL_law_367 : decode cL_law 367 = .ok (.iconst 0, 1) := dk_3 (dk_at dksL_law_8 20 rfl rfl)
theorem dL_law_368 : decode cL_law 368 = .ok (.ireturn, 1) := dk_172 (dk_at dksL_law_8 21 rfl rfl)
theorem dL_law_369 : decode cL_law 369 = .ok (.iload 5, 2) := dk_21 5 (dk_at dksL_law_8 22 rfl rfl)
theorem dL_law_371 : decode cL_law 371 = .ok (.ifCond .ne 16, 3) := dk_154 0 16 (dk_at dksL_law_9 0 rfl rfl)
theorem dL_law_374 : decode cL_law 374 = .ok (.aload_n 3, 1) := dk_45 (dk_at dksL_law_9 3 rfl rfl)
theorem dL_law_375 : decode cL_law 375 = .ok (.getfield 13, 3) := dk_180 0 13 (dk_at dksL_law_9 4 rfl rfl)
theorem dL_law_378 : decode cL_law 378 = .ok (.iload 6, 2) := dk_21 6 (dk_at dksL_law_9 7 rfl rfl)
theorem dL_law_380 : decode cL_law 380 = .ok (.i2l, 1) := dk_133 (dk_at dksL_law_9 9 rfl rfl)
theorem dL_law_381 : decode cL_law 381 = .ok (.lcmp, 1) := dk_148 (dk_at dksL_law_9 10 rfl rfl)
theorem dL_law_382 : decode cL_law 382 = .ok (.ifCond .eq 5, 3) := dk_153 0 5 (dk_at dksL_law_9 11 rfl rfl)
theorem dL_law_385 : decode cL_law 385 = .ok (.iconst 0, 1) := dk_3 (dk_at dksL_law_9 14 rfl rfl)
theorem dL_law_386 : decode cL_law 386 = .ok (.ireturn, 1) := dk_172 (dk_at dksL_law_9 15 rfl rfl)
theorem dL_law_387 : decode cL_law 387 = .ok (.goto 2636, 3) := dk_167 10 76 (dk_at dksL_law_9 16 rfl rfl)
theorem dL_law_390 : decode cL_law 390 = .ok (.aload_n 1, 1) := dk_43 (dk_at dksL_law_9 19 rfl rfl)
theorem dL_law_391 : decode cL_law 391 = .ok (.aload_n 0, 1) := dk_42 (dk_at dksL_law_9 20 rfl rfl)
theorem dL_law_392 : decode cL_law 392 = .ok (.iload 4, 2) := dk_21 4 (dk_at dksL_law_9 21 rfl rfl)
theorem dL_law_394 : decode cL_law 394 = .ok (.iconst 1, 1) := dk_4 (dk_at dksL_law_9 23 rfl rfl)
theorem dL_law_395 : decode cL_law 395 = .ok (.iadd, 1) := dk_96 (dk_at dksL_law_10 0 rfl rfl)
theorem dL_law_396 : decode cL_law 396 = .ok (.iaload, 1) := dk_46 (dk_at dksL_law_10 1 rfl rfl)
theorem dL_law_397 : decode cL_law 397 = .ok (.aload_n 3, 1) := dk_45 (dk_at dksL_law_10 2 rfl rfl)
theorem dL_law_398 : decode cL_law 398 = .ok (.invokestatic 173, 3) := dk_184 0 173 (dk_at dksL_law_10 3 rfl rfl)
theorem dL_law_401 : decode cL_law 401 = .ok (.istore 5, 2) := dk_54 5 (dk_at dksL_law_10 6 rfl rfl)
theorem dL_law_403 : decode cL_law 403 = .ok (.aload_n 2, 1) := dk_44 (dk_at dksL_law_10 8 rfl rfl)
theorem dL_law_404 : decode cL_law 404 = .ok (.aload_n 0, 1) := dk_42 (dk_at dksL_law_10 9 rfl rfl)
theorem dL_law_405 : decode cL_law 405 = .ok (.iload 4, 2) := dk_21 4 (dk_at dksL_law_10 10 rfl rfl)
theorem dL_law_407 : decode cL_law 407 = .ok (.iconst 1, 1) := dk_4 (dk_at dksL_law_10 12 rfl rfl)
theorem dL_law_408 : decode cL_law 408 = .ok (.iadd, 1) := dk_96 (dk_at dksL_law_10 13 rfl rfl)
theorem dL_law_409 : decode cL_law 409 = .ok (.iaload, 1) := dk_46 (dk_at dksL_law_10 14 rfl rfl)
theorem dL_law_410 : decode cL_law 410 = .ok (.invokevirtual 176, 3) := dk_182 0 176 (dk_at dksL_law_10 15 rfl rfl)
theorem dL_law_413 : decode cL_law 413 = .ok (.istore 6, 2) := dk_54 6 (dk_at dksL_law_10 18 rfl rfl)
theorem dL_law_415 : decode cL_law 415 = .ok (.aload_n 2, 1) := dk_44 (dk_at dksL_law_10 20 rfl rfl)
theorem dL_law_416 : decode cL_law 416 = .ok (.invokevirtual 165, 3) := dk_182 0 165 (dk_at dksL_law_10 21 rfl rfl)
theorem dL_law_419 : decode cL_law 419 = .ok (.iload 5, 2) := dk_21 5 (dk_at dksL_law_11 0 rfl rfl)
theorem dL_law_421 : decode cL_law 421 = .ok (.if_icmp .eq 5, 3) := dk_159 0 5 (dk_at dksL_law_11 2 rfl rfl)
theorem dL_law_424 : decode cL_law 424 = .ok (.iconst 0, 1) := dk_3 (dk_at dksL_law_11 5 rfl rfl)
theorem dL_law_425 : decode cL_law 425 = .ok (.ireturn, 1) := dk_172 (dk_at dksL_law_11 6 rfl rfl)
theorem dL_law_426 : decode cL_law 426 = .ok (.iload 5, 2) := dk_21 5 (dk_at dksL_law_11 7 rfl rfl)
theorem dL_law_428 : decode cL_law 428 = .ok (.ifCond .ne 16, 3) := dk_154 0 16 (dk_at dksL_law_11 9 rfl rfl)
theorem dL_law_431 : decode cL_law 431 = .ok (.aload_n 3, 1) := dk_45 (dk_at dksL_law_11 12 rfl rfl)
theorem dL_law_432 : decode cL_law 432 = .ok (.getfield 13, 3) := dk_180 0 13 (dk_at dksL_law_11 13 rfl rfl)
theorem dL_law_435 : decode cL_law 435 = .ok (.iload 6, 2) := dk_21 6 (dk_at dksL_law_11 16 rfl rfl)
theorem dL_law_437 : decode cL_law 437 = .ok (.i2l, 1) := dk_133 (dk_at dksL_law_11 18 rfl rfl)
theorem dL_law_438 : decode cL_law 438 = .ok (.lcmp, 1) := dk_148 (dk_at dksL_law_11 19 rfl rfl)
theorem dL_law_439 : decode cL_law 439 = .ok (.ifCond .eq 5, 3) := dk_153 0 5 (dk_at dksL_law_11 20 rfl rfl)
theorem dL_law_442 : decode cL_law 442 = .ok (.iconst 0, 1) := dk_3 (dk_at dksL_law_11 23 rfl rfl)
theorem dL_law_443 : decode cL_law 443 = .ok (.ireturn, 1) := dk_172 (dk_at dksL_law_12 0 rfl rfl)
theorem dL_law_444 : decode cL_law 444 = .ok (.goto 2579, 3) := dk_167 10 19 (dk_at dksL_law_12 1 rfl rfl)
theorem dL_law_447 : decode cL_law 447 = .ok (.aload_n 1, 1) := dk_43 (dk_at dksL_law_12 4 rfl rfl)
theorem dL_law_448 : decode cL_law 448 = .ok (.aload_n 0, 1) := dk_42 (dk_at dksL_law_12 5 rfl rfl)
theorem dL_law_449 : decode cL_law 449 = .ok (.iload 4, 2) := dk_21 4 (dk_at dksL_law_12 6 rfl rfl)
theorem dL_law_451 : decode cL_law 451 = .ok (.iconst 1, 1) := dk_4 (dk_at dksL_law_12 8 rfl rfl)
theorem dL_law_452 : decode cL_law 452 = .ok (.iadd, 1) := dk_96 (dk_at dksL_law_12 9 rfl rfl)
theorem dL_law_453 : decode cL_law 453 = .ok (.iaload, 1) := dk_46 (dk_at dksL_law_12 10 rfl rfl)
theorem dL_law_454 : decode cL_law 454 = .ok (.aload_n 3, 1) := dk_45 (dk_at dksL_law_12 11 rfl rfl)
theorem dL_law_455 : decode cL_law 455 = .ok (.invokestatic 177, 3) := dk_184 0 177 (dk_at dksL_law_12 12 rfl rfl)
theorem dL_law_458 : decode cL_law 458 = .ok (.istore 5, 2) := dk_54 5 (dk_at dksL_law_12 15 rfl rfl)
theorem dL_law_460 : decode cL_law 460 = .ok (.aload_n 2, 1) := dk_44 (dk_at dksL_law_12 17 rfl rfl)
theorem dL_law_461 : decode cL_law 461 = .ok (.aload_n 0, 1) := dk_42 (dk_at dksL_law_12 18 rfl rfl)
theorem dL_law_462 : decode cL_law 462 = .ok (.iload 4, 2) := dk_21 4 (dk_at dksL_law_12 19 rfl rfl)
theorem dL_law_464 : decode cL_law 464 = .ok (.iconst 1, 1) := dk_4 (dk_at dksL_law_12 21 rfl rfl)
theorem dL_law_465 : decode cL_law 465 = .ok (.iadd, 1) := dk_96 (dk_at dksL_law_12 22 rfl rfl)
theorem dL_law_466 : decode cL_law 466 = .ok (.iaload, 1) := dk_46 (dk_at dksL_law_12 23 rfl rfl)
theorem dL_law_467 : decode cL_law 467 = .ok (.invokevirtual 179, 3) := dk_182 0 179 (dk_at dksL_law_13 0 rfl rfl)
theorem dL_law_470 : decode cL_law 470 = .ok (.istore 6, 2) := dk_54 6 (dk_at dksL_law_13 3 rfl rfl)
theorem dL_law_472 : decode cL_law 472 = .ok (.aload_n 2, 1) := dk_44 (dk_at dksL_law_13 5 rfl rfl)
theorem dL_law_473 : decode cL_law 473 = .ok (.invokevirtual 165, 3) := dk_182 0 165 (dk_at dksL_law_13 6 rfl rfl)
theorem dL_law_476 : decode cL_law 476 = .ok (.iload 5, 2) := dk_21 5 (dk_at dksL_law_13 9 rfl rfl)
theorem dL_law_478 : decode cL_law 478 = .ok (.if_icmp .eq 5, 3) := dk_159 0 5 (dk_at dksL_law_13 11 rfl rfl)
theorem dL_law_481 : decode cL_law 481 = .ok (.iconst 0, 1) := dk_3 (dk_at dksL_law_13 14 rfl rfl)
theorem dL_law_482 : decode cL_law 482 = .ok (.ireturn, 1) := dk_172 (dk_at dksL_law_13 15 rfl rfl)
theorem dL_law_483 : decode cL_law 483 = .ok (.iload 5, 2) := dk_21 5 (dk_at dksL_law_13 16 rfl rfl)
theorem dL_law_485 : decode cL_law 485 = .ok (.ifCond .ne 16, 3) := dk_154 0 16 (dk_at dksL_law_13 18 rfl rfl)
theorem dL_law_488 : decode cL_law 488 = .ok (.aload_n 3, 1) := dk_45 (dk_at dksL_law_13 21 rfl rfl)
theorem dL_law_489 : decode cL_law 489 = .ok (.getfield 13, 3) := dk_180 0 13 (dk_at dksL_law_14 0 rfl rfl)
theorem dL_law_492 : decode cL_law 492 = .ok (.iload 6, 2) := dk_21 6 (dk_at dksL_law_14 3 rfl rfl)
theorem dL_law_494 : decode cL_law 494 = .ok (.i2l, 1) := dk_133 (dk_at dksL_law_14 5 rfl rfl)
theorem dL_law_495 : decode cL_law 495 = .ok (.lcmp, 1) := dk_148 (dk_at dksL_law_14 6 rfl rfl)
theorem dL_law_496 : decode cL_law 496 = .ok (.ifCond .eq 5, 3) := dk_153 0 5 (dk_at dksL_law_14 7 rfl rfl)
theorem dL_law_499 : decode cL_law 499 = .ok (.iconst 0, 1) := dk_3 (dk_at dksL_law_14 10 rfl rfl)
theorem dL_law_500 : decode cL_law 500 = .ok (.ireturn, 1) := dk_172 (dk_at dksL_law_14 11 rfl rfl)
theorem dL_law_501 : decode cL_law 501 = .ok (.goto 2522, 3) := dk_167 9 218 (dk_at dksL_law_14 12 rfl rfl)
theorem dL_law_504 : decode cL_law 504 = .ok (.aload_n 1, 1) := dk_43 (dk_at dksL_law_14 15 rfl rfl)
theorem dL_law_505 : decode cL_law 505 = .ok (.aload_n 0, 1) := dk_42 (dk_at dksL_law_14 16 rfl rfl)
theorem dL_law_506 : decode cL_law 506 = .ok (.iload 4, 2) := dk_21 4 (dk_at dksL_law_14 17 rfl rfl)
theorem dL_law_508 : decode cL_law 508 = .ok (.iconst 1, 1) := dk_4 (dk_at dksL_law_14 19 rfl rfl)
theorem dL_law_509 : decode cL_law 509 = .ok (.iadd, 1) := dk_96 (dk_at dksL_law_14 20 rfl rfl)
theorem dL_law_510 : decode cL_law 510 = .ok (.iaload, 1) := dk_46 (dk_at dksL_law_14 21 rfl rfl)
theorem dL_law_511 : decode cL_law 511 = .ok (.aload_n 0, 1) := dk_42 (dk_at dksL_law_14 22 rfl rfl)
theorem dL_law_512 : decode cL_law 512 = .ok (.iload 4, 2) := dk_21 4 (dk_at dksL_law_15 0 rfl rfl)
theorem dL_law_514 : decode cL_law 514 = .ok (.iconst 2, 1) := dk_5 (dk_at dksL_law_15 2 rfl rfl)
theorem dL_law_515 : decode cL_law 515 = .ok (.iadd, 1) := dk_96 (dk_at dksL_law_15 3 rfl rfl)
theorem dL_law_516 : decode cL_law 516 = .ok (.iaload, 1) := dk_46 (dk_at dksL_law_15 4 rfl rfl)
theorem dL_law_517 : decode cL_law 517 = .ok (.aload_n 0, 1) := dk_42 (dk_at dksL_law_15 5 rfl rfl)
theorem dL_law_518 : decode cL_law 518 = .ok (.iload 4, 2) := dk_21 4 (dk_at dksL_law_15 6 rfl rfl)
theorem dL_law_520 : decode cL_law 520 = .ok (.iconst 3, 1) := dk_6 (dk_at dksL_law_15 8 rfl rfl)
theorem dL_law_521 : decode cL_law 521 = .ok (.iadd, 1) := dk_96 (dk_at dksL_law_15 9 rfl rfl)
theorem dL_law_522 : decode cL_law 522 = .ok (.iaload, 1) := dk_46 (dk_at dksL_law_15 10 rfl rfl)
theorem dL_law_523 : decode cL_law 523 = .ok (.aload_n 3, 1) := dk_45 (dk_at dksL_law_15 11 rfl rfl)
theorem dL_law_524 : decode cL_law 524 = .ok (.invokestatic 180, 3) := dk_184 0 180 (dk_at dksL_law_15 12 rfl rfl)
theorem dL_law_527 : decode cL_law 527 = .ok (.istore 5, 2) := dk_54 5 (dk_at dksL_law_15 15 rfl rfl)
theorem dL_law_529 : decode cL_law 529 = .ok (.aload_n 2, 1) := dk_44 (dk_at dksL_law_15 17 rfl rfl)
theorem dL_law_530 : decode cL_law 530 = .ok (.aload_n 0, 1) := dk_42 (dk_at dksL_law_15 18 rfl rfl)
theorem dL_law_531 : decode cL_law 531 = .ok (.iload 4, 2) := dk_21 4 (dk_at dksL_law_15 19 rfl rfl)
theorem dL_law_533 : decode cL_law 533 = .ok (.iconst 1, 1) := dk_4 (dk_at dksL_law_15 21 rfl rfl)
theorem dL_law_534 : decode cL_law 534 = .ok (.iadd, 1) := dk_96 (dk_at dksL_law_15 22 rfl rfl)
theorem dL_law_535 : decode cL_law 535 = .ok (.iaload, 1) := dk_46 (dk_at dksL_law_15 23 rfl rfl)
theorem dL_law_536 : decode cL_law 536 = .ok (.aload_n 0, 1) := dk_42 (dk_at dksL_law_16 0 rfl rfl)
theorem dL_law_537 : decode cL_law 537 = .ok (.iload 4, 2) := dk_21 4 (dk_at dksL_law_16 1 rfl rfl)
theorem dL_law_539 : decode cL_law 539 = .ok (.iconst 2, 1) := dk_5 (dk_at dksL_law_16 3 rfl rfl)
theorem dL_law_540 : decode cL_law 540 = .ok (.iadd, 1) := dk_96 (dk_at dksL_law_16 4 rfl rfl)
theorem dL_law_541 : decode cL_law 541 = .ok (.iaload, 1) := dk_46 (dk_at dksL_law_16 5 rfl rfl)
theorem dL_law_542 : decode cL_law 542 = .ok (.aload_n 0, 1) := dk_42 (dk_at dksL_law_16 6 rfl rfl)
theorem dL_law_543 : decode cL_law 543 = .ok (.iload 4, 2) := dk_21 4 (dk_at dksL_law_16 7 rfl rfl)
theorem dL_law_545 : decode cL_law 545 = .ok (.iconst 3, 1) := dk_6 (dk_at dksL_law_16 9 rfl rfl)
theorem dL_law_546 : decode cL_law 546 = .ok (.iadd, 1) := dk_96 (dk_at dksL_law_16 10 rfl rfl)
theorem dL_law_547 : decode cL_law 547 = .ok (.iaload, 1) := dk_46 (dk_at dksL_law_16 11 rfl rfl)
theorem dL_law_548 : decode cL_law 548 = .ok (.invokevirtual 183, 3) := dk_182 0 183 (dk_at dksL_law_16 12 rfl rfl)
theorem dL_law_551 : decode cL_law 551 = .ok (.istore 6, 2) := dk_54 6 (dk_at dksL_law_16 15 rfl rfl)
theorem dL_law_553 : decode cL_law 553 = .ok (.aload_n 2, 1) := dk_44 (dk_at dksL_law_16 17 rfl rfl)
theorem dL_law_554 : decode cL_law 554 = .ok (.invokevirtual 165, 3) := dk_182 0 165 (dk_at dksL_law_16 18 rfl rfl)
theorem dL_law_557 : decode cL_law 557 = .ok (.iload 5, 2) := dk_21 5 (dk_at dksL_law_16 21 rfl rfl)
theorem dL_law_559 : decode cL_law 559 = .ok (.if_icmp .eq 5, 3) := dk_159 0 5 (dk_at dksL_law_17 0 rfl rfl)
theorem dL_law_562 : decode cL_law 562 = .ok (.iconst 0, 1) := dk_3 (dk_at dksL_law_17 3 rfl rfl)
theorem dL_law_563 : decode cL_law 563 = .ok (.ireturn, 1) := dk_172 (dk_at dksL_law_17 4 rfl rfl)
theorem dL_law_564 : decode cL_law 564 = .ok (.iload 5, 2) := dk_21 5 (dk_at dksL_law_17 5 rfl rfl)
theorem dL_law_566 : decode cL_law 566 = .ok (.ifCond .ne 16, 3) := dk_154 0 16 (dk_at dksL_law_17 7 rfl rfl)
theorem dL_law_569 : decode cL_law 569 = .ok (.aload_n 3, 1) := dk_45 (dk_at dksL_law_17 10 rfl rfl)
theorem dL_law_570 : decode cL_law 570 = .ok (.getfield 13, 3) := dk_180 0 13 (dk_at dksL_law_17 11 rfl rfl)
theorem dL_law_573 : decode cL_law 573 = .ok (.iload 6, 2) := dk_21 6 (dk_at dksL_law_17 14 rfl rfl)
theorem dL_law_575 : decode cL_law 575 = .ok (.i2l, 1) := dk_133 (dk_at dksL_law_17 16 rfl rfl)
theorem dL_law_576 : decode cL_law 576 = .ok (.lcmp, 1) := dk_148 (dk_at dksL_law_17 17 rfl rfl)
theorem dL_law_577 : decode cL_law 577 = .ok (.ifCond .eq 5, 3) := dk_153 0 5 (dk_at dksL_law_17 18 rfl rfl)
theorem dL_law_580 : decode cL_law 580 = .ok (.iconst 0, 1) := dk_3 (dk_at dksL_law_17 21 rfl rfl)
theorem dL_law_581 : decode cL_law 581 = .ok (.ireturn, 1) := dk_172 (dk_at dksL_law_17 22 rfl rfl)
theorem dL_law_582 : decode cL_law 582 = .ok (.goto 2441, 3) := dk_167 9 137 (dk_at dksL_law_18 0 rfl rfl)
theorem dL_law_585 : decode cL_law 585 = .ok (.aload_n 1, 1) := dk_43 (dk_at dksL_law_18 3 rfl rfl)
theorem dL_law_586 : decode cL_law 586 = .ok (.aload_n 0, 1) := dk_42 (dk_at dksL_law_18 4 rfl rfl)
theorem dL_law_587 : decode cL_law 587 = .ok (.iload 4, 2) := dk_21 4 (dk_at dksL_law_18 5 rfl rfl)
theorem dL_law_589 : decode cL_law 589 = .ok (.iconst 1, 1) := dk_4 (dk_at dksL_law_18 7 rfl rfl)
theorem dL_law_590 : decode cL_law 590 = .ok (.iadd, 1) := dk_96 (dk_at dksL_law_18 8 rfl rfl)
theorem dL_law_591 : decode cL_law 591 = .ok (.iaload, 1) := dk_46 (dk_at dksL_law_18 9 rfl rfl)
theorem dL_law_592 : decode cL_law 592 = .ok (.aload_n 3, 1) := dk_45 (dk_at dksL_law_18 10 rfl rfl)
theorem dL_law_593 : decode cL_law 593 = .ok (.invokestatic 184, 3) := dk_184 0 184 (dk_at dksL_law_18 11 rfl rfl)
theorem dL_law_596 : decode cL_law 596 = .ok (.istore 5, 2) := dk_54 5 (dk_at dksL_law_18 14 rfl rfl)
theorem dL_law_598 : decode cL_law 598 = .ok (.aload_n 2, 1) := dk_44 (dk_at dksL_law_18 16 rfl rfl)
theorem dL_law_599 : decode cL_law 599 = .ok (.aload_n 0, 1) := dk_42 (dk_at dksL_law_18 17 rfl rfl)
theorem dL_law_600 : decode cL_law 600 = .ok (.iload 4, 2) := dk_21 4 (dk_at dksL_law_18 18 rfl rfl)
theorem dL_law_602 : decode cL_law 602 = .ok (.iconst 1, 1) := dk_4 (dk_at dksL_law_18 20 rfl rfl)
theorem dL_law_603 : decode cL_law 603 = .ok (.iadd, 1) := dk_96 (dk_at dksL_law_18 21 rfl rfl)
theorem dL_law_604 : decode cL_law 604 = .ok (.iaload, 1) := dk_46 (dk_at dksL_law_18 22 rfl rfl)
theorem dL_law_605 : decode cL_law 605 = .ok (.invokevirtual 186, 3) := dk_182 0 186 (dk_at dksL_law_19 0 rfl rfl)
theorem dL_law_608 : decode cL_law 608 = .ok (.istore 6, 2) := dk_54 6 (dk_at dksL_law_19 3 rfl rfl)
theorem dL_law_610 : decode cL_law 610 = .ok (.aload_n 2, 1) := dk_44 (dk_at dksL_law_19 5 rfl rfl)
theorem dL_law_611 : decode cL_law 611 = .ok (.invokevirtual 165, 3) := dk_182 0 165 (dk_at dksL_law_19 6 rfl rfl)
theorem dL_law_614 : decode cL_law 614 = .ok (.iload 5, 2) := dk_21 5 (dk_at dksL_law_19 9 rfl rfl)
theorem dL_law_616 : decode cL_law 616 = .ok (.if_icmp .eq 5, 3) := dk_159 0 5 (dk_at dksL_law_19 11 rfl rfl)
theorem dL_law_619 : decode cL_law 619 = .ok (.iconst 0, 1) := dk_3 (dk_at dksL_law_19 14 rfl rfl)
theorem dL_law_620 : decode cL_law 620 = .ok (.ireturn, 1) := dk_172 (dk_at dksL_law_19 15 rfl rfl)
theorem dL_law_621 : decode cL_law 621 = .ok (.iload 5, 2) := dk_21 5 (dk_at dksL_law_19 16 rfl rfl)
theorem dL_law_623 : decode cL_law 623 = .ok (.ifCond .ne 16, 3) := dk_154 0 16 (dk_at dksL_law_19 18 rfl rfl)
theorem dL_law_626 : decode cL_law 626 = .ok (.aload_n 3, 1) := dk_45 (dk_at dksL_law_19 21 rfl rfl)
theorem dL_law_627 : decode cL_law 627 = .ok (.getfield 13, 3) := dk_180 0 13 (dk_at dksL_law_20 0 rfl rfl)
theorem dL_law_630 : decode cL_law 630 = .ok (.iload 6, 2) := dk_21 6 (dk_at dksL_law_20 3 rfl rfl)
theorem dL_law_632 : decode cL_law 632 = .ok (.i2l, 1) := dk_133 (dk_at dksL_law_20 5 rfl rfl)
theorem dL_law_633 : decode cL_law 633 = .ok (.lcmp, 1) := dk_148 (dk_at dksL_law_20 6 rfl rfl)
theorem dL_law_634 : decode cL_law 634 = .ok (.ifCond .eq 5, 3) := dk_153 0 5 (dk_at dksL_law_20 7 rfl rfl)
theorem dL_law_637 : decode cL_law 637 = .ok (.iconst 0, 1) := dk_3 (dk_at dksL_law_20 10 rfl rfl)
theorem dL_law_638 : decode cL_law 638 = .ok (.ireturn, 1) := dk_172 (dk_at dksL_law_20 11 rfl rfl)
theorem dL_law_639 : decode cL_law 639 = .ok (.goto 2384, 3) := dk_167 9 80 (dk_at dksL_law_20 12 rfl rfl)
theorem dL_law_642 : decode cL_law 642 = .ok (.aload_n 1, 1) := dk_43 (dk_at dksL_law_20 15 rfl rfl)
theorem dL_law_643 : decode cL_law 643 = .ok (.aload_n 0, 1) := dk_42 (dk_at dksL_law_20 16 rfl rfl)
theorem dL_law_644 : decode cL_law 644 = .ok (.iload 4, 2) := dk_21 4 (dk_at dksL_law_20 17 rfl rfl)
theorem dL_law_646 : decode cL_law 646 = .ok (.iconst 1, 1) := dk_4 (dk_at dksL_law_20 19 rfl rfl)
theorem dL_law_647 : decode cL_law 647 = .ok (.iadd, 1) := dk_96 (dk_at dksL_law_20 20 rfl rfl)
theorem dL_law_648 : decode cL_law 648 = .ok (.iaload, 1) := dk_46 (dk_at dksL_law_20 21 rfl rfl)
theorem dL_law_649 : decode cL_law 649 = .ok (.aload_n 0, 1) := dk_42 (dk_at dksL_law_20 22 rfl rfl)
theorem dL_law_650 : decode cL_law 650 = .ok (.iload 4, 2) := dk_21 4 (dk_at dksL_law_21 0 rfl rfl)
theorem dL_law_652 : decode cL_law 652 = .ok (.iconst 2, 1) := dk_5 (dk_at dksL_law_21 2 rfl rfl)
theorem dL_law_653 : decode cL_law 653 = .ok (.iadd, 1) := dk_96 (dk_at dksL_law_21 3 rfl rfl)
theorem dL_law_654 : decode cL_law 654 = .ok (.iaload, 1) := dk_46 (dk_at dksL_law_21 4 rfl rfl)
theorem dL_law_655 : decode cL_law 655 = .ok (.aload_n 3, 1) := dk_45 (dk_at dksL_law_21 5 rfl rfl)
theorem dL_law_656 : decode cL_law 656 = .ok (.invokestatic 187, 3) := dk_184 0 187 (dk_at dksL_law_21 6 rfl rfl)
theorem dL_law_659 : decode cL_law 659 = .ok (.istore 5, 2) := dk_54 5 (dk_at dksL_law_21 9 rfl rfl)
theorem dL_law_661 : decode cL_law 661 = .ok (.aload_n 2, 1) := dk_44 (dk_at dksL_law_21 11 rfl rfl)
theorem dL_law_662 : decode cL_law 662 = .ok (.aload_n 0, 1) := dk_42 (dk_at dksL_law_21 12 rfl rfl)
theorem dL_law_663 : decode cL_law 663 = .ok (.iload 4, 2) := dk_21 4 (dk_at dksL_law_21 13 rfl rfl)
theorem dL_law_665 : decode cL_law 665 = .ok (.iconst 1, 1) := dk_4 (dk_at dksL_law_21 15 rfl rfl)
theorem dL_law_666 : decode cL_law 666 = .ok (.iadd, 1) := dk_96 (dk_at dksL_law_21 16 rfl rfl)
theorem dL_law_667 : decode cL_law 667 = .ok (.iaload, 1) := dk_46 (dk_at dksL_law_21 17 rfl rfl)
theorem dL_law_668 : decode cL_law 668 = .ok (.aload_n 0, 1) := dk_42 (dk_at dksL_law_21 18 rfl rfl)
theorem dL_law_669 : decode cL_law 669 = .ok (.iload 4, 2) := dk_21 4 (dk_at dksL_law_21 19 rfl rfl)
theorem dL_law_671 : decode cL_law 671 = .ok (.iconst 2, 1) := dk_5 (dk_at dksL_law_21 21 rfl rfl)
theorem dL_law_672 : decode cL_law 672 = .ok (.iadd, 1) := dk_96 (dk_at dksL_law_21 22 rfl rfl)
theorem dL_law_673 : decode cL_law 673 = .ok (.iaload, 1) := dk_46 (dk_at dksL_law_21 23 rfl rfl)
theorem dL_law_674 : decode cL_law 674 = .ok (.invokevirtual 189, 3) := dk_182 0 189 (dk_at dksL_law_22 0 rfl rfl)
theorem dL_law_677 : decode cL_law 677 = .ok (.istore 6, 2) := dk_54 6 (dk_at dksL_law_22 3 rfl rfl)
theorem dL_law_679 : decode cL_law 679 = .ok (.aload_n 2, 1) := dk_44 (dk_at dksL_law_22 5 rfl rfl)
theorem dL_law_680 : decode cL_law 680 = .ok (.invokevirtual 165, 3) := dk_182 0 165 (dk_at dksL_law_22 6 rfl rfl)
theorem dL_law_683 : decode cL_law 683 = .ok (.iload 5, 2) := dk_21 5 (dk_at dksL_law_22 9 rfl rfl)
theorem dL_law_685 : decode cL_law 685 = .ok (.if_icmp .eq 5, 3) := dk_159 0 5 (dk_at dksL_law_22 11 rfl rfl)
theorem dL_law_688 : decode cL_law 688 = .ok (.iconst 0, 1) := dk_3 (dk_at dksL_law_22 14 rfl rfl)
theorem dL_law_689 : decode cL_law 689 = .ok (.ireturn, 1) := dk_172 (dk_at dksL_law_22 15 rfl rfl)
theorem dL_law_690 : decode cL_law 690 = .ok (.iload 5, 2) := dk_21 5 (dk_at dksL_law_22 16 rfl rfl)
theorem dL_law_692 : decode cL_law 692 = .ok (.ifCond .ne 16, 3) := dk_154 0 16 (dk_at dksL_law_22 18 rfl rfl)
theorem dL_law_695 : decode cL_law 695 = .ok (.aload_n 3, 1) := dk_45 (dk_at dksL_law_22 21 rfl rfl)
theorem dL_law_696 : decode cL_law 696 = .ok (.getfield 13, 3) := dk_180 0 13 (dk_at dksL_law_23 0 rfl rfl)
theorem dL_law_699 : decode cL_law 699 = .ok (.iload 6, 2) := dk_21 6 (dk_at dksL_law_23 3 rfl rfl)
theorem dL_law_701 : decode cL_law 701 = .ok (.i2l, 1) := dk_133 (dk_at dksL_law_23 5 rfl rfl)
theorem dL_law_702 : decode cL_law 702 = .ok (.lcmp, 1) := dk_148 (dk_at dksL_law_23 6 rfl rfl)
theorem dL_law_703 : decode cL_law 703 = .ok (.ifCond .eq 5, 3) := dk_153 0 5 (dk_at dksL_law_23 7 rfl rfl)
theorem dL_law_706 : decode cL_law 706 = .ok (.iconst 0, 1) := dk_3 (dk_at dksL_law_23 10 rfl rfl)
theorem dL_law_707 : decode cL_law 707 = .ok (.ireturn, 1) := dk_172 (dk_at dksL_law_23 11 rfl rfl)
theorem dL_law_708 : decode cL_law 708 = .ok (.goto 2315, 3) := dk_167 9 11 (dk_at dksL_law_23 12 rfl rfl)
theorem dL_law_711 : decode cL_law 711 = .ok (.aload_n 1, 1) := dk_43 (dk_at dksL_law_23 15 rfl rfl)
theorem dL_law_712 : decode cL_law 712 = .ok (.aload_n 0, 1) := dk_42 (dk_at dksL_law_23 16 rfl rfl)
theorem dL_law_713 : decode cL_law 713 = .ok (.iload 4, 2) := dk_21 4 (dk_at dksL_law_23 17 rfl rfl)
theorem dL_law_715 : decode cL_law 715 = .ok (.iconst 1, 1) := dk_4 (dk_at dksL_law_23 19 rfl rfl)
theorem dL_law_716 : decode cL_law 716 = .ok (.iadd, 1) := dk_96 (dk_at dksL_law_23 20 rfl rfl)
theorem dL_law_717 : decode cL_law 717 = .ok (.iaload, 1) := dk_46 (dk_at dksL_law_23 21 rfl rfl)
theorem dL_law_718 : decode cL_law 718 = .ok (.aload_n 0, 1) := dk_42 (dk_at dksL_law_23 22 rfl rfl)
theorem dL_law_719 : decode cL_law 719 = .ok (.iload 4, 2) := dk_21 4 (dk_at dksL_law_24 0 rfl rfl)
theorem dL_law_721 : decode cL_law 721 = .ok (.iconst 2, 1) := dk_5 (dk_at dksL_law_24 2 rfl rfl)
theorem dL_law_722 : decode cL_law 722 = .ok (.iadd, 1) := dk_96 (dk_at dksL_law_24 3 rfl rfl)
theorem dL_law_723 : decode cL_law 723 = .ok (.iaload, 1) := dk_46 (dk_at dksL_law_24 4 rfl rfl)
theorem dL_law_724 : decode cL_law 724 = .ok (.aload_n 3, 1) := dk_45 (dk_at dksL_law_24 5 rfl rfl)
theorem dL_law_725 : decode cL_law 725 = .ok (.invokestatic 190, 3) := dk_184 0 190 (dk_at dksL_law_24 6 rfl rfl)
theorem dL_law_728 : decode cL_law 728 = .ok (.istore 5, 2) := dk_54 5 (dk_at dksL_law_24 9 rfl rfl)
theorem dL_law_730 : decode cL_law 730 = .ok (.aload_n 2, 1) := dk_44 (dk_at dksL_law_24 11 rfl rfl)
theorem dL_law_731 : decode cL_law 731 = .ok (.aload_n 0, 1) := dk_42 (dk_at dksL_law_24 12 rfl rfl)
theorem dL_law_732 : decode cL_law 732 = .ok (.iload 4, 2) := dk_21 4 (dk_at dksL_law_24 13 rfl rfl)
theorem dL_law_734 : decode cL_law 734 = .ok (.iconst 1, 1) := dk_4 (dk_at dksL_law_24 15 rfl rfl)
theorem dL_law_735 : decode cL_law 735 = .ok (.iadd, 1) := dk_96 (dk_at dksL_law_24 16 rfl rfl)
theorem dL_law_736 : decode cL_law 736 = .ok (.iaload, 1) := dk_46 (dk_at dksL_law_24 17 rfl rfl)
theorem dL_law_737 : decode cL_law 737 = .ok (.aload_n 0, 1) := dk_42 (dk_at dksL_law_24 18 rfl rfl)
theorem dL_law_738 : decode cL_law 738 = .ok (.iload 4, 2) := dk_21 4 (dk_at dksL_law_24 19 rfl rfl)
theorem dL_law_740 : decode cL_law 740 = .ok (.iconst 2, 1) := dk_5 (dk_at dksL_law_24 21 rfl rfl)
theorem dL_law_741 : decode cL_law 741 = .ok (.iadd, 1) := dk_96 (dk_at dksL_law_24 22 rfl rfl)
theorem dL_law_742 : decode cL_law 742 = .ok (.iaload, 1) := dk_46 (dk_at dksL_law_24 23 rfl rfl)
theorem dL_law_743 : decode cL_law 743 = .ok (.invokevirtual 192, 3) := dk_182 0 192 (dk_at dksL_law_25 0 rfl rfl)
theorem dL_law_746 : decode cL_law 746 = .ok (.istore 6, 2) := dk_54 6 (dk_at dksL_law_25 3 rfl rfl)
theorem dL_law_748 : decode cL_law 748 = .ok (.aload_n 2, 1) := dk_44 (dk_at dksL_law_25 5 rfl rfl)
theorem dL_law_749 : decode cL_law 749 = .ok (.invokevirtual 165, 3) := dk_182 0 165 (dk_at dksL_law_25 6 rfl rfl)
theorem dL_law_752 : decode cL_law 752 = .ok (.iload 5, 2) := dk_21 5 (dk_at dksL_law_25 9 rfl rfl)
theorem dL_law_754 : decode cL_law 754 = .ok (.if_icmp .eq 5, 3) := dk_159 0 5 (dk_at dksL_law_25 11 rfl rfl)
theorem dL_law_757 : decode cL_law 757 = .ok (.iconst 0, 1) := dk_3 (dk_at dksL_law_25 14 rfl rfl)
theorem dL_law_758 : decode cL_law 758 = .ok (.ireturn, 1) := dk_172 (dk_at dksL_law_25 15 rfl rfl)
theorem dL_law_759 : decode cL_law 759 = .ok (.iload 5, 2) := dk_21 5 (dk_at dksL_law_25 16 rfl rfl)
theorem dL_law_761 : decode cL_law 761 = .ok (.ifCond .ne 16, 3) := dk_154 0 16 (dk_at dksL_law_25 18 rfl rfl)
theorem dL_law_764 : decode cL_law 764 = .ok (.aload_n 3, 1) := dk_45 (dk_at dksL_law_25 21 rfl rfl)
theorem dL_law_765 : decode cL_law 765 = .ok (.getfield 13, 3) := dk_180 0 13 (dk_at dksL_law_26 0 rfl rfl)
theorem dL_law_768 : decode cL_law 768 = .ok (.iload 6, 2) := dk_21 6 (dk_at dksL_law_26 3 rfl rfl)
theorem dL_law_770 : decode cL_law 770 = .ok (.i2l, 1) := dk_133 (dk_at dksL_law_26 5 rfl rfl)
theorem dL_law_771 : decode cL_law 771 = .ok (.lcmp, 1) := dk_148 (dk_at dksL_law_26 6 rfl rfl)
theorem dL_law_772 : decode cL_law 772 = .ok (.ifCond .eq 5, 3) := dk_153 0 5 (dk_at dksL_law_26 7 rfl rfl)
theorem dL_law_775 : decode cL_law 775 = .ok (.iconst 0, 1) := dk_3 (dk_at dksL_law_26 10 rfl rfl)
theorem dL_law_776 : decode cL_law 776 = .ok (.ireturn, 1) := dk_172 (dk_at dksL_law_26 11 rfl rfl)
theorem dL_law_777 : decode cL_law 777 = .ok (.goto 2246, 3) := dk_167 8 198 (dk_at dksL_law_26 12 rfl rfl)
theorem dL_law_780 : decode cL_law 780 = .ok (.aload_n 1, 1) := dk_43 (dk_at dksL_law_26 15 rfl rfl)
theorem dL_law_781 : decode cL_law 781 = .ok (.aload_n 0, 1) := dk_42 (dk_at dksL_law_26 16 rfl rfl)
theorem dL_law_782 : decode cL_law 782 = .ok (.iload 4, 2) := dk_21 4 (dk_at dksL_law_26 17 rfl rfl)
theorem dL_law_784 : decode cL_law 784 = .ok (.iconst 1, 1) := dk_4 (dk_at dksL_law_26 19 rfl rfl)
theorem dL_law_785 : decode cL_law 785 = .ok (.iadd, 1) := dk_96 (dk_at dksL_law_26 20 rfl rfl)
theorem dL_law_786 : decode cL_law 786 = .ok (.iaload, 1) := dk_46 (dk_at dksL_law_26 21 rfl rfl)
theorem dL_law_787 : decode cL_law 787 = .ok (.aload_n 0, 1) := dk_42 (dk_at dksL_law_26 22 rfl rfl)
theorem dL_law_788 : decode cL_law 788 = .ok (.iload 4, 2) := dk_21 4 (dk_at dksL_law_27 0 rfl rfl)
theorem dL_law_790 : decode cL_law 790 = .ok (.iconst 2, 1) := dk_5 (dk_at dksL_law_27 2 rfl rfl)
theorem dL_law_791 : decode cL_law 791 = .ok (.iadd, 1) := dk_96 (dk_at dksL_law_27 3 rfl rfl)
theorem dL_law_792 : decode cL_law 792 = .ok (.iaload, 1) := dk_46 (dk_at dksL_law_27 4 rfl rfl)
theorem dL_law_793 : decode cL_law 793 = .ok (.aload_n 3, 1) := dk_45 (dk_at dksL_law_27 5 rfl rfl)
theorem dL_law_794 : decode cL_law 794 = .ok (.invokestatic 193, 3) := dk_184 0 193 (dk_at dksL_law_27 6 rfl rfl)
theorem dL_law_797 : decode cL_law 797 = .ok (.istore 5, 2) := dk_54 5 (dk_at dksL_law_27 9 rfl rfl)
theorem dL_law_799 : decode cL_law 799 = .ok (.aload_n 2, 1) := dk_44 (dk_at dksL_law_27 11 rfl rfl)
theorem dL_law_800 : decode cL_law 800 = .ok (.aload_n 0, 1) := dk_42 (dk_at dksL_law_27 12 rfl rfl)
theorem dL_law_801 : decode cL_law 801 = .ok (.iload 4, 2) := dk_21 4 (dk_at dksL_law_27 13 rfl rfl)
theorem dL_law_803 : decode cL_law 803 = .ok (.iconst 1, 1) := dk_4 (dk_at dksL_law_27 15 rfl rfl)
theorem dL_law_804 : decode cL_law 804 = .ok (.iadd, 1) := dk_96 (dk_at dksL_law_27 16 rfl rfl)
theorem dL_law_805 : decode cL_law 805 = .ok (.iaload, 1) := dk_46 (dk_at dksL_law_27 17 rfl rfl)
theorem dL_law_806 : decode cL_law 806 = .ok (.aload_n 0, 1) := dk_42 (dk_at dksL_law_27 18 rfl rfl)
theorem dL_law_807 : decode cL_law 807 = .ok (.iload 4, 2) := dk_21 4 (dk_at dksL_law_27 19 rfl rfl)
theorem dL_law_809 : decode cL_law 809 = .ok (.iconst 2, 1) := dk_5 (dk_at dksL_law_27 21 rfl rfl)
theorem dL_law_810 : decode cL_law 810 = .ok (.iadd, 1) := dk_96 (dk_at dksL_law_27 22 rfl rfl)
theorem dL_law_811 : decode cL_law 811 = .ok (.iaload, 1) := dk_46 (dk_at dksL_law_27 23 rfl rfl)
theorem dL_law_812 : decode cL_law 812 = .ok (.invokevirtual 195, 3) := dk_182 0 195 (dk_at dksL_law_28 0 rfl rfl)
theorem dL_law_815 : decode cL_law 815 = .ok (.istore 6, 2) := dk_54 6 (dk_at dksL_law_28 3 rfl rfl)
theorem dL_law_817 : decode cL_law 817 = .ok (.aload_n 2, 1) := dk_44 (dk_at dksL_law_28 5 rfl rfl)
theorem dL_law_818 : decode cL_law 818 = .ok (.invokevirtual 165, 3) := dk_182 0 165 (dk_at dksL_law_28 6 rfl rfl)
theorem dL_law_821 : decode cL_law 821 = .ok (.iload 5, 2) := dk_21 5 (dk_at dksL_law_28 9 rfl rfl)
theorem dL_law_823 : decode cL_law 823 = .ok (.if_icmp .eq 5, 3) := dk_159 0 5 (dk_at dksL_law_28 11 rfl rfl)
theorem dL_law_826 : decode cL_law 826 = .ok (.iconst 0, 1) := dk_3 (dk_at dksL_law_28 14 rfl rfl)
theorem dL_law_827 : decode cL_law 827 = .ok (.ireturn, 1) := dk_172 (dk_at dksL_law_28 15 rfl rfl)
theorem dL_law_828 : decode cL_law 828 = .ok (.iload 5, 2) := dk_21 5 (dk_at dksL_law_28 16 rfl rfl)
theorem dL_law_830 : decode cL_law 830 = .ok (.ifCond .ne 16, 3) := dk_154 0 16 (dk_at dksL_law_28 18 rfl rfl)
theorem dL_law_833 : decode cL_law 833 = .ok (.aload_n 3, 1) := dk_45 (dk_at dksL_law_28 21 rfl rfl)
theorem dL_law_834 : decode cL_law 834 = .ok (.getfield 13, 3) := dk_180 0 13 (dk_at dksL_law_29 0 rfl rfl)
theorem dL_law_837 : decode cL_law 837 = .ok (.iload 6, 2) := dk_21 6 (dk_at dksL_law_29 3 rfl rfl)
theorem dL_law_839 : decode cL_law 839 = .ok (.i2l, 1) := dk_133 (dk_at dksL_law_29 5 rfl rfl)
theorem dL_law_840 : decode cL_law 840 = .ok (.lcmp, 1) := dk_148 (dk_at dksL_law_29 6 rfl rfl)
theorem dL_law_841 : decode cL_law 841 = .ok (.ifCond .eq 5, 3) := dk_153 0 5 (dk_at dksL_law_29 7 rfl rfl)
theorem dL_law_844 : decode cL_law 844 = .ok (.iconst 0, 1) := dk_3 (dk_at dksL_law_29 10 rfl rfl)
theorem dL_law_845 : decode cL_law 845 = .ok (.ireturn, 1) := dk_172 (dk_at dksL_law_29 11 rfl rfl)
theorem dL_law_846 : decode cL_law 846 = .ok (.goto 2177, 3) := dk_167 8 129 (dk_at dksL_law_29 12 rfl rfl)
theorem dL_law_849 : decode cL_law 849 = .ok (.aload_n 1, 1) := dk_43 (dk_at dksL_law_29 15 rfl rfl)
theorem dL_law_850 : decode cL_law 850 = .ok (.aload_n 0, 1) := dk_42 (dk_at dksL_law_29 16 rfl rfl)
theorem dL_law_851 : decode cL_law 851 = .ok (.iload 4, 2) := dk_21 4 (dk_at dksL_law_29 17 rfl rfl)
theorem dL_law_853 : decode cL_law 853 = .ok (.iconst 1, 1) := dk_4 (dk_at dksL_law_29 19 rfl rfl)
theorem dL_law_854 : decode cL_law 854 = .ok (.iadd, 1) := dk_96 (dk_at dksL_law_29 20 rfl rfl)
theorem dL_law_855 : decode cL_law 855 = .ok (.iaload, 1) := dk_46 (dk_at dksL_law_29 21 rfl rfl)
theorem dL_law_856 : decode cL_law 856 = .ok (.aload_n 0, 1) := dk_42 (dk_at dksL_law_29 22 rfl rfl)
theorem dL_law_857 : decode cL_law 857 = .ok (.iload 4, 2) := dk_21 4 (dk_at dksL_law_30 0 rfl rfl)
theorem dL_law_859 : decode cL_law 859 = .ok (.iconst 2, 1) := dk_5 (dk_at dksL_law_30 2 rfl rfl)
theorem dL_law_860 : decode cL_law 860 = .ok (.iadd, 1) := dk_96 (dk_at dksL_law_30 3 rfl rfl)
theorem dL_law_861 : decode cL_law 861 = .ok (.iaload, 1) := dk_46 (dk_at dksL_law_30 4 rfl rfl)
theorem dL_law_862 : decode cL_law 862 = .ok (.aload_n 3, 1) := dk_45 (dk_at dksL_law_30 5 rfl rfl)
theorem dL_law_863 : decode cL_law 863 = .ok (.invokestatic 196, 3) := dk_184 0 196 (dk_at dksL_law_30 6 rfl rfl)
theorem dL_law_866 : decode cL_law 866 = .ok (.istore 5, 2) := dk_54 5 (dk_at dksL_law_30 9 rfl rfl)
theorem dL_law_868 : decode cL_law 868 = .ok (.aload_n 2, 1) := dk_44 (dk_at dksL_law_30 11 rfl rfl)
theorem dL_law_869 : decode cL_law 869 = .ok (.aload_n 0, 1) := dk_42 (dk_at dksL_law_30 12 rfl rfl)
theorem dL_law_870 : decode cL_law 870 = .ok (.iload 4, 2) := dk_21 4 (dk_at dksL_law_30 13 rfl rfl)
theorem dL_law_872 : decode cL_law 872 = .ok (.iconst 1, 1) := dk_4 (dk_at dksL_law_30 15 rfl rfl)
theorem dL_law_873 : decode cL_law 873 = .ok (.iadd, 1) := dk_96 (dk_at dksL_law_30 16 rfl rfl)
theorem dL_law_874 : decode cL_law 874 = .ok (.iaload, 1) := dk_46 (dk_at dksL_law_30 17 rfl rfl)
theorem dL_law_875 : decode cL_law 875 = .ok (.aload_n 0, 1) := dk_42 (dk_at dksL_law_30 18 rfl rfl)
theorem dL_law_876 : decode cL_law 876 = .ok (.iload 4, 2) := dk_21 4 (dk_at dksL_law_30 19 rfl rfl)
theorem dL_law_878 : decode cL_law 878 = .ok (.iconst 2, 1) := dk_5 (dk_at dksL_law_30 21 rfl rfl)
theorem dL_law_879 : decode cL_law 879 = .ok (.iadd, 1) := dk_96 (dk_at dksL_law_30 22 rfl rfl)
theorem dL_law_880 : decode cL_law 880 = .ok (.iaload, 1) := dk_46 (dk_at dksL_law_30 23 rfl rfl)
theorem dL_law_881 : decode cL_law 881 = .ok (.invokevirtual 198, 3) := dk_182 0 198 (dk_at dksL_law_31 0 rfl rfl)
theorem dL_law_884 : decode cL_law 884 = .ok (.istore 6, 2) := dk_54 6 (dk_at dksL_law_31 3 rfl rfl)
theorem dL_law_886 : decode cL_law 886 = .ok (.aload_n 2, 1) := dk_44 (dk_at dksL_law_31 5 rfl rfl)
theorem dL_law_887 : decode cL_law 887 = .ok (.invokevirtual 165, 3) := dk_182 0 165 (dk_at dksL_law_31 6 rfl rfl)
theorem dL_law_890 : decode cL_law 890 = .ok (.iload 5, 2) := dk_21 5 (dk_at dksL_law_31 9 rfl rfl)
theorem dL_law_892 : decode cL_law 892 = .ok (.if_icmp .eq 5, 3) := dk_159 0 5 (dk_at dksL_law_31 11 rfl rfl)
theorem dL_law_895 : decode cL_law 895 = .ok (.iconst 0, 1) := dk_3 (dk_at dksL_law_31 14 rfl rfl)
theorem dL_law_896 : decode cL_law 896 = .ok (.ireturn, 1) := dk_172 (dk_at dksL_law_31 15 rfl rfl)
theorem dL_law_897 : decode cL_law 897 = .ok (.iload 5, 2) := dk_21 5 (dk_at dksL_law_31 16 rfl rfl)
theorem dL_law_899 : decode cL_law 899 = .ok (.ifCond .ne 16, 3) := dk_154 0 16 (dk_at dksL_law_31 18 rfl rfl)
theorem dL_law_902 : decode cL_law 902 = .ok (.aload_n 3, 1) := dk_45 (dk_at dksL_law_31 21 rfl rfl)
theorem dL_law_903 : decode cL_law 903 = .ok (.getfield 13, 3) := dk_180 0 13 (dk_at dksL_law_32 0 rfl rfl)
theorem dL_law_906 : decode cL_law 906 = .ok (.iload 6, 2) := dk_21 6 (dk_at dksL_law_32 3 rfl rfl)
theorem dL_law_908 : decode cL_law 908 = .ok (.i2l, 1) := dk_133 (dk_at dksL_law_32 5 rfl rfl)
theorem dL_law_909 : decode cL_law 909 = .ok (.lcmp, 1) := dk_148 (dk_at dksL_law_32 6 rfl rfl)
theorem dL_law_910 : decode cL_law 910 = .ok (.ifCond .eq 5, 3) := dk_153 0 5 (dk_at dksL_law_32 7 rfl rfl)
theorem dL_law_913 : decode cL_law 913 = .ok (.iconst 0, 1) := dk_3 (dk_at dksL_law_32 10 rfl rfl)
theorem dL_law_914 : decode cL_law 914 = .ok (.ireturn, 1) := dk_172 (dk_at dksL_law_32 11 rfl rfl)
theorem dL_law_915 : decode cL_law 915 = .ok (.goto 2108, 3) := dk_167 8 60 (dk_at dksL_law_32 12 rfl rfl)
theorem dL_law_918 : decode cL_law 918 = .ok (.aload_n 1, 1) := dk_43 (dk_at dksL_law_32 15 rfl rfl)
theorem dL_law_919 : decode cL_law 919 = .ok (.aload_n 0, 1) := dk_42 (dk_at dksL_law_32 16 rfl rfl)
theorem dL_law_920 : decode cL_law 920 = .ok (.iload 4, 2) := dk_21 4 (dk_at dksL_law_32 17 rfl rfl)
theorem dL_law_922 : decode cL_law 922 = .ok (.iconst 1, 1) := dk_4 (dk_at dksL_law_32 19 rfl rfl)
theorem dL_law_923 : decode cL_law 923 = .ok (.iadd, 1) := dk_96 (dk_at dksL_law_32 20 rfl rfl)
theorem dL_law_924 : decode cL_law 924 = .ok (.iaload, 1) := dk_46 (dk_at dksL_law_32 21 rfl rfl)
theorem dL_law_925 : decode cL_law 925 = .ok (.aload_n 0, 1) := dk_42 (dk_at dksL_law_32 22 rfl rfl)
theorem dL_law_926 : decode cL_law 926 = .ok (.iload 4, 2) := dk_21 4 (dk_at dksL_law_33 0 rfl rfl)
theorem dL_law_928 : decode cL_law 928 = .ok (.iconst 2, 1) := dk_5 (dk_at dksL_law_33 2 rfl rfl)
theorem dL_law_929 : decode cL_law 929 = .ok (.iadd, 1) := dk_96 (dk_at dksL_law_33 3 rfl rfl)
theorem dL_law_930 : decode cL_law 930 = .ok (.iaload, 1) := dk_46 (dk_at dksL_law_33 4 rfl rfl)
theorem dL_law_931 : decode cL_law 931 = .ok (.aload_n 0, 1) := dk_42 (dk_at dksL_law_33 5 rfl rfl)
theorem dL_law_932 : decode cL_law 932 = .ok (.iload 4, 2) := dk_21 4 (dk_at dksL_law_33 6 rfl rfl)
theorem dL_law_934 : decode cL_law 934 = .ok (.iconst 3, 1) := dk_6 (dk_at dksL_law_33 8 rfl rfl)
theorem dL_law_935 : decode cL_law 935 = .ok (.iadd, 1) := dk_96 (dk_at dksL_law_33 9 rfl rfl)
theorem dL_law_936 : decode cL_law 936 = .ok (.iaload, 1) := dk_46 (dk_at dksL_law_33 10 rfl rfl)
theorem dL_law_937 : decode cL_law 937 = .ok (.aload_n 0, 1) := dk_42 (dk_at dksL_law_33 11 rfl rfl)
theorem dL_law_938 : decode cL_law 938 = .ok (.iload 4, 2) := dk_21 4 (dk_at dksL_law_33 12 rfl rfl)
theorem dL_law_940 : decode cL_law 940 = .ok (.iconst 4, 1) := dk_7 (dk_at dksL_law_33 14 rfl rfl)
theorem dL_law_941 : decode cL_law 941 = .ok (.iadd, 1) := dk_96 (dk_at dksL_law_33 15 rfl rfl)
theorem dL_law_942 : decode cL_law 942 = .ok (.iaload, 1) := dk_46 (dk_at dksL_law_33 16 rfl rfl)
theorem dL_law_943 : decode cL_law 943 = .ok (.aload_n 3, 1) := dk_45 (dk_at dksL_law_33 17 rfl rfl)
theorem dL_law_944 : decode cL_law 944 = .ok (.invokestatic 199, 3) := dk_184 0 199 (dk_at dksL_law_33 18 rfl rfl)
theorem dL_law_947 : decode cL_law 947 = .ok (.istore 5, 2) := dk_54 5 (dk_at dksL_law_33 21 rfl rfl)
theorem dL_law_949 : decode cL_law 949 = .ok (.aload_n 2, 1) := dk_44 (dk_at dksL_law_33 23 rfl rfl)
theorem dL_law_950 : decode cL_law 950 = .ok (.aload_n 0, 1) := dk_42 (dk_at dksL_law_34 0 rfl rfl)
theorem dL_law_951 : decode cL_law 951 = .ok (.iload 4, 2) := dk_21 4 (dk_at dksL_law_34 1 rfl rfl)
theorem dL_law_953 : decode cL_law 953 = .ok (.iconst 1, 1) := dk_4 (dk_at dksL_law_34 3 rfl rfl)
theorem dL_law_954 : decode cL_law 954 = .ok (.iadd, 1) := dk_96 (dk_at dksL_law_34 4 rfl rfl)
theorem dL_law_955 : decode cL_law 955 = .ok (.iaload, 1) := dk_46 (dk_at dksL_law_34 5 rfl rfl)
theorem dL_law_956 : decode cL_law 956 = .ok (.aload_n 0, 1) := dk_42 (dk_at dksL_law_34 6 rfl rfl)
theorem dL_law_957 : decode cL_law 957 = .ok (.iload 4, 2) := dk_21 4 (dk_at dksL_law_34 7 rfl rfl)
theorem dL_law_959 : decode cL_law 959 = .ok (.iconst 2, 1) := dk_5 (dk_at dksL_law_34 9 rfl rfl)
theorem dL_law_960 : decode cL_law 960 = .ok (.iadd, 1) := dk_96 (dk_at dksL_law_34 10 rfl rfl)
theorem dL_law_961 : decode cL_law 961 = .ok (.iaload, 1) := dk_46 (dk_at dksL_law_34 11 rfl rfl)
theorem dL_law_962 : decode cL_law 962 = .ok (.aload_n 0, 1) := dk_42 (dk_at dksL_law_34 12 rfl rfl)
theorem dL_law_963 : decode cL_law 963 = .ok (.iload 4, 2) := dk_21 4 (dk_at dksL_law_34 13 rfl rfl)
theorem dL_law_965 : decode cL_law 965 = .ok (.iconst 3, 1) := dk_6 (dk_at dksL_law_34 15 rfl rfl)
theorem dL_law_966 : decode cL_law 966 = .ok (.iadd, 1) := dk_96 (dk_at dksL_law_34 16 rfl rfl)
theorem dL_law_967 : decode cL_law 967 = .ok (.iaload, 1) := dk_46 (dk_at dksL_law_34 17 rfl rfl)
theorem dL_law_968 : decode cL_law 968 = .ok (.aload_n 0, 1) := dk_42 (dk_at dksL_law_34 18 rfl rfl)
theorem dL_law_969 : decode cL_law 969 = .ok (.iload 4, 2) := dk_21 4 (dk_at dksL_law_34 19 rfl rfl)
theorem dL_law_971 : decode cL_law 971 = .ok (.iconst 4, 1) := dk_7 (dk_at dksL_law_34 21 rfl rfl)
theorem dL_law_972 : decode cL_law 972 = .ok (.iadd, 1) := dk_96 (dk_at dksL_law_34 22 rfl rfl)
theorem dL_law_973 : decode cL_law 973 = .ok (.iaload, 1) := dk_46 (dk_at dksL_law_34 23 rfl rfl)
theorem dL_law_974 : decode cL_law 974 = .ok (.invokevirtual 201, 3) := dk_182 0 201 (dk_at dksL_law_35 0 rfl rfl)
theorem dL_law_977 : decode cL_law 977 = .ok (.istore 6, 2) := dk_54 6 (dk_at dksL_law_35 3 rfl rfl)
theorem dL_law_979 : decode cL_law 979 = .ok (.aload_n 2, 1) := dk_44 (dk_at dksL_law_35 5 rfl rfl)
theorem dL_law_980 : decode cL_law 980 = .ok (.invokevirtual 165, 3) := dk_182 0 165 (dk_at dksL_law_35 6 rfl rfl)
theorem dL_law_983 : decode cL_law 983 = .ok (.iload 5, 2) := dk_21 5 (dk_at dksL_law_35 9 rfl rfl)
theorem dL_law_985 : decode cL_law 985 = .ok (.if_icmp .eq 5, 3) := dk_159 0 5 (dk_at dksL_law_35 11 rfl rfl)
theorem dL_law_988 : decode cL_law 988 = .ok (.iconst 0, 1) := dk_3 (dk_at dksL_law_35 14 rfl rfl)
theorem dL_law_989 : decode cL_law 989 = .ok (.ireturn, 1) := dk_172 (dk_at dksL_law_35 15 rfl rfl)
theorem dL_law_990 : decode cL_law 990 = .ok (.iload 5, 2) := dk_21 5 (dk_at dksL_law_35 16 rfl rfl)
theorem dL_law_992 : decode cL_law 992 = .ok (.ifCond .ne 16, 3) := dk_154 0 16 (dk_at dksL_law_35 18 rfl rfl)
theorem dL_law_995 : decode cL_law 995 = .ok (.aload_n 3, 1) := dk_45 (dk_at dksL_law_35 21 rfl rfl)
theorem dL_law_996 : decode cL_law 996 = .ok (.getfield 13, 3) := dk_180 0 13 (dk_at dksL_law_36 0 rfl rfl)
theorem dL_law_999 : decode cL_law 999 = .ok (.iload 6, 2) := dk_21 6 (dk_at dksL_law_36 3 rfl rfl)
theorem dL_law_1001 : decode cL_law 1001 = .ok (.i2l, 1) := dk_133 (dk_at dksL_law_36 5 rfl rfl)
theorem dL_law_1002 : decode cL_law 1002 = .ok (.lcmp, 1) := dk_148 (dk_at dksL_law_36 6 rfl rfl)
theorem dL_law_1003 : decode cL_law 1003 = .ok (.ifCond .eq 5, 3) := dk_153 0 5 (dk_at dksL_law_36 7 rfl rfl)
theorem dL_law_1006 : decode cL_law 1006 = .ok (.iconst 0, 1) := dk_3 (dk_at dksL_law_36 10 rfl rfl)
theorem dL_law_1007 : decode cL_law 1007 = .ok (.ireturn, 1) := dk_172 (dk_at dksL_law_36 11 rfl rfl)
theorem dL_law_1008 : decode cL_law 1008 = .ok (.goto 2015, 3) := dk_167 7 223 (dk_at dksL_law_36 12 rfl rfl)
theorem dL_law_1011 : decode cL_law 1011 = .ok (.aload_n 1, 1) := dk_43 (dk_at dksL_law_36 15 rfl rfl)
theorem dL_law_1012 : decode cL_law 1012 = .ok (.aload_n 0, 1) := dk_42 (dk_at dksL_law_36 16 rfl rfl)
theorem dL_law_1013 : decode cL_law 1013 = .ok (.iload 4, 2) := dk_21 4 (dk_at dksL_law_36 17 rfl rfl)
theorem dL_law_1015 : decode cL_law 1015 = .ok (.iconst 1, 1) := dk_4 (dk_at dksL_law_36 19 rfl rfl)
theorem dL_law_1016 : decode cL_law 1016 = .ok (.iadd, 1) := dk_96 (dk_at dksL_law_36 20 rfl rfl)
theorem dL_law_1017 : decode cL_law 1017 = .ok (.iaload, 1) := dk_46 (dk_at dksL_law_36 21 rfl rfl)
theorem dL_law_1018 : decode cL_law 1018 = .ok (.aload_n 0, 1) := dk_42 (dk_at dksL_law_36 22 rfl rfl)
theorem dL_law_1019 : decode cL_law 1019 = .ok (.iload 4, 2) := dk_21 4 (dk_at dksL_law_37 0 rfl rfl)
theorem dL_law_1021 : decode cL_law 1021 = .ok (.iconst 2, 1) := dk_5 (dk_at dksL_law_37 2 rfl rfl)
theorem dL_law_1022 : decode cL_law 1022 = .ok (.iadd, 1) := dk_96 (dk_at dksL_law_37 3 rfl rfl)
theorem dL_law_1023 : decode cL_law 1023 = .ok (.iaload, 1) := dk_46 (dk_at dksL_law_37 4 rfl rfl)
theorem dL_law_1024 : decode cL_law 1024 = .ok (.aload_n 0, 1) := dk_42 (dk_at dksL_law_37 5 rfl rfl)
theorem dL_law_1025 : decode cL_law 1025 = .ok (.iload 4, 2) := dk_21 4 (dk_at dksL_law_37 6 rfl rfl)
theorem dL_law_1027 : decode cL_law 1027 = .ok (.iconst 3, 1) := dk_6 (dk_at dksL_law_37 8 rfl rfl)
theorem dL_law_1028 : decode cL_law 1028 = .ok (.iadd, 1) := dk_96 (dk_at dksL_law_37 9 rfl rfl)
theorem dL_law_1029 : decode cL_law 1029 = .ok (.iaload, 1) := dk_46 (dk_at dksL_law_37 10 rfl rfl)
theorem dL_law_1030 : decode cL_law 1030 = .ok (.aload_n 3, 1) := dk_45 (dk_at dksL_law_37 11 rfl rfl)
theorem dL_law_1031 : decode cL_law 1031 = .ok (.invokestatic 202, 3) := dk_184 0 202 (dk_at dksL_law_37 12 rfl rfl)
theorem dL_law_1034 : decode cL_law 1034 = .ok (.istore 5, 2) := dk_54 5 (dk_at dksL_law_37 15 rfl rfl)
theorem dL_law_1036 : decode cL_law 1036 = .ok (.aload_n 2, 1) := dk_44 (dk_at dksL_law_37 17 rfl rfl)
theorem dL_law_1037 : decode cL_law 1037 = .ok (.aload_n 0, 1) := dk_42 (dk_at dksL_law_37 18 rfl rfl)
theorem dL_law_1038 : decode cL_law 1038 = .ok (.iload 4, 2) := dk_21 4 (dk_at dksL_law_37 19 rfl rfl)
theorem dL_law_1040 : decode cL_law 1040 = .ok (.iconst 1, 1) := dk_4 (dk_at dksL_law_37 21 rfl rfl)
theorem dL_law_1041 : decode cL_law 1041 = .ok (.iadd, 1) := dk_96 (dk_at dksL_law_37 22 rfl rfl)
theorem dL_law_1042 : decode cL_law 1042 = .ok (.iaload, 1) := dk_46 (dk_at dksL_law_37 23 rfl rfl)
theorem dL_law_1043 : decode cL_law 1043 = .ok (.aload_n 0, 1) := dk_42 (dk_at dksL_law_38 0 rfl rfl)
theorem dL_law_1044 : decode cL_law 1044 = .ok (.iload 4, 2) := dk_21 4 (dk_at dksL_law_38 1 rfl rfl)
theorem dL_law_1046 : decode cL_law 1046 = .ok (.iconst 2, 1) := dk_5 (dk_at dksL_law_38 3 rfl rfl)
theorem dL_law_1047 : decode cL_law 1047 = .ok (.iadd, 1) := dk_96 (dk_at dksL_law_38 4 rfl rfl)
theorem dL_law_1048 : decode cL_law 1048 = .ok (.iaload, 1) := dk_46 (dk_at dksL_law_38 5 rfl rfl)
theorem dL_law_1049 : decode cL_law 1049 = .ok (.aload_n 0, 1) := dk_42 (dk_at dksL_law_38 6 rfl rfl)
theorem dL_law_1050 : decode cL_law 1050 = .ok (.iload 4, 2) := dk_21 4 (dk_at dksL_law_38 7 rfl rfl)
theorem dL_law_1052 : decode cL_law 1052 = .ok (.iconst 3, 1) := dk_6 (dk_at dksL_law_38 9 rfl rfl)
theorem dL_law_1053 : decode cL_law 1053 = .ok (.iadd, 1) := dk_96 (dk_at dksL_law_38 10 rfl rfl)
theorem dL_law_1054 : decode cL_law 1054 = .ok (.iaload, 1) := dk_46 (dk_at dksL_law_38 11 rfl rfl)
theorem dL_law_1055 : decode cL_law 1055 = .ok (.invokevirtual 204, 3) := dk_182 0 204 (dk_at dksL_law_38 12 rfl rfl)
theorem dL_law_1058 : decode cL_law 1058 = .ok (.istore 6, 2) := dk_54 6 (dk_at dksL_law_38 15 rfl rfl)
theorem dL_law_1060 : decode cL_law 1060 = .ok (.aload_n 2, 1) := dk_44 (dk_at dksL_law_38 17 rfl rfl)
theorem dL_law_1061 : decode cL_law 1061 = .ok (.invokevirtual 165, 3) := dk_182 0 165 (dk_at dksL_law_38 18 rfl rfl)
theorem dL_law_1064 : decode cL_law 1064 = .ok (.iload 5, 2) := dk_21 5 (dk_at dksL_law_38 21 rfl rfl)
theorem dL_law_1066 : decode cL_law 1066 = .ok (.if_icmp .eq 5, 3) := dk_159 0 5 (dk_at dksL_law_39 0 rfl rfl)
theorem dL_law_1069 : decode cL_law 1069 = .ok (.iconst 0, 1) := dk_3 (dk_at dksL_law_39 3 rfl rfl)
theorem dL_law_1070 : decode cL_law 1070 = .ok (.ireturn, 1) := dk_172 (dk_at dksL_law_39 4 rfl rfl)
theorem dL_law_1071 : decode cL_law 1071 = .ok (.iload 5, 2) := dk_21 5 (dk_at dksL_law_39 5 rfl rfl)
theorem dL_law_1073 : decode cL_law 1073 = .ok (.ifCond .ne 16, 3) := dk_154 0 16 (dk_at dksL_law_39 7 rfl rfl)
theorem dL_law_1076 : decode cL_law 1076 = .ok (.aload_n 3, 1) := dk_45 (dk_at dksL_law_39 10 rfl rfl)
theorem dL_law_1077 : decode cL_law 1077 = .ok (.getfield 13, 3) := dk_180 0 13 (dk_at dksL_law_39 11 rfl rfl)
theorem dL_law_1080 : decode cL_law 1080 = .ok (.iload 6, 2) := dk_21 6 (dk_at dksL_law_39 14 rfl rfl)
theorem dL_law_1082 : decode cL_law 1082 = .ok (.i2l, 1) := dk_133 (dk_at dksL_law_39 16 rfl rfl)
theorem dL_law_1083 : decode cL_law 1083 = .ok (.lcmp, 1) := dk_148 (dk_at dksL_law_39 17 rfl rfl)
theorem dL_law_1084 : decode cL_law 1084 = .ok (.ifCond .eq 5, 3) := dk_153 0 5 (dk_at dksL_law_39 18 rfl rfl)
theorem dL_law_1087 : decode cL_law 1087 = .ok (.iconst 0, 1) := dk_3 (dk_at dksL_law_39 21 rfl rfl)
theorem dL_law_1088 : decode cL_law 1088 = .ok (.ireturn, 1) := dk_172 (dk_at dksL_law_39 22 rfl rfl)
theorem dL_law_1089 : decode cL_law 1089 = .ok (.goto 1934, 3) := dk_167 7 142 (dk_at dksL_law_40 0 rfl rfl)
theorem dL_law_1092 : decode cL_law 1092 = .ok (.aload_n 1, 1) := dk_43 (dk_at dksL_law_40 3 rfl rfl)
theorem dL_law_1093 : decode cL_law 1093 = .ok (.aload_n 0, 1) := dk_42 (dk_at dksL_law_40 4 rfl rfl)
theorem dL_law_1094 : decode cL_law 1094 = .ok (.iload 4, 2) := dk_21 4 (dk_at dksL_law_40 5 rfl rfl)
theorem dL_law_1096 : decode cL_law 1096 = .ok (.iconst 1, 1) := dk_4 (dk_at dksL_law_40 7 rfl rfl)
theorem dL_law_1097 : decode cL_law 1097 = .ok (.iadd, 1) := dk_96 (dk_at dksL_law_40 8 rfl rfl)
theorem dL_law_1098 : decode cL_law 1098 = .ok (.iaload, 1) := dk_46 (dk_at dksL_law_40 9 rfl rfl)
theorem dL_law_1099 : decode cL_law 1099 = .ok (.aload_n 3, 1) := dk_45 (dk_at dksL_law_40 10 rfl rfl)
theorem dL_law_1100 : decode cL_law 1100 = .ok (.invokestatic 205, 3) := dk_184 0 205 (dk_at dksL_law_40 11 rfl rfl)
theorem dL_law_1103 : decode cL_law 1103 = .ok (.istore 5, 2) := dk_54 5 (dk_at dksL_law_40 14 rfl rfl)
theorem dL_law_1105 : decode cL_law 1105 = .ok (.aload_n 2, 1) := dk_44 (dk_at dksL_law_40 16 rfl rfl)
theorem dL_law_1106 : decode cL_law 1106 = .ok (.aload_n 0, 1) := dk_42 (dk_at dksL_law_40 17 rfl rfl)
theorem dL_law_1107 : decode cL_law 1107 = .ok (.iload 4, 2) := dk_21 4 (dk_at dksL_law_40 18 rfl rfl)
theorem dL_law_1109 : decode cL_law 1109 = .ok (.iconst 1, 1) := dk_4 (dk_at dksL_law_40 20 rfl rfl)
theorem dL_law_1110 : decode cL_law 1110 = .ok (.iadd, 1) := dk_96 (dk_at dksL_law_40 21 rfl rfl)
theorem dL_law_1111 : decode cL_law 1111 = .ok (.iaload, 1) := dk_46 (dk_at dksL_law_40 22 rfl rfl)
theorem dL_law_1112 : decode cL_law 1112 = .ok (.invokevirtual 207, 3) := dk_182 0 207 (dk_at dksL_law_41 0 rfl rfl)
theorem dL_law_1115 : decode cL_law 1115 = .ok (.istore 6, 2) := dk_54 6 (dk_at dksL_law_41 3 rfl rfl)
theorem dL_law_1117 : decode cL_law 1117 = .ok (.aload_n 2, 1) := dk_44 (dk_at dksL_law_41 5 rfl rfl)
theorem dL_law_1118 : decode cL_law 1118 = .ok (.invokevirtual 165, 3) := dk_182 0 165 (dk_at dksL_law_41 6 rfl rfl)
theorem dL_law_1121 : decode cL_law 1121 = .ok (.iload 5, 2) := dk_21 5 (dk_at dksL_law_41 9 rfl rfl)
theorem dL_law_1123 : decode cL_law 1123 = .ok (.if_icmp .eq 5, 3) := dk_159 0 5 (dk_at dksL_law_41 11 rfl rfl)
theorem dL_law_1126 : decode cL_law 1126 = .ok (.iconst 0, 1) := dk_3 (dk_at dksL_law_41 14 rfl rfl)
theorem dL_law_1127 : decode cL_law 1127 = .ok (.ireturn, 1) := dk_172 (dk_at dksL_law_41 15 rfl rfl)
theorem dL_law_1128 : decode cL_law 1128 = .ok (.iload 5, 2) := dk_21 5 (dk_at dksL_law_41 16 rfl rfl)
theorem dL_law_1130 : decode cL_law 1130 = .ok (.ifCond .ne 16, 3) := dk_154 0 16 (dk_at dksL_law_41 18 rfl rfl)
theorem dL_law_1133 : decode cL_law 1133 = .ok (.aload_n 3, 1) := dk_45 (dk_at dksL_law_41 21 rfl rfl)
theorem dL_law_1134 : decode cL_law 1134 = .ok (.getfield 13, 3) := dk_180 0 13 (dk_at dksL_law_42 0 rfl rfl)
theorem dL_law_1137 : decode cL_law 1137 = .ok (.iload 6, 2) := dk_21 6 (dk_at dksL_law_42 3 rfl rfl)
theorem dL_law_1139 : decode cL_law 1139 = .ok (.i2l, 1) := dk_133 (dk_at dksL_law_42 5 rfl rfl)
theorem dL_law_1140 : decode cL_law 1140 = .ok (.lcmp, 1) := dk_148 (dk_at dksL_law_42 6 rfl rfl)
theorem dL_law_1141 : decode cL_law 1141 = .ok (.ifCond .eq 5, 3) := dk_153 0 5 (dk_at dksL_law_42 7 rfl rfl)
theorem dL_law_1144 : decode cL_law 1144 = .ok (.iconst 0, 1) := dk_3 (dk_at dksL_law_42 10 rfl rfl)
theorem dL_law_1145 : decode cL_law 1145 = .ok (.ireturn, 1) := dk_172 (dk_at dksL_law_42 11 rfl rfl)
theorem dL_law_1146 : decode cL_law 1146 = .ok (.goto 1877, 3) := dk_167 7 85 (dk_at dksL_law_42 12 rfl rfl)
theorem dL_law_1149 : decode cL_law 1149 = .ok (.aload_n 1, 1) := dk_43 (dk_at dksL_law_42 15 rfl rfl)
theorem dL_law_1150 : decode cL_law 1150 = .ok (.aload_n 0, 1) := dk_42 (dk_at dksL_law_42 16 rfl rfl)
theorem dL_law_1151 : decode cL_law 1151 = .ok (.iload 4, 2) := dk_21 4 (dk_at dksL_law_42 17 rfl rfl)
theorem dL_law_1153 : decode cL_law 1153 = .ok (.iconst 1, 1) := dk_4 (dk_at dksL_law_42 19 rfl rfl)
theorem dL_law_1154 : decode cL_law 1154 = .ok (.iadd, 1) := dk_96 (dk_at dksL_law_42 20 rfl rfl)
theorem dL_law_1155 : decode cL_law 1155 = .ok (.iaload, 1) := dk_46 (dk_at dksL_law_42 21 rfl rfl)
theorem dL_law_1156 : decode cL_law 1156 = .ok (.aload_n 0, 1) := dk_42 (dk_at dksL_law_42 22 rfl rfl)
theorem dL_law_1157 : decode cL_law 1157 = .ok (.iload 4, 2) := dk_21 4 (dk_at dksL_law_43 0 rfl rfl)
theorem dL_law_1159 : decode cL_law 1159 = .ok (.iconst 2, 1) := dk_5 (dk_at dksL_law_43 2 rfl rfl)
theorem dL_law_1160 : decode cL_law 1160 = .ok (.iadd, 1) := dk_96 (dk_at dksL_law_43 3 rfl rfl)
theorem dL_law_1161 : decode cL_law 1161 = .ok (.iaload, 1) := dk_46 (dk_at dksL_law_43 4 rfl rfl)
theorem dL_law_1162 : decode cL_law 1162 = .ok (.aload_n 3, 1) := dk_45 (dk_at dksL_law_43 5 rfl rfl)
theorem dL_law_1163 : decode cL_law 1163 = .ok (.invokestatic 208, 3) := dk_184 0 208 (dk_at dksL_law_43 6 rfl rfl)
theorem dL_law_1166 : decode cL_law 1166 = .ok (.istore 5, 2) := dk_54 5 (dk_at dksL_law_43 9 rfl rfl)
theorem dL_law_1168 : decode cL_law 1168 = .ok (.aload_n 2, 1) := dk_44 (dk_at dksL_law_43 11 rfl rfl)
theorem dL_law_1169 : decode cL_law 1169 = .ok (.aload_n 0, 1) := dk_42 (dk_at dksL_law_43 12 rfl rfl)
theorem dL_law_1170 : decode cL_law 1170 = .ok (.iload 4, 2) := dk_21 4 (dk_at dksL_law_43 13 rfl rfl)
theorem dL_law_1172 : decode cL_law 1172 = .ok (.iconst 1, 1) := dk_4 (dk_at dksL_law_43 15 rfl rfl)
theorem dL_law_1173 : decode cL_law 1173 = .ok (.iadd, 1) := dk_96 (dk_at dksL_law_43 16 rfl rfl)
theorem dL_law_1174 : decode cL_law 1174 = .ok (.iaload, 1) := dk_46 (dk_at dksL_law_43 17 rfl rfl)
theorem dL_law_1175 : decode cL_law 1175 = .ok (.aload_n 0, 1) := dk_42 (dk_at dksL_law_43 18 rfl rfl)
theorem dL_law_1176 : decode cL_law 1176 = .ok (.iload 4, 2) := dk_21 4 (dk_at dksL_law_43 19 rfl rfl)
theorem dL_law_1178 : decode cL_law 1178 = .ok (.iconst 2, 1) := dk_5 (dk_at dksL_law_43 21 rfl rfl)
theorem dL_law_1179 : decode cL_law 1179 = .ok (.iadd, 1) := dk_96 (dk_at dksL_law_43 22 rfl rfl)
theorem dL_law_1180 : decode cL_law 1180 = .ok (.iaload, 1) := dk_46 (dk_at dksL_law_43 23 rfl rfl)
theorem dL_law_1181 : decode cL_law 1181 = .ok (.invokevirtual 210, 3) := dk_182 0 210 (dk_at dksL_law_44 0 rfl rfl)
theorem dL_law_1184 : decode cL_law 1184 = .ok (.istore 6, 2) := dk_54 6 (dk_at dksL_law_44 3 rfl rfl)
theorem dL_law_1186 : decode cL_law 1186 = .ok (.aload_n 2, 1) := dk_44 (dk_at dksL_law_44 5 rfl rfl)
theorem dL_law_1187 : decode cL_law 1187 = .ok (.invokevirtual 165, 3) := dk_182 0 165 (dk_at dksL_law_44 6 rfl rfl)
theorem dL_law_1190 : decode cL_law 1190 = .ok (.iload 5, 2) := dk_21 5 (dk_at dksL_law_44 9 rfl rfl)
theorem dL_law_1192 : decode cL_law 1192 = .ok (.if_icmp .eq 5, 3) := dk_159 0 5 (dk_at dksL_law_44 11 rfl rfl)
theorem dL_law_1195 : decode cL_law 1195 = .ok (.iconst 0, 1) := dk_3 (dk_at dksL_law_44 14 rfl rfl)
theorem dL_law_1196 : decode cL_law 1196 = .ok (.ireturn, 1) := dk_172 (dk_at dksL_law_44 15 rfl rfl)
theorem dL_law_1197 : decode cL_law 1197 = .ok (.iload 5, 2) := dk_21 5 (dk_at dksL_law_44 16 rfl rfl)
theorem dL_law_1199 : decode cL_law 1199 = .ok (.ifCond .ne 16, 3) := dk_154 0 16 (dk_at dksL_law_44 18 rfl rfl)
theorem dL_law_1202 : decode cL_law 1202 = .ok (.aload_n 3, 1) := dk_45 (dk_at dksL_law_44 21 rfl rfl)
theorem dL_law_1203 : decode cL_law 1203 = .ok (.getfield 13, 3) := dk_180 0 13 (dk_at dksL_law_45 0 rfl rfl)
theorem dL_law_1206 : decode cL_law 1206 = .ok (.iload 6, 2) := dk_21 6 (dk_at dksL_law_45 3 rfl rfl)
theorem dL_law_1208 : decode cL_law 1208 = .ok (.i2l, 1) := dk_133 (dk_at dksL_law_45 5 rfl rfl)
theorem dL_law_1209 : decode cL_law 1209 = .ok (.lcmp, 1) := dk_148 (dk_at dksL_law_45 6 rfl rfl)
theorem dL_law_1210 : decode cL_law 1210 = .ok (.ifCond .eq 5, 3) := dk_153 0 5 (dk_at dksL_law_45 7 rfl rfl)
theorem dL_law_1213 : decode cL_law 1213 = .ok (.iconst 0, 1) := dk_3 (dk_at dksL_law_45 10 rfl rfl)
theorem dL_law_1214 : decode cL_law 1214 = .ok (.ireturn, 1) := dk_172 (dk_at dksL_law_45 11 rfl rfl)
theorem dL_law_1215 : decode cL_law 1215 = .ok (.goto 1808, 3) := dk_167 7 16 (dk_at dksL_law_45 12 rfl rfl)
theorem dL_law_1218 : decode cL_law 1218 = .ok (.aload_n 1, 1) := dk_43 (dk_at dksL_law_45 15 rfl rfl)
theorem dL_law_1219 : decode cL_law 1219 = .ok (.aload_n 0, 1) := dk_42 (dk_at dksL_law_45 16 rfl rfl)
theorem dL_law_1220 : decode cL_law 1220 = .ok (.iload 4, 2) := dk_21 4 (dk_at dksL_law_45 17 rfl rfl)
theorem dL_law_1222 : decode cL_law 1222 = .ok (.iconst 1, 1) := dk_4 (dk_at dksL_law_45 19 rfl rfl)
theorem dL_law_1223 : decode cL_law 1223 = .ok (.iadd, 1) := dk_96 (dk_at dksL_law_45 20 rfl rfl)
theorem dL_law_1224 : decode cL_law 1224 = .ok (.iaload, 1) := dk_46 (dk_at dksL_law_45 21 rfl rfl)
theorem dL_law_1225 : decode cL_law 1225 = .ok (.aload_n 0, 1) := dk_42 (dk_at dksL_law_45 22 rfl rfl)
theorem dL_law_1226 : decode cL_law 1226 = .ok (.iload 4, 2) := dk_21 4 (dk_at dksL_law_46 0 rfl rfl)
theorem dL_law_1228 : decode cL_law 1228 = .ok (.iconst 2, 1) := dk_5 (dk_at dksL_law_46 2 rfl rfl)
theorem dL_law_1229 : decode cL_law 1229 = .ok (.iadd, 1) := dk_96 (dk_at dksL_law_46 3 rfl rfl)
theorem dL_law_1230 : decode cL_law 1230 = .ok (.iaload, 1) := dk_46 (dk_at dksL_law_46 4 rfl rfl)
theorem dL_law_1231 : decode cL_law 1231 = .ok (.aload_n 0, 1) := dk_42 (dk_at dksL_law_46 5 rfl rfl)
theorem dL_law_1232 : decode cL_law 1232 = .ok (.iload 4, 2) := dk_21 4 (dk_at dksL_law_46 6 rfl rfl)
theorem dL_law_1234 : decode cL_law 1234 = .ok (.iconst 3, 1) := dk_6 (dk_at dksL_law_46 8 rfl rfl)
theorem dL_law_1235 : decode cL_law 1235 = .ok (.iadd, 1) := dk_96 (dk_at dksL_law_46 9 rfl rfl)
theorem dL_law_1236 : decode cL_law 1236 = .ok (.iaload, 1) := dk_46 (dk_at dksL_law_46 10 rfl rfl)
theorem dL_law_1237 : decode cL_law 1237 = .ok (.aload_n 3, 1) := dk_45 (dk_at dksL_law_46 11 rfl rfl)
theorem dL_law_1238 : decode cL_law 1238 = .ok (.invokestatic 211, 3) := dk_184 0 211 (dk_at dksL_law_46 12 rfl rfl)
theorem dL_law_1241 : decode cL_law 1241 = .ok (.istore 5, 2) := dk_54 5 (dk_at dksL_law_46 15 rfl rfl)
theorem dL_law_1243 : decode cL_law 1243 = .ok (.aload_n 2, 1) := dk_44 (dk_at dksL_law_46 17 rfl rfl)
theorem dL_law_1244 : decode cL_law 1244 = .ok (.aload_n 0, 1) := dk_42 (dk_at dksL_law_46 18 rfl rfl)
theorem dL_law_1245 : decode cL_law 1245 = .ok (.iload 4, 2) := dk_21 4 (dk_at dksL_law_46 19 rfl rfl)
theorem dL_law_1247 : decode cL_law 1247 = .ok (.iconst 1, 1) := dk_4 (dk_at dksL_law_46 21 rfl rfl)
theorem dL_law_1248 : decode cL_law 1248 = .ok (.iadd, 1) := dk_96 (dk_at dksL_law_46 22 rfl rfl)
theorem dL_law_1249 : decode cL_law 1249 = .ok (.iaload, 1) := dk_46 (dk_at dksL_law_46 23 rfl rfl)
theorem dL_law_1250 : decode cL_law 1250 = .ok (.aload_n 0, 1) := dk_42 (dk_at dksL_law_47 0 rfl rfl)
theorem dL_law_1251 : decode cL_law 1251 = .ok (.iload 4, 2) := dk_21 4 (dk_at dksL_law_47 1 rfl rfl)
theorem dL_law_1253 : decode cL_law 1253 = .ok (.iconst 2, 1) := dk_5 (dk_at dksL_law_47 3 rfl rfl)
theorem dL_law_1254 : decode cL_law 1254 = .ok (.iadd, 1) := dk_96 (dk_at dksL_law_47 4 rfl rfl)
theorem dL_law_1255 : decode cL_law 1255 = .ok (.iaload, 1) := dk_46 (dk_at dksL_law_47 5 rfl rfl)
theorem dL_law_1256 : decode cL_law 1256 = .ok (.aload_n 0, 1) := dk_42 (dk_at dksL_law_47 6 rfl rfl)
theorem dL_law_1257 : decode cL_law 1257 = .ok (.iload 4, 2) := dk_21 4 (dk_at dksL_law_47 7 rfl rfl)
theorem dL_law_1259 : decode cL_law 1259 = .ok (.iconst 3, 1) := dk_6 (dk_at dksL_law_47 9 rfl rfl)
theorem dL_law_1260 : decode cL_law 1260 = .ok (.iadd, 1) := dk_96 (dk_at dksL_law_47 10 rfl rfl)
theorem dL_law_1261 : decode cL_law 1261 = .ok (.iaload, 1) := dk_46 (dk_at dksL_law_47 11 rfl rfl)
theorem dL_law_1262 : decode cL_law 1262 = .ok (.invokevirtual 213, 3) := dk_182 0 213 (dk_at dksL_law_47 12 rfl rfl)
theorem dL_law_1265 : decode cL_law 1265 = .ok (.istore 6, 2) := dk_54 6 (dk_at dksL_law_47 15 rfl rfl)
theorem dL_law_1267 : decode cL_law 1267 = .ok (.aload_n 2, 1) := dk_44 (dk_at dksL_law_47 17 rfl rfl)
theorem dL_law_1268 : decode cL_law 1268 = .ok (.invokevirtual 165, 3) := dk_182 0 165 (dk_at dksL_law_47 18 rfl rfl)
theorem dL_law_1271 : decode cL_law 1271 = .ok (.iload 5, 2) := dk_21 5 (dk_at dksL_law_47 21 rfl rfl)
theorem dL_law_1273 : decode cL_law 1273 = .ok (.if_icmp .eq 5, 3) := dk_159 0 5 (dk_at dksL_law_48 0 rfl rfl)
theorem dL_law_1276 : decode cL_law 1276 = .ok (.iconst 0, 1) := dk_3 (dk_at dksL_law_48 3 rfl rfl)
theorem dL_law_1277 : decode cL_law 1277 = .ok (.ireturn, 1) := dk_172 (dk_at dksL_law_48 4 rfl rfl)
theorem dL_law_1278 : decode cL_law 1278 = .ok (.iload 5, 2) := dk_21 5 (dk_at dksL_law_48 5 rfl rfl)
theorem dL_law_1280 : decode cL_law 1280 = .ok (.ifCond .ne 16, 3) := dk_154 0 16 (dk_at dksL_law_48 7 rfl rfl)
theorem dL_law_1283 : decode cL_law 1283 = .ok (.aload_n 3, 1) := dk_45 (dk_at dksL_law_48 10 rfl rfl)
theorem dL_law_1284 : decode cL_law 1284 = .ok (.getfield 13, 3) := dk_180 0 13 (dk_at dksL_law_48 11 rfl rfl)
theorem dL_law_1287 : decode cL_law 1287 = .ok (.iload 6, 2) := dk_21 6 (dk_at dksL_law_48 14 rfl rfl)
theorem dL_law_1289 : decode cL_law 1289 = .ok (.i2l, 1) := dk_133 (dk_at dksL_law_48 16 rfl rfl)
theorem dL_law_1290 : decode cL_law 1290 = .ok (.lcmp, 1) := dk_148 (dk_at dksL_law_48 17 rfl rfl)
theorem dL_law_1291 : decode cL_law 1291 = .ok (.ifCond .eq 5, 3) := dk_153 0 5 (dk_at dksL_law_48 18 rfl rfl)
theorem dL_law_1294 : decode cL_law 1294 = .ok (.iconst 0, 1) := dk_3 (dk_at dksL_law_48 21 rfl rfl)
theorem dL_law_1295 : decode cL_law 1295 = .ok (.ireturn, 1) := dk_172 (dk_at dksL_law_48 22 rfl rfl)
theorem dL_law_1296 : decode cL_law 1296 = .ok (.goto 1727, 3) := dk_167 6 191 (dk_at dksL_law_49 0 rfl rfl)
theorem dL_law_1299 : decode cL_law 1299 = .ok (.aload_n 1, 1) := dk_43 (dk_at dksL_law_49 3 rfl rfl)
theorem dL_law_1300 : decode cL_law 1300 = .ok (.aload_n 0, 1) := dk_42 (dk_at dksL_law_49 4 rfl rfl)
theorem dL_law_1301 : decode cL_law 1301 = .ok (.iload 4, 2) := dk_21 4 (dk_at dksL_law_49 5 rfl rfl)
theorem dL_law_1303 : decode cL_law 1303 = .ok (.iconst 1, 1) := dk_4 (dk_at dksL_law_49 7 rfl rfl)
theorem dL_law_1304 : decode cL_law 1304 = .ok (.iadd, 1) := dk_96 (dk_at dksL_law_49 8 rfl rfl)
theorem dL_law_1305 : decode cL_law 1305 = .ok (.iaload, 1) := dk_46 (dk_at dksL_law_49 9 rfl rfl)
theorem dL_law_1306 : decode cL_law 1306 = .ok (.aload_n 0, 1) := dk_42 (dk_at dksL_law_49 10 rfl rfl)
theorem dL_law_1307 : decode cL_law 1307 = .ok (.iload 4, 2) := dk_21 4 (dk_at dksL_law_49 11 rfl rfl)
theorem dL_law_1309 : decode cL_law 1309 = .ok (.iconst 2, 1) := dk_5 (dk_at dksL_law_49 13 rfl rfl)
theorem dL_law_1310 : decode cL_law 1310 = .ok (.iadd, 1) := dk_96 (dk_at dksL_law_49 14 rfl rfl)
theorem dL_law_1311 : decode cL_law 1311 = .ok (.iaload, 1) := dk_46 (dk_at dksL_law_49 15 rfl rfl)
theorem dL_law_1312 : decode cL_law 1312 = .ok (.aload_n 3, 1) := dk_45 (dk_at dksL_law_49 16 rfl rfl)
theorem dL_law_1313 : decode cL_law 1313 = .ok (.invokestatic 214, 3) := dk_184 0 214 (dk_at dksL_law_49 17 rfl rfl)
theorem dL_law_1316 : decode cL_law 1316 = .ok (.istore 5, 2) := dk_54 5 (dk_at dksL_law_49 20 rfl rfl)
theorem dL_law_1318 : decode cL_law 1318 = .ok (.aload_n 2, 1) := dk_44 (dk_at dksL_law_49 22 rfl rfl)
theorem dL_law_1319 : decode cL_law 1319 = .ok (.aload_n 0, 1) := dk_42 (dk_at dksL_law_49 23 rfl rfl)
theorem dL_law_1320 : decode cL_law 1320 = .ok (.iload 4, 2) := dk_21 4 (dk_at dksL_law_50 0 rfl rfl)
theorem dL_law_1322 : decode cL_law 1322 = .ok (.iconst 1, 1) := dk_4 (dk_at dksL_law_50 2 rfl rfl)
theorem dL_law_1323 : decode cL_law 1323 = .ok (.iadd, 1) := dk_96 (dk_at dksL_law_50 3 rfl rfl)
theorem dL_law_1324 : decode cL_law 1324 = .ok (.iaload, 1) := dk_46 (dk_at dksL_law_50 4 rfl rfl)
theorem dL_law_1325 : decode cL_law 1325 = .ok (.aload_n 0, 1) := dk_42 (dk_at dksL_law_50 5 rfl rfl)
theorem dL_law_1326 : decode cL_law 1326 = .ok (.iload 4, 2) := dk_21 4 (dk_at dksL_law_50 6 rfl rfl)
theorem dL_law_1328 : decode cL_law 1328 = .ok (.iconst 2, 1) := dk_5 (dk_at dksL_law_50 8 rfl rfl)
theorem dL_law_1329 : decode cL_law 1329 = .ok (.iadd, 1) := dk_96 (dk_at dksL_law_50 9 rfl rfl)
theorem dL_law_1330 : decode cL_law 1330 = .ok (.iaload, 1) := dk_46 (dk_at dksL_law_50 10 rfl rfl)
theorem dL_law_1331 : decode cL_law 1331 = .ok (.invokevirtual 216, 3) := dk_182 0 216 (dk_at dksL_law_50 11 rfl rfl)
theorem dL_law_1334 : decode cL_law 1334 = .ok (.istore 6, 2) := dk_54 6 (dk_at dksL_law_50 14 rfl rfl)
theorem dL_law_1336 : decode cL_law 1336 = .ok (.aload_n 2, 1) := dk_44 (dk_at dksL_law_50 16 rfl rfl)
theorem dL_law_1337 : decode cL_law 1337 = .ok (.invokevirtual 165, 3) := dk_182 0 165 (dk_at dksL_law_50 17 rfl rfl)
theorem dL_law_1340 : decode cL_law 1340 = .ok (.iload 5, 2) := dk_21 5 (dk_at dksL_law_50 20 rfl rfl)
theorem dL_law_1342 : decode cL_law 1342 = .ok (.if_icmp .eq 5, 3) := dk_159 0 5 (dk_at dksL_law_51 0 rfl rfl)
theorem dL_law_1345 : decode cL_law 1345 = .ok (.iconst 0, 1) := dk_3 (dk_at dksL_law_51 3 rfl rfl)
theorem dL_law_1346 : decode cL_law 1346 = .ok (.ireturn, 1) := dk_172 (dk_at dksL_law_51 4 rfl rfl)
theorem dL_law_1347 : decode cL_law 1347 = .ok (.iload 5, 2) := dk_21 5 (dk_at dksL_law_51 5 rfl rfl)
theorem dL_law_1349 : decode cL_law 1349 = .ok (.ifCond .ne 16, 3) := dk_154 0 16 (dk_at dksL_law_51 7 rfl rfl)
theorem dL_law_1352 : decode cL_law 1352 = .ok (.aload_n 3, 1) := dk_45 (dk_at dksL_law_51 10 rfl rfl)
theorem dL_law_1353 : decode cL_law 1353 = .ok (.getfield 13, 3) := dk_180 0 13 (dk_at dksL_law_51 11 rfl rfl)
theorem dL_law_1356 : decode cL_law 1356 = .ok (.iload 6, 2) := dk_21 6 (dk_at dksL_law_51 14 rfl rfl)
theorem dL_law_1358 : decode cL_law 1358 = .ok (.i2l, 1) := dk_133 (dk_at dksL_law_51 16 rfl rfl)
theorem dL_law_1359 : decode cL_law 1359 = .ok (.lcmp, 1) := dk_148 (dk_at dksL_law_51 17 rfl rfl)
theorem dL_law_1360 : decode cL_law 1360 = .ok (.ifCond .eq 5, 3) := dk_153 0 5 (dk_at dksL_law_51 18 rfl rfl)
theorem dL_law_1363 : decode cL_law 1363 = .ok (.iconst 0, 1) := dk_3 (dk_at dksL_law_51 21 rfl rfl)
theorem dL_law_1364 : decode cL_law 1364 = .ok (.ireturn, 1) := dk_172 (dk_at dksL_law_51 22 rfl rfl)
theorem dL_law_1365 : decode cL_law 1365 = .ok (.goto 1658, 3) := dk_167 6 122 (dk_at dksL_law_52 0 rfl rfl)
theorem dL_law_1368 : decode cL_law 1368 = .ok (.aload_n 1, 1) := dk_43 (dk_at dksL_law_52 3 rfl rfl)
theorem dL_law_1369 : decode cL_law 1369 = .ok (.aload_n 0, 1) := dk_42 (dk_at dksL_law_52 4 rfl rfl)
theorem dL_law_1370 : decode cL_law 1370 = .ok (.iload 4, 2) := dk_21 4 (dk_at dksL_law_52 5 rfl rfl)
theorem dL_law_1372 : decode cL_law 1372 = .ok (.iconst 1, 1) := dk_4 (dk_at dksL_law_52 7 rfl rfl)
theorem dL_law_1373 : decode cL_law 1373 = .ok (.iadd, 1) := dk_96 (dk_at dksL_law_52 8 rfl rfl)
theorem dL_law_1374 : decode cL_law 1374 = .ok (.iaload, 1) := dk_46 (dk_at dksL_law_52 9 rfl rfl)
theorem dL_law_1375 : decode cL_law 1375 = .ok (.aload_n 0, 1) := dk_42 (dk_at dksL_law_52 10 rfl rfl)
theorem dL_law_1376 : decode cL_law 1376 = .ok (.iload 4, 2) := dk_21 4 (dk_at dksL_law_52 11 rfl rfl)
theorem dL_law_1378 : decode cL_law 1378 = .ok (.iconst 2, 1) := dk_5 (dk_at dksL_law_52 13 rfl rfl)
theorem dL_law_1379 : decode cL_law 1379 = .ok (.iadd, 1) := dk_96 (dk_at dksL_law_52 14 rfl rfl)
theorem dL_law_1380 : decode cL_law 1380 = .ok (.iaload, 1) := dk_46 (dk_at dksL_law_52 15 rfl rfl)
theorem dL_law_1381 : decode cL_law 1381 = .ok (.aload_n 3, 1) := dk_45 (dk_at dksL_law_52 16 rfl rfl)
theorem dL_law_1382 : decode cL_law 1382 = .ok (.invokestatic 217, 3) := dk_184 0 217 (dk_at dksL_law_52 17 rfl rfl)
theorem dL_law_1385 : decode cL_law 1385 = .ok (.istore 5, 2) := dk_54 5 (dk_at dksL_law_52 20 rfl rfl)
theorem dL_law_1387 : decode cL_law 1387 = .ok (.aload_n 2, 1) := dk_44 (dk_at dksL_law_52 22 rfl rfl)
theorem dL_law_1388 : decode cL_law 1388 = .ok (.aload_n 0, 1) := dk_42 (dk_at dksL_law_52 23 rfl rfl)
theorem dL_law_1389 : decode cL_law 1389 = .ok (.iload 4, 2) := dk_21 4 (dk_at dksL_law_53 0 rfl rfl)
theorem dL_law_1391 : decode cL_law 1391 = .ok (.iconst 1, 1) := dk_4 (dk_at dksL_law_53 2 rfl rfl)
theorem dL_law_1392 : decode cL_law 1392 = .ok (.iadd, 1) := dk_96 (dk_at dksL_law_53 3 rfl rfl)
theorem dL_law_1393 : decode cL_law 1393 = .ok (.iaload, 1) := dk_46 (dk_at dksL_law_53 4 rfl rfl)
theorem dL_law_1394 : decode cL_law 1394 = .ok (.aload_n 0, 1) := dk_42 (dk_at dksL_law_53 5 rfl rfl)
theorem dL_law_1395 : decode cL_law 1395 = .ok (.iload 4, 2) := dk_21 4 (dk_at dksL_law_53 6 rfl rfl)
theorem dL_law_1397 : decode cL_law 1397 = .ok (.iconst 2, 1) := dk_5 (dk_at dksL_law_53 8 rfl rfl)
theorem dL_law_1398 : decode cL_law 1398 = .ok (.iadd, 1) := dk_96 (dk_at dksL_law_53 9 rfl rfl)
theorem dL_law_1399 : decode cL_law 1399 = .ok (.iaload, 1) := dk_46 (dk_at dksL_law_53 10 rfl rfl)
theorem dL_law_1400 : decode cL_law 1400 = .ok (.invokevirtual 219, 3) := dk_182 0 219 (dk_at dksL_law_53 11 rfl rfl)
theorem dL_law_1403 : decode cL_law 1403 = .ok (.istore 6, 2) := dk_54 6 (dk_at dksL_law_53 14 rfl rfl)
theorem dL_law_1405 : decode cL_law 1405 = .ok (.aload_n 2, 1) := dk_44 (dk_at dksL_law_53 16 rfl rfl)
theorem dL_law_1406 : decode cL_law 1406 = .ok (.invokevirtual 165, 3) := dk_182 0 165 (dk_at dksL_law_53 17 rfl rfl)
theorem dL_law_1409 : decode cL_law 1409 = .ok (.iload 5, 2) := dk_21 5 (dk_at dksL_law_53 20 rfl rfl)
theorem dL_law_1411 : decode cL_law 1411 = .ok (.if_icmp .eq 5, 3) := dk_159 0 5 (dk_at dksL_law_54 0 rfl rfl)
theorem dL_law_1414 : decode cL_law 1414 = .ok (.iconst 0, 1) := dk_3 (dk_at dksL_law_54 3 rfl rfl)
theorem dL_law_1415 : decode cL_law 1415 = .ok (.ireturn, 1) := dk_172 (dk_at dksL_law_54 4 rfl rfl)
theorem dL_law_1416 : decode cL_law 1416 = .ok (.iload 5, 2) := dk_21 5 (dk_at dksL_law_54 5 rfl rfl)
theorem dL_law_1418 : decode cL_law 1418 = .ok (.ifCond .ne 16, 3) := dk_154 0 16 (dk_at dksL_law_54 7 rfl rfl)
theorem dL_law_1421 : decode cL_law 1421 = .ok (.aload_n 3, 1) := dk_45 (dk_at dksL_law_54 10 rfl rfl)
theorem dL_law_1422 : decode cL_law 1422 = .ok (.getfield 13, 3) := dk_180 0 13 (dk_at dksL_law_54 11 rfl rfl)
theorem dL_law_1425 : decode cL_law 1425 = .ok (.iload 6, 2) := dk_21 6 (dk_at dksL_law_54 14 rfl rfl)
theorem dL_law_1427 : decode cL_law 1427 = .ok (.i2l, 1) := dk_133 (dk_at dksL_law_54 16 rfl rfl)
theorem dL_law_1428 : decode cL_law 1428 = .ok (.lcmp, 1) := dk_148 (dk_at dksL_law_54 17 rfl rfl)
theorem dL_law_1429 : decode cL_law 1429 = .ok (.ifCond .eq 5, 3) := dk_153 0 5 (dk_at dksL_law_54 18 rfl rfl)
theorem dL_law_1432 : decode cL_law 1432 = .ok (.iconst 0, 1) := dk_3 (dk_at dksL_law_54 21 rfl rfl)
theorem dL_law_1433 : decode cL_law 1433 = .ok (.ireturn, 1) := dk_172 (dk_at dksL_law_54 22 rfl rfl)
theorem dL_law_1434 : decode cL_law 1434 = .ok (.goto 1589, 3) := dk_167 6 53 (dk_at dksL_law_55 0 rfl rfl)
theorem dL_law_1437 : decode cL_law 1437 = .ok (.aload_n 1, 1) := dk_43 (dk_at dksL_law_55 3 rfl rfl)
theorem dL_law_1438 : decode cL_law 1438 = .ok (.aload_n 0, 1) := dk_42 (dk_at dksL_law_55 4 rfl rfl)
theorem dL_law_1439 : decode cL_law 1439 = .ok (.iload 4, 2) := dk_21 4 (dk_at dksL_law_55 5 rfl rfl)
theorem dL_law_1441 : decode cL_law 1441 = .ok (.iconst 1, 1) := dk_4 (dk_at dksL_law_55 7 rfl rfl)
theorem dL_law_1442 : decode cL_law 1442 = .ok (.iadd, 1) := dk_96 (dk_at dksL_law_55 8 rfl rfl)
theorem dL_law_1443 : decode cL_law 1443 = .ok (.iaload, 1) := dk_46 (dk_at dksL_law_55 9 rfl rfl)
theorem dL_law_1444 : decode cL_law 1444 = .ok (.aload_n 3, 1) := dk_45 (dk_at dksL_law_55 10 rfl rfl)
theorem dL_law_1445 : decode cL_law 1445 = .ok (.invokestatic 220, 3) := dk_184 0 220 (dk_at dksL_law_55 11 rfl rfl)
theorem dL_law_1448 : decode cL_law 1448 = .ok (.istore 5, 2) := dk_54 5 (dk_at dksL_law_55 14 rfl rfl)
theorem dL_law_1450 : decode cL_law 1450 = .ok (.aload_n 2, 1) := dk_44 (dk_at dksL_law_55 16 rfl rfl)
theorem dL_law_1451 : decode cL_law 1451 = .ok (.aload_n 0, 1) := dk_42 (dk_at dksL_law_55 17 rfl rfl)
theorem dL_law_1452 : decode cL_law 1452 = .ok (.iload 4, 2) := dk_21 4 (dk_at dksL_law_55 18 rfl rfl)
theorem dL_law_1454 : decode cL_law 1454 = .ok (.iconst 1, 1) := dk_4 (dk_at dksL_law_55 20 rfl rfl)
theorem dL_law_1455 : decode cL_law 1455 = .ok (.iadd, 1) := dk_96 (dk_at dksL_law_55 21 rfl rfl)
theorem dL_law_1456 : decode cL_law 1456 = .ok (.iaload, 1) := dk_46 (dk_at dksL_law_55 22 rfl rfl)
theorem dL_law_1457 : decode cL_law 1457 = .ok (.invokevirtual 222, 3) := dk_182 0 222 (dk_at dksL_law_56 0 rfl rfl)
theorem dL_law_1460 : decode cL_law 1460 = .ok (.istore 6, 2) := dk_54 6 (dk_at dksL_law_56 3 rfl rfl)
theorem dL_law_1462 : decode cL_law 1462 = .ok (.aload_n 2, 1) := dk_44 (dk_at dksL_law_56 5 rfl rfl)
theorem dL_law_1463 : decode cL_law 1463 = .ok (.invokevirtual 165, 3) := dk_182 0 165 (dk_at dksL_law_56 6 rfl rfl)
theorem dL_law_1466 : decode cL_law 1466 = .ok (.iload 5, 2) := dk_21 5 (dk_at dksL_law_56 9 rfl rfl)
theorem dL_law_1468 : decode cL_law 1468 = .ok (.if_icmp .eq 5, 3) := dk_159 0 5 (dk_at dksL_law_56 11 rfl rfl)
theorem dL_law_1471 : decode cL_law 1471 = .ok (.iconst 0, 1) := dk_3 (dk_at dksL_law_56 14 rfl rfl)
theorem dL_law_1472 : decode cL_law 1472 = .ok (.ireturn, 1) := dk_172 (dk_at dksL_law_56 15 rfl rfl)
theorem dL_law_1473 : decode cL_law 1473 = .ok (.iload 5, 2) := dk_21 5 (dk_at dksL_law_56 16 rfl rfl)
theorem dL_law_1475 : decode cL_law 1475 = .ok (.ifCond .ne 16, 3) := dk_154 0 16 (dk_at dksL_law_56 18 rfl rfl)
theorem dL_law_1478 : decode cL_law 1478 = .ok (.aload_n 3, 1) := dk_45 (dk_at dksL_law_56 21 rfl rfl)
theorem dL_law_1479 : decode cL_law 1479 = .ok (.getfield 13, 3) := dk_180 0 13 (dk_at dksL_law_57 0 rfl rfl)
theorem dL_law_1482 : decode cL_law 1482 = .ok (.iload 6, 2) := dk_21 6 (dk_at dksL_law_57 3 rfl rfl)
theorem dL_law_1484 : decode cL_law 1484 = .ok (.i2l, 1) := dk_133 (dk_at dksL_law_57 5 rfl rfl)
theorem dL_law_1485 : decode cL_law 1485 = .ok (.lcmp, 1) := dk_148 (dk_at dksL_law_57 6 rfl rfl)
theorem dL_law_1486 : decode cL_law 1486 = .ok (.ifCond .eq 5, 3) := dk_153 0 5 (dk_at dksL_law_57 7 rfl rfl)
theorem dL_law_1489 : decode cL_law 1489 = .ok (.iconst 0, 1) := dk_3 (dk_at dksL_law_57 10 rfl rfl)
theorem dL_law_1490 : decode cL_law 1490 = .ok (.ireturn, 1) := dk_172 (dk_at dksL_law_57 11 rfl rfl)
theorem dL_law_1491 : decode cL_law 1491 = .ok (.goto 1532, 3) := dk_167 5 252 (dk_at dksL_law_57 12 rfl rfl)
theorem dL_law_1494 : decode cL_law 1494 = .ok (.aload_n 1, 1) := dk_43 (dk_at dksL_law_57 15 rfl rfl)
theorem dL_law_1495 : decode cL_law 1495 = .ok (.aload_n 0, 1) := dk_42 (dk_at dksL_law_57 16 rfl rfl)
theorem dL_law_1496 : decode cL_law 1496 = .ok (.iload 4, 2) := dk_21 4 (dk_at dksL_law_57 17 rfl rfl)
theorem dL_law_1498 : decode cL_law 1498 = .ok (.iconst 1, 1) := dk_4 (dk_at dksL_law_57 19 rfl rfl)
theorem dL_law_1499 : decode cL_law 1499 = .ok (.iadd, 1) := dk_96 (dk_at dksL_law_57 20 rfl rfl)
theorem dL_law_1500 : decode cL_law 1500 = .ok (.iaload, 1) := dk_46 (dk_at dksL_law_57 21 rfl rfl)
theorem dL_law_1501 : decode cL_law 1501 = .ok (.aload_n 0, 1) := dk_42 (dk_at dksL_law_57 22 rfl rfl)
theorem dL_law_1502 : decode cL_law 1502 = .ok (.iload 4, 2) := dk_21 4 (dk_at dksL_law_58 0 rfl rfl)
theorem dL_law_1504 : decode cL_law 1504 = .ok (.iconst 2, 1) := dk_5 (dk_at dksL_law_58 2 rfl rfl)
theorem dL_law_1505 : decode cL_law 1505 = .ok (.iadd, 1) := dk_96 (dk_at dksL_law_58 3 rfl rfl)
theorem dL_law_1506 : decode cL_law 1506 = .ok (.iaload, 1) := dk_46 (dk_at dksL_law_58 4 rfl rfl)
theorem dL_law_1507 : decode cL_law 1507 = .ok (.aload_n 3, 1) := dk_45 (dk_at dksL_law_58 5 rfl rfl)
theorem dL_law_1508 : decode cL_law 1508 = .ok (.invokestatic 223, 3) := dk_184 0 223 (dk_at dksL_law_58 6 rfl rfl)
theorem dL_law_1511 : decode cL_law 1511 = .ok (.istore 5, 2) := dk_54 5 (dk_at dksL_law_58 9 rfl rfl)
theorem dL_law_1513 : decode cL_law 1513 = .ok (.aload_n 2, 1) := dk_44 (dk_at dksL_law_58 11 rfl rfl)
theorem dL_law_1514 : decode cL_law 1514 = .ok (.aload_n 0, 1) := dk_42 (dk_at dksL_law_58 12 rfl rfl)
theorem dL_law_1515 : decode cL_law 1515 = .ok (.iload 4, 2) := dk_21 4 (dk_at dksL_law_58 13 rfl rfl)
theorem dL_law_1517 : decode cL_law 1517 = .ok (.iconst 1, 1) := dk_4 (dk_at dksL_law_58 15 rfl rfl)
theorem dL_law_1518 : decode cL_law 1518 = .ok (.iadd, 1) := dk_96 (dk_at dksL_law_58 16 rfl rfl)
theorem dL_law_1519 : decode cL_law 1519 = .ok (.iaload, 1) := dk_46 (dk_at dksL_law_58 17 rfl rfl)
theorem dL_law_1520 : decode cL_law 1520 = .ok (.aload_n 0, 1) := dk_42 (dk_at dksL_law_58 18 rfl rfl)
theorem dL_law_1521 : decode cL_law 1521 = .ok (.iload 4, 2) := dk_21 4 (dk_at dksL_law_58 19 rfl rfl)
theorem dL_law_1523 : decode cL_law 1523 = .ok (.iconst 2, 1) := dk_5 (dk_at dksL_law_58 21 rfl rfl)
theorem dL_law_1524 : decode cL_law 1524 = .ok (.iadd, 1) := dk_96 (dk_at dksL_law_58 22 rfl rfl)
theorem dL_law_1525 : decode cL_law 1525 = .ok (.iaload, 1) := dk_46 (dk_at dksL_law_58 23 rfl rfl)
theorem dL_law_1526 : decode cL_law 1526 = .ok (.invokevirtual 225, 3) := dk_182 0 225 (dk_at dksL_law_59 0 rfl rfl)
theorem dL_law_1529 : decode cL_law 1529 = .ok (.istore 6, 2) := dk_54 6 (dk_at dksL_law_59 3 rfl rfl)
theorem dL_law_1531 : decode cL_law 1531 = .ok (.aload_n 2, 1) := dk_44 (dk_at dksL_law_59 5 rfl rfl)
theorem dL_law_1532 : decode cL_law 1532 = .ok (.invokevirtual 165, 3) := dk_182 0 165 (dk_at dksL_law_59 6 rfl rfl)
theorem dL_law_1535 : decode cL_law 1535 = .ok (.iload 5, 2) := dk_21 5 (dk_at dksL_law_59 9 rfl rfl)
theorem dL_law_1537 : decode cL_law 1537 = .ok (.if_icmp .eq 5, 3) := dk_159 0 5 (dk_at dksL_law_59 11 rfl rfl)
theorem dL_law_1540 : decode cL_law 1540 = .ok (.iconst 0, 1) := dk_3 (dk_at dksL_law_59 14 rfl rfl)
theorem dL_law_1541 : decode cL_law 1541 = .ok (.ireturn, 1) := dk_172 (dk_at dksL_law_59 15 rfl rfl)
theorem dL_law_1542 : decode cL_law 1542 = .ok (.iload 5, 2) := dk_21 5 (dk_at dksL_law_59 16 rfl rfl)
theorem dL_law_1544 : decode cL_law 1544 = .ok (.ifCond .ne 16, 3) := dk_154 0 16 (dk_at dksL_law_59 18 rfl rfl)
theorem dL_law_1547 : decode cL_law 1547 = .ok (.aload_n 3, 1) := dk_45 (dk_at dksL_law_59 21 rfl rfl)
theorem dL_law_1548 : decode cL_law 1548 = .ok (.getfield 13, 3) := dk_180 0 13 (dk_at dksL_law_60 0 rfl rfl)
theorem dL_law_1551 : decode cL_law 1551 = .ok (.iload 6, 2) := dk_21 6 (dk_at dksL_law_60 3 rfl rfl)
theorem dL_law_1553 : decode cL_law 1553 = .ok (.i2l, 1) := dk_133 (dk_at dksL_law_60 5 rfl rfl)
theorem dL_law_1554 : decode cL_law 1554 = .ok (.lcmp, 1) := dk_148 (dk_at dksL_law_60 6 rfl rfl)
theorem dL_law_1555 : decode cL_law 1555 = .ok (.ifCond .eq 5, 3) := dk_153 0 5 (dk_at dksL_law_60 7 rfl rfl)
theorem dL_law_1558 : decode cL_law 1558 = .ok (.iconst 0, 1) := dk_3 (dk_at dksL_law_60 10 rfl rfl)
theorem dL_law_1559 : decode cL_law 1559 = .ok (.ireturn, 1) := dk_172 (dk_at dksL_law_60 11 rfl rfl)
theorem dL_law_1560 : decode cL_law 1560 = .ok (.goto 1463, 3) := dk_167 5 183 (dk_at dksL_law_60 12 rfl rfl)
theorem dL_law_1563 : decode cL_law 1563 = .ok (.aload_n 1, 1) := dk_43 (dk_at dksL_law_60 15 rfl rfl)
theorem dL_law_1564 : decode cL_law 1564 = .ok (.aload_n 0, 1) := dk_42 (dk_at dksL_law_60 16 rfl rfl)
theorem dL_law_1565 : decode cL_law 1565 = .ok (.iload 4, 2) := dk_21 4 (dk_at dksL_law_60 17 rfl rfl)
theorem dL_law_1567 : decode cL_law 1567 = .ok (.iconst 1, 1) := dk_4 (dk_at dksL_law_60 19 rfl rfl)
theorem dL_law_1568 : decode cL_law 1568 = .ok (.iadd, 1) := dk_96 (dk_at dksL_law_60 20 rfl rfl)
theorem dL_law_1569 : decode cL_law 1569 = .ok (.iaload, 1) := dk_46 (dk_at dksL_law_60 21 rfl rfl)
theorem dL_law_1570 : decode cL_law 1570 = .ok (.aload_n 3, 1) := dk_45 (dk_at dksL_law_60 22 rfl rfl)
theorem dL_law_1571 : decode cL_law 1571 = .ok (.invokestatic 226, 3) := dk_184 0 226 (dk_at dksL_law_61 0 rfl rfl)
theorem dL_law_1574 : decode cL_law 1574 = .ok (.istore 5, 2) := dk_54 5 (dk_at dksL_law_61 3 rfl rfl)
theorem dL_law_1576 : decode cL_law 1576 = .ok (.aload_n 2, 1) := dk_44 (dk_at dksL_law_61 5 rfl rfl)
theorem dL_law_1577 : decode cL_law 1577 = .ok (.aload_n 0, 1) := dk_42 (dk_at dksL_law_61 6 rfl rfl)
theorem dL_law_1578 : decode cL_law 1578 = .ok (.iload 4, 2) := dk_21 4 (dk_at dksL_law_61 7 rfl rfl)
theorem dL_law_1580 : decode cL_law 1580 = .ok (.iconst 1, 1) := dk_4 (dk_at dksL_law_61 9 rfl rfl)
theorem dL_law_1581 : decode cL_law 1581 = .ok (.iadd, 1) := dk_96 (dk_at dksL_law_61 10 rfl rfl)
theorem dL_law_1582 : decode cL_law 1582 = .ok (.iaload, 1) := dk_46 (dk_at dksL_law_61 11 rfl rfl)
theorem dL_law_1583 : decode cL_law 1583 = .ok (.invokevirtual 228, 3) := dk_182 0 228 (dk_at dksL_law_61 12 rfl rfl)
theorem dL_law_1586 : decode cL_law 1586 = .ok (.istore 6, 2) := dk_54 6 (dk_at dksL_law_61 15 rfl rfl)
theorem dL_law_1588 : decode cL_law 1588 = .ok (.aload_n 2, 1) := dk_44 (dk_at dksL_law_61 17 rfl rfl)
theorem dL_law_1589 : decode cL_law 1589 = .ok (.invokevirtual 165, 3) := dk_182 0 165 (dk_at dksL_law_61 18 rfl rfl)
theorem dL_law_1592 : decode cL_law 1592 = .ok (.iload 5, 2) := dk_21 5 (dk_at dksL_law_61 21 rfl rfl)
theorem dL_law_1594 : decode cL_law 1594 = .ok (.if_icmp .eq 5, 3) := dk_159 0 5 (dk_at dksL_law_62 0 rfl rfl)
theorem dL_law_1597 : decode cL_law 1597 = .ok (.iconst 0, 1) := dk_3 (dk_at dksL_law_62 3 rfl rfl)
theorem dL_law_1598 : decode cL_law 1598 = .ok (.ireturn, 1) := dk_172 (dk_at dksL_law_62 4 rfl rfl)
theorem dL_law_1599 : decode cL_law 1599 = .ok (.iload 5, 2) := dk_21 5 (dk_at dksL_law_62 5 rfl rfl)
theorem dL_law_1601 : decode cL_law 1601 = .ok (.ifCond .ne 16, 3) := dk_154 0 16 (dk_at dksL_law_62 7 rfl rfl)
theorem dL_law_1604 : decode cL_law 1604 = .ok (.aload_n 3, 1) := dk_45 (dk_at dksL_law_62 10 rfl rfl)
theorem dL_law_1605 : decode cL_law 1605 = .ok (.getfield 13, 3) := dk_180 0 13 (dk_at dksL_law_62 11 rfl rfl)
theorem dL_law_1608 : decode cL_law 1608 = .ok (.iload 6, 2) := dk_21 6 (dk_at dksL_law_62 14 rfl rfl)
theorem dL_law_1610 : decode cL_law 1610 = .ok (.i2l, 1) := dk_133 (dk_at dksL_law_62 16 rfl rfl)
theorem dL_law_1611 : decode cL_law 1611 = .ok (.lcmp, 1) := dk_148 (dk_at dksL_law_62 17 rfl rfl)
theorem dL_law_1612 : decode cL_law 1612 = .ok (.ifCond .eq 5, 3) := dk_153 0 5 (dk_at dksL_law_62 18 rfl rfl)
theorem dL_law_1615 : decode cL_law 1615 = .ok (.iconst 0, 1) := dk_3 (dk_at dksL_law_62 21 rfl rfl)
theorem dL_law_1616 : decode cL_law 1616 = .ok (.ireturn, 1) := dk_172 (dk_at dksL_law_62 22 rfl rfl)
theorem dL_law_1617 : decode cL_law 1617 = .ok (.goto 1406, 3) := dk_167 5 126 (dk_at dksL_law_63 0 rfl rfl)
theorem dL_law_1620 : decode cL_law 1620 = .ok (.aload_n 1, 1) := dk_43 (dk_at dksL_law_63 3 rfl rfl)
theorem dL_law_1621 : decode cL_law 1621 = .ok (.aload_n 0, 1) := dk_42 (dk_at dksL_law_63 4 rfl rfl)
theorem dL_law_1622 : decode cL_law 1622 = .ok (.iload 4, 2) := dk_21 4 (dk_at dksL_law_63 5 rfl rfl)
theorem dL_law_1624 : decode cL_law 1624 = .ok (.iconst 1, 1) := dk_4 (dk_at dksL_law_63 7 rfl rfl)
theorem dL_law_1625 : decode cL_law 1625 = .ok (.iadd, 1) := dk_96 (dk_at dksL_law_63 8 rfl rfl)
theorem dL_law_1626 : decode cL_law 1626 = .ok (.iaload, 1) := dk_46 (dk_at dksL_law_63 9 rfl rfl)
theorem dL_law_1627 : decode cL_law 1627 = .ok (.aload_n 3, 1) := dk_45 (dk_at dksL_law_63 10 rfl rfl)
theorem dL_law_1628 : decode cL_law 1628 = .ok (.invokestatic 229, 3) := dk_184 0 229 (dk_at dksL_law_63 11 rfl rfl)
theorem dL_law_1631 : decode cL_law 1631 = .ok (.istore 5, 2) := dk_54 5 (dk_at dksL_law_63 14 rfl rfl)
theorem dL_law_1633 : decode cL_law 1633 = .ok (.aload_n 2, 1) := dk_44 (dk_at dksL_law_63 16 rfl rfl)
theorem dL_law_1634 : decode cL_law 1634 = .ok (.aload_n 0, 1) := dk_42 (dk_at dksL_law_63 17 rfl rfl)
theorem dL_law_1635 : decode cL_law 1635 = .ok (.iload 4, 2) := dk_21 4 (dk_at dksL_law_63 18 rfl rfl)
theorem dL_law_1637 : decode cL_law 1637 = .ok (.iconst 1, 1) := dk_4 (dk_at dksL_law_63 20 rfl rfl)
theorem dL_law_1638 : decode cL_law 1638 = .ok (.iadd, 1) := dk_96 (dk_at dksL_law_63 21 rfl rfl)
theorem dL_law_1639 : decode cL_law 1639 = .ok (.iaload, 1) := dk_46 (dk_at dksL_law_63 22 rfl rfl)
theorem dL_law_1640 : decode cL_law 1640 = .ok (.invokevirtual 231, 3) := dk_182 0 231 (dk_at dksL_law_64 0 rfl rfl)
theorem dL_law_1643 : decode cL_law 1643 = .ok (.istore 6, 2) := dk_54 6 (dk_at dksL_law_64 3 rfl rfl)
theorem dL_law_1645 : decode cL_law 1645 = .ok (.aload_n 2, 1) := dk_44 (dk_at dksL_law_64 5 rfl rfl)
theorem dL_law_1646 : decode cL_law 1646 = .ok (.invokevirtual 165, 3) := dk_182 0 165 (dk_at dksL_law_64 6 rfl rfl)
theorem dL_law_1649 : decode cL_law 1649 = .ok (.iload 5, 2) := dk_21 5 (dk_at dksL_law_64 9 rfl rfl)
theorem dL_law_1651 : decode cL_law 1651 = .ok (.if_icmp .eq 5, 3) := dk_159 0 5 (dk_at dksL_law_64 11 rfl rfl)
theorem dL_law_1654 : decode cL_law 1654 = .ok (.iconst 0, 1) := dk_3 (dk_at dksL_law_64 14 rfl rfl)
theorem dL_law_1655 : decode cL_law 1655 = .ok (.ireturn, 1) := dk_172 (dk_at dksL_law_64 15 rfl rfl)
theorem dL_law_1656 : decode cL_law 1656 = .ok (.iload 5, 2) := dk_21 5 (dk_at dksL_law_64 16 rfl rfl)
theorem dL_law_1658 : decode cL_law 1658 = .ok (.ifCond .ne 16, 3) := dk_154 0 16 (dk_at dksL_law_64 18 rfl rfl)
theorem dL_law_1661 : decode cL_law 1661 = .ok (.aload_n 3, 1) := dk_45 (dk_at dksL_law_64 21 rfl rfl)
theorem dL_law_1662 : decode cL_law 1662 = .ok (.getfield 13, 3) := dk_180 0 13 (dk_at dksL_law_65 0 rfl rfl)
theorem dL_law_1665 : decode cL_law 1665 = .ok (.iload 6, 2) := dk_21 6 (dk_at dksL_law_65 3 rfl rfl)
theorem dL_law_1667 : decode cL_law 1667 = .ok (.i2l, 1) := dk_133 (dk_at dksL_law_65 5 rfl rfl)
theorem dL_law_1668 : decode cL_law 1668 = .ok (.lcmp, 1) := dk_148 (dk_at dksL_law_65 6 rfl rfl)
theorem dL_law_1669 : decode cL_law 1669 = .ok (.ifCond .eq 5, 3) := dk_153 0 5 (dk_at dksL_law_65 7 rfl rfl)
theorem dL_law_1672 : decode cL_law 1672 = .ok (.iconst 0, 1) := dk_3 (dk_at dksL_law_65 10 rfl rfl)
theorem dL_law_1673 : decode cL_law 1673 = .ok (.ireturn, 1) := dk_172 (dk_at dksL_law_65 11 rfl rfl)
theorem dL_law_1674 : decode cL_law 1674 = .ok (.goto 1349, 3) := dk_167 5 69 (dk_at dksL_law_65 12 rfl rfl)
theorem dL_law_1677 : decode cL_law 1677 = .ok (.aload_n 1, 1) := dk_43 (dk_at dksL_law_65 15 rfl rfl)
theorem dL_law_1678 : decode cL_law 1678 = .ok (.invokevirtual 232, 3) := dk_182 0 232 (dk_at dksL_law_65 16 rfl rfl)
theorem dL_law_1681 : decode cL_law 1681 = .ok (.aload_n 2, 1) := dk_44 (dk_at dksL_law_65 19 rfl rfl)
theorem dL_law_1682 : decode cL_law 1682 = .ok (.invokevirtual 235, 3) := dk_182 0 235 (dk_at dksL_law_65 20 rfl rfl)
theorem dL_law_1685 : decode cL_law 1685 = .ok (.if_icmp .eq 1338, 3) := dk_159 5 58 (dk_at dksL_law_66 0 rfl rfl)
theorem dL_law_1688 : decode cL_law 1688 = .ok (.iconst 0, 1) := dk_3 (dk_at dksL_law_66 3 rfl rfl)
theorem dL_law_1689 : decode cL_law 1689 = .ok (.ireturn, 1) := dk_172 (dk_at dksL_law_66 4 rfl rfl)
theorem dL_law_1690 : decode cL_law 1690 = .ok (.aload_n 1, 1) := dk_43 (dk_at dksL_law_66 5 rfl rfl)
theorem dL_law_1691 : decode cL_law 1691 = .ok (.aload_n 0, 1) := dk_42 (dk_at dksL_law_66 6 rfl rfl)
theorem dL_law_1692 : decode cL_law 1692 = .ok (.iload 4, 2) := dk_21 4 (dk_at dksL_law_66 7 rfl rfl)
theorem dL_law_1694 : decode cL_law 1694 = .ok (.iconst 1, 1) := dk_4 (dk_at dksL_law_66 9 rfl rfl)
theorem dL_law_1695 : decode cL_law 1695 = .ok (.iadd, 1) := dk_96 (dk_at dksL_law_66 10 rfl rfl)
theorem dL_law_1696 : decode cL_law 1696 = .ok (.iaload, 1) := dk_46 (dk_at dksL_law_66 11 rfl rfl)
theorem dL_law_1697 : decode cL_law 1697 = .ok (.aload_n 0, 1) := dk_42 (dk_at dksL_law_66 12 rfl rfl)
theorem dL_law_1698 : decode cL_law 1698 = .ok (.iload 4, 2) := dk_21 4 (dk_at dksL_law_66 13 rfl rfl)
theorem dL_law_1700 : decode cL_law 1700 = .ok (.iconst 2, 1) := dk_5 (dk_at dksL_law_66 15 rfl rfl)
theorem dL_law_1701 : decode cL_law 1701 = .ok (.iadd, 1) := dk_96 (dk_at dksL_law_66 16 rfl rfl)
theorem dL_law_1702 : decode cL_law 1702 = .ok (.iaload, 1) := dk_46 (dk_at dksL_law_66 17 rfl rfl)
theorem dL_law_1703 : decode cL_law 1703 = .ok (.ifCond .eq 7, 3) := dk_153 0 7 (dk_at dksL_law_66 18 rfl rfl)
theorem dL_law_1706 : decode cL_law 1706 = .ok (.iconst 1, 1) := dk_4 (dk_at dksL_law_66 21 rfl rfl)
theorem dL_law_1707 : decode cL_law 1707 = .ok (.goto 4, 3) := dk_167 0 4 (dk_at dksL_law_67 0 rfl rfl)
theorem dL_law_1710 : decode cL_law 1710 = .ok (.iconst 0, 1) := dk_3 (dk_at dksL_law_67 3 rfl rfl)
theorem dL_law_1711 : decode cL_law 1711 = .ok (.aload_n 3, 1) := dk_45 (dk_at dksL_law_67 4 rfl rfl)
theorem dL_law_1712 : decode cL_law 1712 = .ok (.invokestatic 236, 3) := dk_184 0 236 (dk_at dksL_law_67 5 rfl rfl)
theorem dL_law_1715 : decode cL_law 1715 = .ok (.istore 5, 2) := dk_54 5 (dk_at dksL_law_67 8 rfl rfl)
theorem dL_law_1717 : decode cL_law 1717 = .ok (.aload_n 2, 1) := dk_44 (dk_at dksL_law_67 10 rfl rfl)
theorem dL_law_1718 : decode cL_law 1718 = .ok (.aload_n 0, 1) := dk_42 (dk_at dksL_law_67 11 rfl rfl)
theorem dL_law_1719 : decode cL_law 1719 = .ok (.iload 4, 2) := dk_21 4 (dk_at dksL_law_67 12 rfl rfl)
theorem dL_law_1721 : decode cL_law 1721 = .ok (.iconst 1, 1) := dk_4 (dk_at dksL_law_67 14 rfl rfl)
theorem dL_law_1722 : decode cL_law 1722 = .ok (.iadd, 1) := dk_96 (dk_at dksL_law_67 15 rfl rfl)
theorem dL_law_1723 : decode cL_law 1723 = .ok (.iaload, 1) := dk_46 (dk_at dksL_law_67 16 rfl rfl)
theorem dL_law_1724 : decode cL_law 1724 = .ok (.aload_n 0, 1) := dk_42 (dk_at dksL_law_67 17 rfl rfl)
theorem dL_law_1725 : decode cL_law 1725 = .ok (.iload 4, 2) := dk_21 4 (dk_at dksL_law_67 18 rfl rfl)
theorem dL_law_1727 : decode cL_law 1727 = .ok (.iconst 2, 1) := dk_5 (dk_at dksL_law_67 20 rfl rfl)
theorem dL_law_1728 : decode cL_law 1728 = .ok (.iadd, 1) := dk_96 (dk_at dksL_law_67 21 rfl rfl)
theorem dL_law_1729 : decode cL_law 1729 = .ok (.iaload, 1) := dk_46 (dk_at dksL_law_67 22 rfl rfl)
theorem dL_law_1730 : decode cL_law 1730 = .ok (.ifCond .eq 7, 3) := dk_153 0 7 (dk_at dksL_law_68 0 rfl rfl)
theorem dL_law_1733 : decode cL_law 1733 = .ok (.iconst 1, 1) := dk_4 (dk_at dksL_law_68 3 rfl rfl)
theorem dL_law_1734 : decode cL_law 1734 = .ok (.goto 4, 3) := dk_167 0 4 (dk_at dksL_law_68 4 rfl rfl)
theorem dL_law_1737 : decode cL_law 1737 = .ok (.iconst 0, 1) := dk_3 (dk_at dksL_law_68 7 rfl rfl)
theorem dL_law_1738 : decode cL_law 1738 = .ok (.invokevirtual 239, 3) := dk_182 0 239 (dk_at dksL_law_68 8 rfl rfl)
theorem dL_law_1741 : decode cL_law 1741 = .ok (.istore 6, 2) := dk_54 6 (dk_at dksL_law_68 11 rfl rfl)
theorem dL_law_1743 : decode cL_law 1743 = .ok (.aload_n 2, 1) := dk_44 (dk_at dksL_law_68 13 rfl rfl)
theorem dL_law_1744 : decode cL_law 1744 = .ok (.invokevirtual 165, 3) := dk_182 0 165 (dk_at dksL_law_68 14 rfl rfl)
theorem dL_law_1747 : decode cL_law 1747 = .ok (.iload 5, 2) := dk_21 5 (dk_at dksL_law_68 17 rfl rfl)
theorem dL_law_1749 : decode cL_law 1749 = .ok (.if_icmp .eq 5, 3) := dk_159 0 5 (dk_at dksL_law_68 19 rfl rfl)
theorem dL_law_1752 : decode cL_law 1752 = .ok (.iconst 0, 1) := dk_3 (dk_at dksL_law_68 22 rfl rfl)
theorem dL_law_1753 : decode cL_law 1753 = .ok (.ireturn, 1) := dk_172 (dk_at dksL_law_68 23 rfl rfl)
theorem dL_law_1754 : decode cL_law 1754 = .ok (.iload 5, 2) := dk_21 5 (dk_at dksL_law_69 0 rfl rfl)
theorem dL_law_1756 : decode cL_law 1756 = .ok (.ifCond .ne 23, 3) := dk_154 0 23 (dk_at dksL_law_69 2 rfl rfl)
theorem dL_law_1759 : decode cL_law 1759 = .ok (.aload_n 3, 1) := dk_45 (dk_at dksL_law_69 5 rfl rfl)
theorem dL_law_1760 : decode cL_law 1760 = .ok (.getfield 13, 3) := dk_180 0 13 (dk_at dksL_law_69 6 rfl rfl)
theorem dL_law_1763 : decode cL_law 1763 = .ok (.iload 6, 2) := dk_21 6 (dk_at dksL_law_69 9 rfl rfl)
theorem dL_law_1765 : decode cL_law 1765 = .ok (.ifCond .eq 7, 3) := dk_153 0 7 (dk_at dksL_law_69 11 rfl rfl)
theorem dL_law_1768 : decode cL_law 1768 = .ok (.lconst 1, 1) := dk_10 (dk_at dksL_law_69 14 rfl rfl)
theorem dL_law_1769 : decode cL_law 1769 = .ok (.goto 4, 3) := dk_167 0 4 (dk_at dksL_law_69 15 rfl rfl)
theorem dL_law_1772 : decode cL_law 1772 = .ok (.lconst 0, 1) := dk_9 (dk_at dksL_law_69 18 rfl rfl)
theorem dL_law_1773 : decode cL_law 1773 = .ok (.lcmp, 1) := dk_148 (dk_at dksL_law_69 19 rfl rfl)
theorem dL_law_1774 : decode cL_law 1774 = .ok (.ifCond .eq 5, 3) := dk_153 0 5 (dk_at dksL_law_69 20 rfl rfl)
theorem dL_law_1777 : decode cL_law 1777 = .ok (.iconst 0, 1) := dk_3 (dk_at dksL_law_69 23 rfl rfl)
theorem dL_law_1778 : decode cL_law 1778 = .ok (.ireturn, 1) := dk_172 (dk_at dksL_law_70 0 rfl rfl)
theorem dL_law_1779 : decode cL_law 1779 = .ok (.goto 1244, 3) := dk_167 4 220 (dk_at dksL_law_70 1 rfl rfl)
theorem dL_law_1782 : decode cL_law 1782 = .ok (.aload_n 1, 1) := dk_43 (dk_at dksL_law_70 4 rfl rfl)
theorem dL_law_1783 : decode cL_law 1783 = .ok (.aload_n 0, 1) := dk_42 (dk_at dksL_law_70 5 rfl rfl)
theorem dL_law_1784 : decode cL_law 1784 = .ok (.iload 4, 2) := dk_21 4 (dk_at dksL_law_70 6 rfl rfl)
theorem dL_law_1786 : decode cL_law 1786 = .ok (.iconst 1, 1) := dk_4 (dk_at dksL_law_70 8 rfl rfl)
theorem dL_law_1787 : decode cL_law 1787 = .ok (.iadd, 1) := dk_96 (dk_at dksL_law_70 9 rfl rfl)
theorem dL_law_1788 : decode cL_law 1788 = .ok (.iaload, 1) := dk_46 (dk_at dksL_law_70 10 rfl rfl)
theorem dL_law_1789 : decode cL_law 1789 = .ok (.aload_n 3, 1) := dk_45 (dk_at dksL_law_70 11 rfl rfl)
theorem dL_law_1790 : decode cL_law 1790 = .ok (.invokestatic 240, 3) := dk_184 0 240 (dk_at dksL_law_70 12 rfl rfl)
theorem dL_law_1793 : decode cL_law 1793 = .ok (.istore 5, 2) := dk_54 5 (dk_at dksL_law_70 15 rfl rfl)
theorem dL_law_1795 : decode cL_law 1795 = .ok (.aload_n 2, 1) := dk_44 (dk_at dksL_law_70 17 rfl rfl)
theorem dL_law_1796 : decode cL_law 1796 = .ok (.aload_n 0, 1) := dk_42 (dk_at dksL_law_70 18 rfl rfl)
theorem dL_law_1797 : decode cL_law 1797 = .ok (.iload 4, 2) := dk_21 4 (dk_at dksL_law_70 19 rfl rfl)
theorem dL_law_1799 : decode cL_law 1799 = .ok (.iconst 1, 1) := dk_4 (dk_at dksL_law_70 21 rfl rfl)
theorem dL_law_1800 : decode cL_law 1800 = .ok (.iadd, 1) := dk_96 (dk_at dksL_law_70 22 rfl rfl)
theorem dL_law_1801 : decode cL_law 1801 = .ok (.iaload, 1) := dk_46 (dk_at dksL_law_70 23 rfl rfl)
theorem dL_law_1802 : decode cL_law 1802 = .ok (.invokevirtual 242, 3) := dk_182 0 242 (dk_at dksL_law_71 0 rfl rfl)
theorem dL_law_1805 : decode cL_law 1805 = .ok (.istore 6, 2) := dk_54 6 (dk_at dksL_law_71 3 rfl rfl)
theorem dL_law_1807 : decode cL_law 1807 = .ok (.aload_n 2, 1) := dk_44 (dk_at dksL_law_71 5 rfl rfl)
theorem dL_law_1808 : decode cL_law 1808 = .ok (.invokevirtual 165, 3) := dk_182 0 165 (dk_at dksL_law_71 6 rfl rfl)
theorem dL_law_1811 : decode cL_law 1811 = .ok (.iload 5, 2) := dk_21 5 (dk_at dksL_law_71 9 rfl rfl)
theorem dL_law_1813 : decode cL_law 1813 = .ok (.if_icmp .eq 5, 3) := dk_159 0 5 (dk_at dksL_law_71 11 rfl rfl)
theorem dL_law_1816 : decode cL_law 1816 = .ok (.iconst 0, 1) := dk_3 (dk_at dksL_law_71 14 rfl rfl)
theorem dL_law_1817 : decode cL_law 1817 = .ok (.ireturn, 1) := dk_172 (dk_at dksL_law_71 15 rfl rfl)
theorem dL_law_1818 : decode cL_law 1818 = .ok (.iload 5, 2) := dk_21 5 (dk_at dksL_law_71 16 rfl rfl)
theorem dL_law_1820 : decode cL_law 1820 = .ok (.ifCond .ne 16, 3) := dk_154 0 16 (dk_at dksL_law_71 18 rfl rfl)
theorem dL_law_1823 : decode cL_law 1823 = .ok (.aload_n 3, 1) := dk_45 (dk_at dksL_law_71 21 rfl rfl)
theorem dL_law_1824 : decode cL_law 1824 = .ok (.getfield 13, 3) := dk_180 0 13 (dk_at dksL_law_72 0 rfl rfl)
theorem dL_law_1827 : decode cL_law 1827 = .ok (.iload 6, 2) := dk_21 6 (dk_at dksL_law_72 3 rfl rfl)
theorem dL_law_1829 : decode cL_law 1829 = .ok (.i2l, 1) := dk_133 (dk_at dksL_law_72 5 rfl rfl)
theorem dL_law_1830 : decode cL_law 1830 = .ok (.lcmp, 1) := dk_148 (dk_at dksL_law_72 6 rfl rfl)
theorem dL_law_1831 : decode cL_law 1831 = .ok (.ifCond .eq 5, 3) := dk_153 0 5 (dk_at dksL_law_72 7 rfl rfl)
theorem dL_law_1834 : decode cL_law 1834 = .ok (.iconst 0, 1) := dk_3 (dk_at dksL_law_72 10 rfl rfl)
theorem dL_law_1835 : decode cL_law 1835 = .ok (.ireturn, 1) := dk_172 (dk_at dksL_law_72 11 rfl rfl)
theorem dL_law_1836 : decode cL_law 1836 = .ok (.goto 1187, 3) := dk_167 4 163 (dk_at dksL_law_72 12 rfl rfl)
theorem dL_law_1839 : decode cL_law 1839 = .ok (.aload_n 1, 1) := dk_43 (dk_at dksL_law_72 15 rfl rfl)
theorem dL_law_1840 : decode cL_law 1840 = .ok (.invokevirtual 243, 3) := dk_182 0 243 (dk_at dksL_law_72 16 rfl rfl)
theorem dL_law_1843 : decode cL_law 1843 = .ok (.aload_n 2, 1) := dk_44 (dk_at dksL_law_72 19 rfl rfl)
theorem dL_law_1844 : decode cL_law 1844 = .ok (.invokevirtual 246, 3) := dk_182 0 246 (dk_at dksL_law_72 20 rfl rfl)
theorem dL_law_1847 : decode cL_law 1847 = .ok (.if_icmp .eq 1176, 3) := dk_159 4 152 (dk_at dksL_law_73 0 rfl rfl)
theorem dL_law_1850 : decode cL_law 1850 = .ok (.iconst 0, 1) := dk_3 (dk_at dksL_law_73 3 rfl rfl)
theorem dL_law_1851 : decode cL_law 1851 = .ok (.ireturn, 1) := dk_172 (dk_at dksL_law_73 4 rfl rfl)
theorem dL_law_1852 : decode cL_law 1852 = .ok (.aload_n 1, 1) := dk_43 (dk_at dksL_law_73 5 rfl rfl)
theorem dL_law_1853 : decode cL_law 1853 = .ok (.aload_n 0, 1) := dk_42 (dk_at dksL_law_73 6 rfl rfl)
theorem dL_law_1854 : decode cL_law 1854 = .ok (.iload 4, 2) := dk_21 4 (dk_at dksL_law_73 7 rfl rfl)
theorem dL_law_1856 : decode cL_law 1856 = .ok (.iconst 1, 1) := dk_4 (dk_at dksL_law_73 9 rfl rfl)
theorem dL_law_1857 : decode cL_law 1857 = .ok (.iadd, 1) := dk_96 (dk_at dksL_law_73 10 rfl rfl)
theorem dL_law_1858 : decode cL_law 1858 = .ok (.iaload, 1) := dk_46 (dk_at dksL_law_73 11 rfl rfl)
theorem dL_law_1859 : decode cL_law 1859 = .ok (.aload_n 0, 1) := dk_42 (dk_at dksL_law_73 12 rfl rfl)
theorem dL_law_1860 : decode cL_law 1860 = .ok (.iload 4, 2) := dk_21 4 (dk_at dksL_law_73 13 rfl rfl)
theorem dL_law_1862 : decode cL_law 1862 = .ok (.iconst 2, 1) := dk_5 (dk_at dksL_law_73 15 rfl rfl)
theorem dL_law_1863 : decode cL_law 1863 = .ok (.iadd, 1) := dk_96 (dk_at dksL_law_73 16 rfl rfl)
theorem dL_law_1864 : decode cL_law 1864 = .ok (.iaload, 1) := dk_46 (dk_at dksL_law_73 17 rfl rfl)
theorem dL_law_1865 : decode cL_law 1865 = .ok (.aload_n 3, 1) := dk_45 (dk_at dksL_law_73 18 rfl rfl)
theorem dL_law_1866 : decode cL_law 1866 = .ok (.invokestatic 247, 3) := dk_184 0 247 (dk_at dksL_law_73 19 rfl rfl)
theorem dL_law_1869 : decode cL_law 1869 = .ok (.istore 5, 2) := dk_54 5 (dk_at dksL_law_73 22 rfl rfl)
theorem dL_law_1871 : decode cL_law 1871 = .ok (.aload_n 2, 1) := dk_44 (dk_at dksL_law_74 0 rfl rfl)
theorem dL_law_1872 : decode cL_law 1872 = .ok (.aload_n 0, 1) := dk_42 (dk_at dksL_law_74 1 rfl rfl)
theorem dL_law_1873 : decode cL_law 1873 = .ok (.iload 4, 2) := dk_21 4 (dk_at dksL_law_74 2 rfl rfl)
theorem dL_law_1875 : decode cL_law 1875 = .ok (.iconst 1, 1) := dk_4 (dk_at dksL_law_74 4 rfl rfl)
theorem dL_law_1876 : decode cL_law 1876 = .ok (.iadd, 1) := dk_96 (dk_at dksL_law_74 5 rfl rfl)
theorem dL_law_1877 : decode cL_law 1877 = .ok (.iaload, 1) := dk_46 (dk_at dksL_law_74 6 rfl rfl)
theorem dL_law_1878 : decode cL_law 1878 = .ok (.aload_n 0, 1) := dk_42 (dk_at dksL_law_74 7 rfl rfl)
theorem dL_law_1879 : decode cL_law 1879 = .ok (.iload 4, 2) := dk_21 4 (dk_at dksL_law_74 8 rfl rfl)
theorem dL_law_1881 : decode cL_law 1881 = .ok (.iconst 2, 1) := dk_5 (dk_at dksL_law_74 10 rfl rfl)
theorem dL_law_1882 : decode cL_law 1882 = .ok (.iadd, 1) := dk_96 (dk_at dksL_law_74 11 rfl rfl)
theorem dL_law_1883 : decode cL_law 1883 = .ok (.iaload, 1) := dk_46 (dk_at dksL_law_74 12 rfl rfl)
theorem dL_law_1884 : decode cL_law 1884 = .ok (.invokevirtual 249, 3) := dk_182 0 249 (dk_at dksL_law_74 13 rfl rfl)
theorem dL_law_1887 : decode cL_law 1887 = .ok (.istore 6, 2) := dk_54 6 (dk_at dksL_law_74 16 rfl rfl)
theorem dL_law_1889 : decode cL_law 1889 = .ok (.aload_n 2, 1) := dk_44 (dk_at dksL_law_74 18 rfl rfl)
theorem dL_law_1890 : decode cL_law 1890 = .ok (.invokevirtual 165, 3) := dk_182 0 165 (dk_at dksL_law_74 19 rfl rfl)
theorem dL_law_1893 : decode cL_law 1893 = .ok (.iload 5, 2) := dk_21 5 (dk_at dksL_law_74 22 rfl rfl)
theorem dL_law_1895 : decode cL_law 1895 = .ok (.if_icmp .eq 5, 3) := dk_159 0 5 (dk_at dksL_law_75 0 rfl rfl)
theorem dL_law_1898 : decode cL_law 1898 = .ok (.iconst 0, 1) := dk_3 (dk_at dksL_law_75 3 rfl rfl)
theorem dL_law_1899 : decode cL_law 1899 = .ok (.ireturn, 1) := dk_172 (dk_at dksL_law_75 4 rfl rfl)
theorem dL_law_1900 : decode cL_law 1900 = .ok (.iload 5, 2) := dk_21 5 (dk_at dksL_law_75 5 rfl rfl)
theorem dL_law_1902 : decode cL_law 1902 = .ok (.ifCond .ne 16, 3) := dk_154 0 16 (dk_at dksL_law_75 7 rfl rfl)
theorem dL_law_1905 : decode cL_law 1905 = .ok (.aload_n 3, 1) := dk_45 (dk_at dksL_law_75 10 rfl rfl)
theorem dL_law_1906 : decode cL_law 1906 = .ok (.getfield 13, 3) := dk_180 0 13 (dk_at dksL_law_75 11 rfl rfl)
theorem dL_law_1909 : decode cL_law 1909 = .ok (.iload 6, 2) := dk_21 6 (dk_at dksL_law_75 14 rfl rfl)
theorem dL_law_1911 : decode cL_law 1911 = .ok (.i2l, 1) := dk_133 (dk_at dksL_law_75 16 rfl rfl)
theorem dL_law_1912 : decode cL_law 1912 = .ok (.lcmp, 1) := dk_148 (dk_at dksL_law_75 17 rfl rfl)
theorem dL_law_1913 : decode cL_law 1913 = .ok (.ifCond .eq 5, 3) := dk_153 0 5 (dk_at dksL_law_75 18 rfl rfl)
theorem dL_law_1916 : decode cL_law 1916 = .ok (.iconst 0, 1) := dk_3 (dk_at dksL_law_75 21 rfl rfl)
theorem dL_law_1917 : decode cL_law 1917 = .ok (.ireturn, 1) := dk_172 (dk_at dksL_law_75 22 rfl rfl)
theorem dL_law_1918 : decode cL_law 1918 = .ok (.goto 1105, 3) := dk_167 4 81 (dk_at dksL_law_76 0 rfl rfl)
theorem dL_law_1921 : decode cL_law 1921 = .ok (.aload_n 1, 1) := dk_43 (dk_at dksL_law_76 3 rfl rfl)
theorem dL_law_1922 : decode cL_law 1922 = .ok (.aload_n 0, 1) := dk_42 (dk_at dksL_law_76 4 rfl rfl)
theorem dL_law_1923 : decode cL_law 1923 = .ok (.iload 4, 2) := dk_21 4 (dk_at dksL_law_76 5 rfl rfl)
theorem dL_law_1925 : decode cL_law 1925 = .ok (.iconst 1, 1) := dk_4 (dk_at dksL_law_76 7 rfl rfl)
theorem dL_law_1926 : decode cL_law 1926 = .ok (.iadd, 1) := dk_96 (dk_at dksL_law_76 8 rfl rfl)
theorem dL_law_1927 : decode cL_law 1927 = .ok (.iaload, 1) := dk_46 (dk_at dksL_law_76 9 rfl rfl)
theorem dL_law_1928 : decode cL_law 1928 = .ok (.aload_n 0, 1) := dk_42 (dk_at dksL_law_76 10 rfl rfl)
theorem dL_law_1929 : decode cL_law 1929 = .ok (.iload 4, 2) := dk_21 4 (dk_at dksL_law_76 11 rfl rfl)
theorem dL_law_1931 : decode cL_law 1931 = .ok (.iconst 2, 1) := dk_5 (dk_at dksL_law_76 13 rfl rfl)
theorem dL_law_1932 : decode cL_law 1932 = .ok (.iadd, 1) := dk_96 (dk_at dksL_law_76 14 rfl rfl)
theorem dL_law_1933 : decode cL_law 1933 = .ok (.iaload, 1) := dk_46 (dk_at dksL_law_76 15 rfl rfl)
theorem dL_law_1934 : decode cL_law 1934 = .ok (.aload_n 0, 1) := dk_42 (dk_at dksL_law_76 16 rfl rfl)
theorem dL_law_1935 : decode cL_law 1935 = .ok (.iload 4, 2) := dk_21 4 (dk_at dksL_law_76 17 rfl rfl)
theorem dL_law_1937 : decode cL_law 1937 = .ok (.iconst 3, 1) := dk_6 (dk_at dksL_law_76 19 rfl rfl)
theorem dL_law_1938 : decode cL_law 1938 = .ok (.iadd, 1) := dk_96 (dk_at dksL_law_76 20 rfl rfl)
theorem dL_law_1939 : decode cL_law 1939 = .ok (.iaload, 1) := dk_46 (dk_at dksL_law_76 21 rfl rfl)
theorem dL_law_1940 : decode cL_law 1940 = .ok (.ifCond .eq 7, 3) := dk_153 0 7 (dk_at dksL_law_77 0 rfl rfl)
theorem dL_law_1943 : decode cL_law 1943 = .ok (.iconst 1, 1) := dk_4 (dk_at dksL_law_77 3 rfl rfl)
theorem dL_law_1944 : decode cL_law 1944 = .ok (.goto 4, 3) := dk_167 0 4 (dk_at dksL_law_77 4 rfl rfl)
theorem dL_law_1947 : decode cL_law 1947 = .ok (.iconst 0, 1) := dk_3 (dk_at dksL_law_77 7 rfl rfl)
theorem dL_law_1948 : decode cL_law 1948 = .ok (.aload_n 3, 1) := dk_45 (dk_at dksL_law_77 8 rfl rfl)
theorem dL_law_1949 : decode cL_law 1949 = .ok (.invokestatic 250, 3) := dk_184 0 250 (dk_at dksL_law_77 9 rfl rfl)
theorem dL_law_1952 : decode cL_law 1952 = .ok (.istore 5, 2) := dk_54 5 (dk_at dksL_law_77 12 rfl rfl)
theorem dL_law_1954 : decode cL_law 1954 = .ok (.aload_n 2, 1) := dk_44 (dk_at dksL_law_77 14 rfl rfl)
theorem dL_law_1955 : decode cL_law 1955 = .ok (.aload_n 0, 1) := dk_42 (dk_at dksL_law_77 15 rfl rfl)
theorem dL_law_1956 : decode cL_law 1956 = .ok (.iload 4, 2) := dk_21 4 (dk_at dksL_law_77 16 rfl rfl)
theorem dL_law_1958 : decode cL_law 1958 = .ok (.iconst 1, 1) := dk_4 (dk_at dksL_law_77 18 rfl rfl)
theorem dL_law_1959 : decode cL_law 1959 = .ok (.iadd, 1) := dk_96 (dk_at dksL_law_77 19 rfl rfl)
theorem dL_law_1960 : decode cL_law 1960 = .ok (.iaload, 1) := dk_46 (dk_at dksL_law_77 20 rfl rfl)
theorem dL_law_1961 : decode cL_law 1961 = .ok (.aload_n 0, 1) := dk_42 (dk_at dksL_law_77 21 rfl rfl)
theorem dL_law_1962 : decode cL_law 1962 = .ok (.iload 4, 2) := dk_21 4 (dk_at dksL_law_77 22 rfl rfl)
theorem dL_law_1964 : decode cL_law 1964 = .ok (.iconst 2, 1) := dk_5 (dk_at dksL_law_78 0 rfl rfl)
theorem dL_law_1965 : decode cL_law 1965 = .ok (.iadd, 1) := dk_96 (dk_at dksL_law_78 1 rfl rfl)
theorem dL_law_1966 : decode cL_law 1966 = .ok (.iaload, 1) := dk_46 (dk_at dksL_law_78 2 rfl rfl)
theorem dL_law_1967 : decode cL_law 1967 = .ok (.aload_n 0, 1) := dk_42 (dk_at dksL_law_78 3 rfl rfl)
theorem dL_law_1968 : decode cL_law 1968 = .ok (.iload 4, 2) := dk_21 4 (dk_at dksL_law_78 4 rfl rfl)
theorem dL_law_1970 : decode cL_law 1970 = .ok (.iconst 3, 1) := dk_6 (dk_at dksL_law_78 6 rfl rfl)
theorem dL_law_1971 : decode cL_law 1971 = .ok (.iadd, 1) := dk_96 (dk_at dksL_law_78 7 rfl rfl)
theorem dL_law_1972 : decode cL_law 1972 = .ok (.iaload, 1) := dk_46 (dk_at dksL_law_78 8 rfl rfl)
theorem dL_law_1973 : decode cL_law 1973 = .ok (.ifCond .eq 7, 3) := dk_153 0 7 (dk_at dksL_law_78 9 rfl rfl)
theorem dL_law_1976 : decode cL_law 1976 = .ok (.iconst 1, 1) := dk_4 (dk_at dksL_law_78 12 rfl rfl)
theorem dL_law_1977 : decode cL_law 1977 = .ok (.goto 4, 3) := dk_167 0 4 (dk_at dksL_law_78 13 rfl rfl)
theorem dL_law_1980 : decode cL_law 1980 = .ok (.iconst 0, 1) := dk_3 (dk_at dksL_law_78 16 rfl rfl)
theorem dL_law_1981 : decode cL_law 1981 = .ok (.invokevirtual 253, 3) := dk_182 0 253 (dk_at dksL_law_78 17 rfl rfl)
theorem dL_law_1984 : decode cL_law 1984 = .ok (.istore 6, 2) := dk_54 6 (dk_at dksL_law_78 20 rfl rfl)
theorem dL_law_1986 : decode cL_law 1986 = .ok (.aload_n 2, 1) := dk_44 (dk_at dksL_law_78 22 rfl rfl)
theorem dL_law_1987 : decode cL_law 1987 = .ok (.invokevirtual 165, 3) := dk_182 0 165 (dk_at dksL_law_79 0 rfl rfl)
theorem dL_law_1990 : decode cL_law 1990 = .ok (.iload 5, 2) := dk_21 5 (dk_at dksL_law_79 3 rfl rfl)
theorem dL_law_1992 : decode cL_law 1992 = .ok (.if_icmp .eq 5, 3) := dk_159 0 5 (dk_at dksL_law_79 5 rfl rfl)
theorem dL_law_1995 : decode cL_law 1995 = .ok (.iconst 0, 1) := dk_3 (dk_at dksL_law_79 8 rfl rfl)
theorem dL_law_1996 : decode cL_law 1996 = .ok (.ireturn, 1) := dk_172 (dk_at dksL_law_79 9 rfl rfl)
theorem dL_law_1997 : decode cL_law 1997 = .ok (.iload 5, 2) := dk_21 5 (dk_at dksL_law_79 10 rfl rfl)
theorem dL_law_1999 : decode cL_law 1999 = .ok (.ifCond .ne 16, 3) := dk_154 0 16 (dk_at dksL_law_79 12 rfl rfl)
theorem dL_law_2002 : decode cL_law 2002 = .ok (.aload_n 3, 1) := dk_45 (dk_at dksL_law_79 15 rfl rfl)
theorem dL_law_2003 : decode cL_law 2003 = .ok (.getfield 13, 3) := dk_180 0 13 (dk_at dksL_law_79 16 rfl rfl)
theorem dL_law_2006 : decode cL_law 2006 = .ok (.iload 6, 2) := dk_21 6 (dk_at dksL_law_79 19 rfl rfl)
theorem dL_law_2008 : decode cL_law 2008 = .ok (.i2l, 1) := dk_133 (dk_at dksL_law_79 21 rfl rfl)
theorem dL_law_2009 : decode cL_law 2009 = .ok (.lcmp, 1) := dk_148 (dk_at dksL_law_79 22 rfl rfl)
theorem dL_law_2010 : decode cL_law 2010 = .ok (.ifCond .eq 5, 3) := dk_153 0 5 (dk_at dksL_law_80 0 rfl rfl)
theorem dL_law_2013 : decode cL_law 2013 = .ok (.iconst 0, 1) := dk_3 (dk_at dksL_law_80 3 rfl rfl)
theorem dL_law_2014 : decode cL_law 2014 = .ok (.ireturn, 1) := dk_172 (dk_at dksL_law_80 4 rfl rfl)
theorem dL_law_2015 : decode cL_law 2015 = .ok (.goto 1008, 3) := dk_167 3 240 (dk_at dksL_law_80 5 rfl rfl)
theorem dL_law_2018 : decode cL_law 2018 = .ok (.aload_n 1, 1) := dk_43 (dk_at dksL_law_80 8 rfl rfl)
theorem dL_law_2019 : decode cL_law 2019 = .ok (.aload_n 0, 1) := dk_42 (dk_at dksL_law_80 9 rfl rfl)
theorem dL_law_2020 : decode cL_law 2020 = .ok (.iload 4, 2) := dk_21 4 (dk_at dksL_law_80 10 rfl rfl)
theorem dL_law_2022 : decode cL_law 2022 = .ok (.iconst 1, 1) := dk_4 (dk_at dksL_law_80 12 rfl rfl)
theorem dL_law_2023 : decode cL_law 2023 = .ok (.iadd, 1) := dk_96 (dk_at dksL_law_80 13 rfl rfl)
theorem dL_law_2024 : decode cL_law 2024 = .ok (.iaload, 1) := dk_46 (dk_at dksL_law_80 14 rfl rfl)
theorem dL_law_2025 : decode cL_law 2025 = .ok (.aload_n 0, 1) := dk_42 (dk_at dksL_law_80 15 rfl rfl)
theorem dL_law_2026 : decode cL_law 2026 = .ok (.iload 4, 2) := dk_21 4 (dk_at dksL_law_80 16 rfl rfl)
theorem dL_law_2028 : decode cL_law 2028 = .ok (.iconst 2, 1) := dk_5 (dk_at dksL_law_80 18 rfl rfl)
theorem dL_law_2029 : decode cL_law 2029 = .ok (.iadd, 1) := dk_96 (dk_at dksL_law_80 19 rfl rfl)
theorem dL_law_2030 : decode cL_law 2030 = .ok (.iaload, 1) := dk_46 (dk_at dksL_law_80 20 rfl rfl)
theorem dL_law_2031 : decode cL_law 2031 = .ok (.aload_n 0, 1) := dk_42 (dk_at dksL_law_80 21 rfl rfl)
theorem dL_law_2032 : decode cL_law 2032 = .ok (.iload 4, 2) := dk_21 4 (dk_at dksL_law_80 22 rfl rfl)
theorem dL_law_2034 : decode cL_law 2034 = .ok (.iconst 3, 1) := dk_6 (dk_at dksL_law_81 0 rfl rfl)
theorem dL_law_2035 : decode cL_law 2035 = .ok (.iadd, 1) := dk_96 (dk_at dksL_law_81 1 rfl rfl)
theorem dL_law_2036 : decode cL_law 2036 = .ok (.iaload, 1) := dk_46 (dk_at dksL_law_81 2 rfl rfl)
theorem dL_law_2037 : decode cL_law 2037 = .ok (.aload_n 3, 1) := dk_45 (dk_at dksL_law_81 3 rfl rfl)
theorem dL_law_2038 : decode cL_law 2038 = .ok (.invokestatic 254, 3) := dk_184 0 254 (dk_at dksL_law_81 4 rfl rfl)
theorem dL_law_2041 : decode cL_law 2041 = .ok (.istore 5, 2) := dk_54 5 (dk_at dksL_law_81 7 rfl rfl)
theorem dL_law_2043 : decode cL_law 2043 = .ok (.aload_n 2, 1) := dk_44 (dk_at dksL_law_81 9 rfl rfl)
theorem dL_law_2044 : decode cL_law 2044 = .ok (.aload_n 0, 1) := dk_42 (dk_at dksL_law_81 10 rfl rfl)
theorem dL_law_2045 : decode cL_law 2045 = .ok (.iload 4, 2) := dk_21 4 (dk_at dksL_law_81 11 rfl rfl)
theorem dL_law_2047 : decode cL_law 2047 = .ok (.iconst 1, 1) := dk_4 (dk_at dksL_law_81 13 rfl rfl)
theorem dL_law_2048 : decode cL_law 2048 = .ok (.iadd, 1) := dk_96 (dk_at dksL_law_81 14 rfl rfl)
theorem dL_law_2049 : decode cL_law 2049 = .ok (.iaload, 1) := dk_46 (dk_at dksL_law_81 15 rfl rfl)
theorem dL_law_2050 : decode cL_law 2050 = .ok (.aload_n 0, 1) := dk_42 (dk_at dksL_law_81 16 rfl rfl)
theorem dL_law_2051 : decode cL_law 2051 = .ok (.iload 4, 2) := dk_21 4 (dk_at dksL_law_81 17 rfl rfl)
theorem dL_law_2053 : decode cL_law 2053 = .ok (.iconst 2, 1) := dk_5 (dk_at dksL_law_81 19 rfl rfl)
theorem dL_law_2054 : decode cL_law 2054 = .ok (.iadd, 1) := dk_96 (dk_at dksL_law_81 20 rfl rfl)
theorem dL_law_2055 : decode cL_law 2055 = .ok (.iaload, 1) := dk_46 (dk_at dksL_law_81 21 rfl rfl)
theorem dL_law_2056 : decode cL_law 2056 = .ok (.aload_n 0, 1) := dk_42 (dk_at dksL_law_81 22 rfl rfl)
theorem dL_law_2057 : decode cL_law 2057 = .ok (.iload 4, 2) := dk_21 4 (dk_at dksL_law_82 0 rfl rfl)
theorem dL_law_2059 : decode cL_law 2059 = .ok (.iconst 3, 1) := dk_6 (dk_at dksL_law_82 2 rfl rfl)
theorem dL_law_2060 : decode cL_law 2060 = .ok (.iadd, 1) := dk_96 (dk_at dksL_law_82 3 rfl rfl)
theorem dL_law_2061 : decode cL_law 2061 = .ok (.iaload, 1) := dk_46 (dk_at dksL_law_82 4 rfl rfl)
theorem dL_law_2062 : decode cL_law 2062 = .ok (.invokevirtual 256, 3) := dk_182 1 0 (dk_at dksL_law_82 5 rfl rfl)
theorem dL_law_2065 : decode cL_law 2065 = .ok (.istore 6, 2) := dk_54 6 (dk_at dksL_law_82 8 rfl rfl)
theorem dL_law_2067 : decode cL_law 2067 = .ok (.aload_n 2, 1) := dk_44 (dk_at dksL_law_82 10 rfl rfl)
theorem dL_law_2068 : decode cL_law 2068 = .ok (.invokevirtual 165, 3) := dk_182 0 165 (dk_at dksL_law_82 11 rfl rfl)
theorem dL_law_2071 : decode cL_law 2071 = .ok (.iload 5, 2) := dk_21 5 (dk_at dksL_law_82 14 rfl rfl)
theorem dL_law_2073 : decode cL_law 2073 = .ok (.if_icmp .eq 5, 3) := dk_159 0 5 (dk_at dksL_law_82 16 rfl rfl)
theorem dL_law_2076 : decode cL_law 2076 = .ok (.iconst 0, 1) := dk_3 (dk_at dksL_law_82 19 rfl rfl)
theorem dL_law_2077 : decode cL_law 2077 = .ok (.ireturn, 1) := dk_172 (dk_at dksL_law_82 20 rfl rfl)
theorem dL_law_2078 : decode cL_law 2078 = .ok (.iload 5, 2) := dk_21 5 (dk_at dksL_law_82 21 rfl rfl)
theorem dL_law_2080 : decode cL_law 2080 = .ok (.ifCond .ne 16, 3) := dk_154 0 16 (dk_at dksL_law_83 0 rfl rfl)
theorem dL_law_2083 : decode cL_law 2083 = .ok (.aload_n 3, 1) := dk_45 (dk_at dksL_law_83 3 rfl rfl)
theorem dL_law_2084 : decode cL_law 2084 = .ok (.getfield 13, 3) := dk_180 0 13 (dk_at dksL_law_83 4 rfl rfl)
theorem dL_law_2087 : decode cL_law 2087 = .ok (.iload 6, 2) := dk_21 6 (dk_at dksL_law_83 7 rfl rfl)
theorem dL_law_2089 : decode cL_law 2089 = .ok (.i2l, 1) := dk_133 (dk_at dksL_law_83 9 rfl rfl)
theorem dL_law_2090 : decode cL_law 2090 = .ok (.lcmp, 1) := dk_148 (dk_at dksL_law_83 10 rfl rfl)
theorem dL_law_2091 : decode cL_law 2091 = .ok (.ifCond .eq 5, 3) := dk_153 0 5 (dk_at dksL_law_83 11 rfl rfl)
theorem dL_law_2094 : decode cL_law 2094 = .ok (.iconst 0, 1) := dk_3 (dk_at dksL_law_83 14 rfl rfl)
theorem dL_law_2095 : decode cL_law 2095 = .ok (.ireturn, 1) := dk_172 (dk_at dksL_law_83 15 rfl rfl)
theorem dL_law_2096 : decode cL_law 2096 = .ok (.goto 927, 3) := dk_167 3 159 (dk_at dksL_law_83 16 rfl rfl)
theorem dL_law_2099 : decode cL_law 2099 = .ok (.aload_n 1, 1) := dk_43 (dk_at dksL_law_83 19 rfl rfl)
theorem dL_law_2100 : decode cL_law 2100 = .ok (.aload_n 0, 1) := dk_42 (dk_at dksL_law_83 20 rfl rfl)
theorem dL_law_2101 : decode cL_law 2101 = .ok (.iload 4, 2) := dk_21 4 (dk_at dksL_law_83 21 rfl rfl)
theorem dL_law_2103 : decode cL_law 2103 = .ok (.iconst 1, 1) := dk_4 (dk_at dksL_law_83 23 rfl rfl)
theorem dL_law_2104 : decode cL_law 2104 = .ok (.iadd, 1) := dk_96 (dk_at dksL_law_84 0 rfl rfl)
theorem dL_law_2105 : decode cL_law 2105 = .ok (.iaload, 1) := dk_46 (dk_at dksL_law_84 1 rfl rfl)
theorem dL_law_2106 : decode cL_law 2106 = .ok (.aload_n 0, 1) := dk_42 (dk_at dksL_law_84 2 rfl rfl)
theorem dL_law_2107 : decode cL_law 2107 = .ok (.iload 4, 2) := dk_21 4 (dk_at dksL_law_84 3 rfl rfl)
theorem dL_law_2109 : decode cL_law 2109 = .ok (.iconst 2, 1) := dk_5 (dk_at dksL_law_84 5 rfl rfl)
theorem dL_law_2110 : decode cL_law 2110 = .ok (.iadd, 1) := dk_96 (dk_at dksL_law_84 6 rfl rfl)
theorem dL_law_2111 : decode cL_law 2111 = .ok (.iaload, 1) := dk_46 (dk_at dksL_law_84 7 rfl rfl)
theorem dL_law_2112 : decode cL_law 2112 = .ok (.aload_n 3, 1) := dk_45 (dk_at dksL_law_84 8 rfl rfl)
theorem dL_law_2113 : decode cL_law 2113 = .ok (.invokestatic 257, 3) := dk_184 1 1 (dk_at dksL_law_84 9 rfl rfl)
theorem dL_law_2116 : decode cL_law 2116 = .ok (.istore 5, 2) := dk_54 5 (dk_at dksL_law_84 12 rfl rfl)
theorem dL_law_2118 : decode cL_law 2118 = .ok (.aload_n 2, 1) := dk_44 (dk_at dksL_law_84 14 rfl rfl)
theorem dL_law_2119 : decode cL_law 2119 = .ok (.aload_n 0, 1) := dk_42 (dk_at dksL_law_84 15 rfl rfl)
theorem dL_law_2120 : decode cL_law 2120 = .ok (.iload 4, 2) := dk_21 4 (dk_at dksL_law_84 16 rfl rfl)
theorem dL_law_2122 : decode cL_law 2122 = .ok (.iconst 1, 1) := dk_4 (dk_at dksL_law_84 18 rfl rfl)
theorem dL_law_2123 : decode cL_law 2123 = .ok (.iadd, 1) := dk_96 (dk_at dksL_law_84 19 rfl rfl)
theorem dL_law_2124 : decode cL_law 2124 = .ok (.iaload, 1) := dk_46 (dk_at dksL_law_84 20 rfl rfl)
theorem dL_law_2125 : decode cL_law 2125 = .ok (.aload_n 0, 1) := dk_42 (dk_at dksL_law_84 21 rfl rfl)
theorem dL_law_2126 : decode cL_law 2126 = .ok (.iload 4, 2) := dk_21 4 (dk_at dksL_law_84 22 rfl rfl)
theorem dL_law_2128 : decode cL_law 2128 = .ok (.iconst 2, 1) := dk_5 (dk_at dksL_law_85 0 rfl rfl)
theorem dL_law_2129 : decode cL_law 2129 = .ok (.iadd, 1) := dk_96 (dk_at dksL_law_85 1 rfl rfl)
theorem dL_law_2130 : decode cL_law 2130 = .ok (.iaload, 1) := dk_46 (dk_at dksL_law_85 2 rfl rfl)
theorem dL_law_2131 : decode cL_law 2131 = .ok (.invokevirtual 259, 3) := dk_182 1 3 (dk_at dksL_law_85 3 rfl rfl)
theorem dL_law_2134 : decode cL_law 2134 = .ok (.istore 6, 2) := dk_54 6 (dk_at dksL_law_85 6 rfl rfl)
theorem dL_law_2136 : decode cL_law 2136 = .ok (.aload_n 2, 1) := dk_44 (dk_at dksL_law_85 8 rfl rfl)
theorem dL_law_2137 : decode cL_law 2137 = .ok (.invokevirtual 165, 3) := dk_182 0 165 (dk_at dksL_law_85 9 rfl rfl)
theorem dL_law_2140 : decode cL_law 2140 = .ok (.iload 5, 2) := dk_21 5 (dk_at dksL_law_85 12 rfl rfl)
theorem dL_law_2142 : decode cL_law 2142 = .ok (.if_icmp .eq 5, 3) := dk_159 0 5 (dk_at dksL_law_85 14 rfl rfl)
theorem dL_law_2145 : decode cL_law 2145 = .ok (.iconst 0, 1) := dk_3 (dk_at dksL_law_85 17 rfl rfl)
theorem dL_law_2146 : decode cL_law 2146 = .ok (.ireturn, 1) := dk_172 (dk_at dksL_law_85 18 rfl rfl)
theorem dL_law_2147 : decode cL_law 2147 = .ok (.iload 5, 2) := dk_21 5 (dk_at dksL_law_85 19 rfl rfl)
theorem dL_law_2149 : decode cL_law 2149 = .ok (.ifCond .ne 16, 3) := dk_154 0 16 (dk_at dksL_law_85 21 rfl rfl)
theorem dL_law_2152 : decode cL_law 2152 = .ok (.aload_n 3, 1) := dk_45 (dk_at dksL_law_86 0 rfl rfl)
theorem dL_law_2153 : decode cL_law 2153 = .ok (.getfield 13, 3) := dk_180 0 13 (dk_at dksL_law_86 1 rfl rfl)
theorem dL_law_2156 : decode cL_law 2156 = .ok (.iload 6, 2) := dk_21 6 (dk_at dksL_law_86 4 rfl rfl)
theorem dL_law_2158 : decode cL_law 2158 = .ok (.i2l, 1) := dk_133 (dk_at dksL_law_86 6 rfl rfl)
theorem dL_law_2159 : decode cL_law 2159 = .ok (.lcmp, 1) := dk_148 (dk_at dksL_law_86 7 rfl rfl)
theorem dL_law_2160 : decode cL_law 2160 = .ok (.ifCond .eq 5, 3) := dk_153 0 5 (dk_at dksL_law_86 8 rfl rfl)
theorem dL_law_2163 : decode cL_law 2163 = .ok (.iconst 0, 1) := dk_3 (dk_at dksL_law_86 11 rfl rfl)
theorem dL_law_2164 : decode cL_law 2164 = .ok (.ireturn, 1) := dk_172 (dk_at dksL_law_86 12 rfl rfl)
theorem dL_law_2165 : decode cL_law 2165 = .ok (.goto 858, 3) := dk_167 3 90 (dk_at dksL_law_86 13 rfl rfl)
theorem dL_law_2168 : decode cL_law 2168 = .ok (.aload_n 1, 1) := dk_43 (dk_at dksL_law_86 16 rfl rfl)
theorem dL_law_2169 : decode cL_law 2169 = .ok (.aload_n 0, 1) := dk_42 (dk_at dksL_law_86 17 rfl rfl)
theorem dL_law_2170 : decode cL_law 2170 = .ok (.iload 4, 2) := dk_21 4 (dk_at dksL_law_86 18 rfl rfl)
theorem dL_law_2172 : decode cL_law 2172 = .ok (.iconst 1, 1) := dk_4 (dk_at dksL_law_86 20 rfl rfl)
theorem dL_law_2173 : decode cL_law 2173 = .ok (.iadd, 1) := dk_96 (dk_at dksL_law_86 21 rfl rfl)
theorem dL_law_2174 : decode cL_law 2174 = .ok (.iaload, 1) := dk_46 (dk_at dksL_law_86 22 rfl rfl)
theorem dL_law_2175 : decode cL_law 2175 = .ok (.aload_n 0, 1) := dk_42 (dk_at dksL_law_86 23 rfl rfl)
theorem dL_law_2176 : decode cL_law 2176 = .ok (.iload 4, 2) := dk_21 4 (dk_at dksL_law_87 0 rfl rfl)
theorem dL_law_2178 : decode cL_law 2178 = .ok (.iconst 2, 1) := dk_5 (dk_at dksL_law_87 2 rfl rfl)
theorem dL_law_2179 : decode cL_law 2179 = .ok (.iadd, 1) := dk_96 (dk_at dksL_law_87 3 rfl rfl)
theorem dL_law_2180 : decode cL_law 2180 = .ok (.iaload, 1) := dk_46 (dk_at dksL_law_87 4 rfl rfl)
theorem dL_law_2181 : decode cL_law 2181 = .ok (.aload_n 3, 1) := dk_45 (dk_at dksL_law_87 5 rfl rfl)
theorem dL_law_2182 : decode cL_law 2182 = .ok (.invokestatic 260, 3) := dk_184 1 4 (dk_at dksL_law_87 6 rfl rfl)
theorem dL_law_2185 : decode cL_law 2185 = .ok (.istore 5, 2) := dk_54 5 (dk_at dksL_law_87 9 rfl rfl)
theorem dL_law_2187 : decode cL_law 2187 = .ok (.aload_n 2, 1) := dk_44 (dk_at dksL_law_87 11 rfl rfl)
theorem dL_law_2188 : decode cL_law 2188 = .ok (.aload_n 0, 1) := dk_42 (dk_at dksL_law_87 12 rfl rfl)
theorem dL_law_2189 : decode cL_law 2189 = .ok (.iload 4, 2) := dk_21 4 (dk_at dksL_law_87 13 rfl rfl)
theorem dL_law_2191 : decode cL_law 2191 = .ok (.iconst 1, 1) := dk_4 (dk_at dksL_law_87 15 rfl rfl)
theorem dL_law_2192 : decode cL_law 2192 = .ok (.iadd, 1) := dk_96 (dk_at dksL_law_87 16 rfl rfl)
theorem dL_law_2193 : decode cL_law 2193 = .ok (.iaload, 1) := dk_46 (dk_at dksL_law_87 17 rfl rfl)
theorem dL_law_2194 : decode cL_law 2194 = .ok (.aload_n 0, 1) := dk_42 (dk_at dksL_law_87 18 rfl rfl)
theorem dL_law_2195 : decode cL_law 2195 = .ok (.iload 4, 2) := dk_21 4 (dk_at dksL_law_87 19 rfl rfl)
theorem dL_law_2197 : decode cL_law 2197 = .ok (.iconst 2, 1) := dk_5 (dk_at dksL_law_87 21 rfl rfl)
theorem dL_law_2198 : decode cL_law 2198 = .ok (.iadd, 1) := dk_96 (dk_at dksL_law_87 22 rfl rfl)
theorem dL_law_2199 : decode cL_law 2199 = .ok (.iaload, 1) := dk_46 (dk_at dksL_law_87 23 rfl rfl)
theorem dL_law_2200 : decode cL_law 2200 = .ok (.invokevirtual 262, 3) := dk_182 1 6 (dk_at dksL_law_88 0 rfl rfl)
theorem dL_law_2203 : decode cL_law 2203 = .ok (.istore 6, 2) := dk_54 6 (dk_at dksL_law_88 3 rfl rfl)
theorem dL_law_2205 : decode cL_law 2205 = .ok (.aload_n 2, 1) := dk_44 (dk_at dksL_law_88 5 rfl rfl)
theorem dL_law_2206 : decode cL_law 2206 = .ok (.invokevirtual 165, 3) := dk_182 0 165 (dk_at dksL_law_88 6 rfl rfl)
theorem dL_law_2209 : decode cL_law 2209 = .ok (.iload 5, 2) := dk_21 5 (dk_at dksL_law_88 9 rfl rfl)
theorem dL_law_2211 : decode cL_law 2211 = .ok (.if_icmp .eq 5, 3) := dk_159 0 5 (dk_at dksL_law_88 11 rfl rfl)
theorem dL_law_2214 : decode cL_law 2214 = .ok (.iconst 0, 1) := dk_3 (dk_at dksL_law_88 14 rfl rfl)
theorem dL_law_2215 : decode cL_law 2215 = .ok (.ireturn, 1) := dk_172 (dk_at dksL_law_88 15 rfl rfl)
theorem dL_law_2216 : decode cL_law 2216 = .ok (.iload 5, 2) := dk_21 5 (dk_at dksL_law_88 16 rfl rfl)
theorem dL_law_2218 : decode cL_law 2218 = .ok (.ifCond .ne 16, 3) := dk_154 0 16 (dk_at dksL_law_88 18 rfl rfl)
theorem dL_law_2221 : decode cL_law 2221 = .ok (.aload_n 3, 1) := dk_45 (dk_at dksL_law_88 21 rfl rfl)
theorem dL_law_2222 : decode cL_law 2222 = .ok (.getfield 13, 3) := dk_180 0 13 (dk_at dksL_law_89 0 rfl rfl)
theorem dL_law_2225 : decode cL_law 2225 = .ok (.iload 6, 2) := dk_21 6 (dk_at dksL_law_89 3 rfl rfl)
theorem dL_law_2227 : decode cL_law 2227 = .ok (.i2l, 1) := dk_133 (dk_at dksL_law_89 5 rfl rfl)
theorem dL_law_2228 : decode cL_law 2228 = .ok (.lcmp, 1) := dk_148 (dk_at dksL_law_89 6 rfl rfl)
theorem dL_law_2229 : decode cL_law 2229 = .ok (.ifCond .eq 5, 3) := dk_153 0 5 (dk_at dksL_law_89 7 rfl rfl)
theorem dL_law_2232 : decode cL_law 2232 = .ok (.iconst 0, 1) := dk_3 (dk_at dksL_law_89 10 rfl rfl)
theorem dL_law_2233 : decode cL_law 2233 = .ok (.ireturn, 1) := dk_172 (dk_at dksL_law_89 11 rfl rfl)
theorem dL_law_2234 : decode cL_law 2234 = .ok (.goto 789, 3) := dk_167 3 21 (dk_at dksL_law_89 12 rfl rfl)
theorem dL_law_2237 : decode cL_law 2237 = .ok (.aload_n 1, 1) := dk_43 (dk_at dksL_law_89 15 rfl rfl)
theorem dL_law_2238 : decode cL_law 2238 = .ok (.aload_n 0, 1) := dk_42 (dk_at dksL_law_89 16 rfl rfl)
theorem dL_law_2239 : decode cL_law 2239 = .ok (.iload 4, 2) := dk_21 4 (dk_at dksL_law_89 17 rfl rfl)
theorem dL_law_2241 : decode cL_law 2241 = .ok (.iconst 1, 1) := dk_4 (dk_at dksL_law_89 19 rfl rfl)
theorem dL_law_2242 : decode cL_law 2242 = .ok (.iadd, 1) := dk_96 (dk_at dksL_law_89 20 rfl rfl)
theorem dL_law_2243 : decode cL_law 2243 = .ok (.iaload, 1) := dk_46 (dk_at dksL_law_89 21 rfl rfl)
theorem dL_law_2244 : decode cL_law 2244 = .ok (.aload_n 0, 1) := dk_42 (dk_at dksL_law_89 22 rfl rfl)
theorem dL_law_2245 : decode cL_law 2245 = .ok (.iload 4, 2) := dk_21 4 (dk_at dksL_law_90 0 rfl rfl)
theorem dL_law_2247 : decode cL_law 2247 = .ok (.iconst 2, 1) := dk_5 (dk_at dksL_law_90 2 rfl rfl)
theorem dL_law_2248 : decode cL_law 2248 = .ok (.iadd, 1) := dk_96 (dk_at dksL_law_90 3 rfl rfl)
theorem dL_law_2249 : decode cL_law 2249 = .ok (.iaload, 1) := dk_46 (dk_at dksL_law_90 4 rfl rfl)
theorem dL_law_2250 : decode cL_law 2250 = .ok (.aload_n 0, 1) := dk_42 (dk_at dksL_law_90 5 rfl rfl)
theorem dL_law_2251 : decode cL_law 2251 = .ok (.iload 4, 2) := dk_21 4 (dk_at dksL_law_90 6 rfl rfl)
theorem dL_law_2253 : decode cL_law 2253 = .ok (.iconst 3, 1) := dk_6 (dk_at dksL_law_90 8 rfl rfl)
theorem dL_law_2254 : decode cL_law 2254 = .ok (.iadd, 1) := dk_96 (dk_at dksL_law_90 9 rfl rfl)
theorem dL_law_2255 : decode cL_law 2255 = .ok (.iaload, 1) := dk_46 (dk_at dksL_law_90 10 rfl rfl)
theorem dL_law_2256 : decode cL_law 2256 = .ok (.ifCond .eq 7, 3) := dk_153 0 7 (dk_at dksL_law_90 11 rfl rfl)
theorem dL_law_2259 : decode cL_law 2259 = .ok (.iconst 1, 1) := dk_4 (dk_at dksL_law_90 14 rfl rfl)
theorem dL_law_2260 : decode cL_law 2260 = .ok (.goto 4, 3) := dk_167 0 4 (dk_at dksL_law_90 15 rfl rfl)
theorem dL_law_2263 : decode cL_law 2263 = .ok (.iconst 0, 1) := dk_3 (dk_at dksL_law_90 18 rfl rfl)
theorem dL_law_2264 : decode cL_law 2264 = .ok (.aload_n 3, 1) := dk_45 (dk_at dksL_law_90 19 rfl rfl)
theorem dL_law_2265 : decode cL_law 2265 = .ok (.invokestatic 263, 3) := dk_184 1 7 (dk_at dksL_law_90 20 rfl rfl)
theorem dL_law_2268 : decode cL_law 2268 = .ok (.istore 5, 2) := dk_54 5 (dk_at dksL_law_91 0 rfl rfl)
theorem dL_law_2270 : decode cL_law 2270 = .ok (.aload_n 2, 1) := dk_44 (dk_at dksL_law_91 2 rfl rfl)
theorem dL_law_2271 : decode cL_law 2271 = .ok (.aload_n 0, 1) := dk_42 (dk_at dksL_law_91 3 rfl rfl)
theorem dL_law_2272 : decode cL_law 2272 = .ok (.iload 4, 2) := dk_21 4 (dk_at dksL_law_91 4 rfl rfl)
theorem dL_law_2274 : decode cL_law 2274 = .ok (.iconst 1, 1) := dk_4 (dk_at dksL_law_91 6 rfl rfl)
theorem dL_law_2275 : decode cL_law 2275 = .ok (.iadd, 1) := dk_96 (dk_at dksL_law_91 7 rfl rfl)
theorem dL_law_2276 : decode cL_law 2276 = .ok (.iaload, 1) := dk_46 (dk_at dksL_law_91 8 rfl rfl)
theorem dL_law_2277 : decode cL_law 2277 = .ok (.aload_n 0, 1) := dk_42 (dk_at dksL_law_91 9 rfl rfl)
theorem dL_law_2278 : decode cL_law 2278 = .ok (.iload 4, 2) := dk_21 4 (dk_at dksL_law_91 10 rfl rfl)
theorem dL_law_2280 : decode cL_law 2280 = .ok (.iconst 2, 1) := dk_5 (dk_at dksL_law_91 12 rfl rfl)
theorem dL_law_2281 : decode cL_law 2281 = .ok (.iadd, 1) := dk_96 (dk_at dksL_law_91 13 rfl rfl)
theorem dL_law_2282 : decode cL_law 2282 = .ok (.iaload, 1) := dk_46 (dk_at dksL_law_91 14 rfl rfl)
theorem dL_law_2283 : decode cL_law 2283 = .ok (.aload_n 0, 1) := dk_42 (dk_at dksL_law_91 15 rfl rfl)
theorem dL_law_2284 : decode cL_law 2284 = .ok (.iload 4, 2) := dk_21 4 (dk_at dksL_law_91 16 rfl rfl)
theorem dL_law_2286 : decode cL_law 2286 = .ok (.iconst 3, 1) := dk_6 (dk_at dksL_law_91 18 rfl rfl)
theorem dL_law_2287 : decode cL_law 2287 = .ok (.iadd, 1) := dk_96 (dk_at dksL_law_91 19 rfl rfl)
theorem dL_law_2288 : decode cL_law 2288 = .ok (.iaload, 1) := dk_46 (dk_at dksL_law_91 20 rfl rfl)
theorem dL_law_2289 : decode cL_law 2289 = .ok (.ifCond .eq 7, 3) := dk_153 0 7 (dk_at dksL_law_91 21 rfl rfl)
theorem dL_law_2292 : decode cL_law 2292 = .ok (.iconst 1, 1) := dk_4 (dk_at dksL_law_92 0 rfl rfl)
theorem dL_law_2293 : decode cL_law 2293 = .ok (.goto 4, 3) := dk_167 0 4 (dk_at dksL_law_92 1 rfl rfl)
theorem dL_law_2296 : decode cL_law 2296 = .ok (.iconst 0, 1) := dk_3 (dk_at dksL_law_92 4 rfl rfl)
theorem dL_law_2297 : decode cL_law 2297 = .ok (.invokevirtual 265, 3) := dk_182 1 9 (dk_at dksL_law_92 5 rfl rfl)
theorem dL_law_2300 : decode cL_law 2300 = .ok (.istore 6, 2) := dk_54 6 (dk_at dksL_law_92 8 rfl rfl)
theorem dL_law_2302 : decode cL_law 2302 = .ok (.aload_n 2, 1) := dk_44 (dk_at dksL_law_92 10 rfl rfl)
theorem dL_law_2303 : decode cL_law 2303 = .ok (.invokevirtual 165, 3) := dk_182 0 165 (dk_at dksL_law_92 11 rfl rfl)
theorem dL_law_2306 : decode cL_law 2306 = .ok (.iload 5, 2) := dk_21 5 (dk_at dksL_law_92 14 rfl rfl)
theorem dL_law_2308 : decode cL_law 2308 = .ok (.if_icmp .eq 5, 3) := dk_159 0 5 (dk_at dksL_law_92 16 rfl rfl)
theorem dL_law_2311 : decode cL_law 2311 = .ok (.iconst 0, 1) := dk_3 (dk_at dksL_law_92 19 rfl rfl)
theorem dL_law_2312 : decode cL_law 2312 = .ok (.ireturn, 1) := dk_172 (dk_at dksL_law_92 20 rfl rfl)
theorem dL_law_2313 : decode cL_law 2313 = .ok (.iload 5, 2) := dk_21 5 (dk_at dksL_law_92 21 rfl rfl)
theorem dL_law_2315 : decode cL_law 2315 = .ok (.ifCond .ne 16, 3) := dk_154 0 16 (dk_at dksL_law_93 0 rfl rfl)
theorem dL_law_2318 : decode cL_law 2318 = .ok (.aload_n 3, 1) := dk_45 (dk_at dksL_law_93 3 rfl rfl)
theorem dL_law_2319 : decode cL_law 2319 = .ok (.getfield 13, 3) := dk_180 0 13 (dk_at dksL_law_93 4 rfl rfl)
theorem dL_law_2322 : decode cL_law 2322 = .ok (.iload 6, 2) := dk_21 6 (dk_at dksL_law_93 7 rfl rfl)
theorem dL_law_2324 : decode cL_law 2324 = .ok (.i2l, 1) := dk_133 (dk_at dksL_law_93 9 rfl rfl)
theorem dL_law_2325 : decode cL_law 2325 = .ok (.lcmp, 1) := dk_148 (dk_at dksL_law_93 10 rfl rfl)
theorem dL_law_2326 : decode cL_law 2326 = .ok (.ifCond .eq 5, 3) := dk_153 0 5 (dk_at dksL_law_93 11 rfl rfl)
theorem dL_law_2329 : decode cL_law 2329 = .ok (.iconst 0, 1) := dk_3 (dk_at dksL_law_93 14 rfl rfl)
theorem dL_law_2330 : decode cL_law 2330 = .ok (.ireturn, 1) := dk_172 (dk_at dksL_law_93 15 rfl rfl)
theorem dL_law_2331 : decode cL_law 2331 = .ok (.goto 692, 3) := dk_167 2 180 (dk_at dksL_law_93 16 rfl rfl)
theorem dL_law_2334 : decode cL_law 2334 = .ok (.aload_n 1, 1) := dk_43 (dk_at dksL_law_93 19 rfl rfl)
theorem dL_law_2335 : decode cL_law 2335 = .ok (.aload_n 0, 1) := dk_42 (dk_at dksL_law_93 20 rfl rfl)
theorem dL_law_2336 : decode cL_law 2336 = .ok (.iload 4, 2) := dk_21 4 (dk_at dksL_law_93 21 rfl rfl)
theorem dL_law_2338 : decode cL_law 2338 = .ok (.iconst 1, 1) := dk_4 (dk_at dksL_law_93 23 rfl rfl)
theorem dL_law_2339 : decode cL_law 2339 = .ok (.iadd, 1) := dk_96 (dk_at dksL_law_94 0 rfl rfl)
theorem dL_law_2340 : decode cL_law 2340 = .ok (.iaload, 1) := dk_46 (dk_at dksL_law_94 1 rfl rfl)
theorem dL_law_2341 : decode cL_law 2341 = .ok (.aload_n 0, 1) := dk_42 (dk_at dksL_law_94 2 rfl rfl)
theorem dL_law_2342 : decode cL_law 2342 = .ok (.iload 4, 2) := dk_21 4 (dk_at dksL_law_94 3 rfl rfl)
theorem dL_law_2344 : decode cL_law 2344 = .ok (.iconst 2, 1) := dk_5 (dk_at dksL_law_94 5 rfl rfl)
theorem dL_law_2345 : decode cL_law 2345 = .ok (.iadd, 1) := dk_96 (dk_at dksL_law_94 6 rfl rfl)
theorem dL_law_2346 : decode cL_law 2346 = .ok (.iaload, 1) := dk_46 (dk_at dksL_law_94 7 rfl rfl)
theorem dL_law_2347 : decode cL_law 2347 = .ok (.aload_n 3, 1) := dk_45 (dk_at dksL_law_94 8 rfl rfl)
theorem dL_law_2348 : decode cL_law 2348 = .ok (.invokestatic 266, 3) := dk_184 1 10 (dk_at dksL_law_94 9 rfl rfl)
theorem dL_law_2351 : decode cL_law 2351 = .ok (.istore 5, 2) := dk_54 5 (dk_at dksL_law_94 12 rfl rfl)
theorem dL_law_2353 : decode cL_law 2353 = .ok (.aload_n 2, 1) := dk_44 (dk_at dksL_law_94 14 rfl rfl)
theorem dL_law_2354 : decode cL_law 2354 = .ok (.aload_n 0, 1) := dk_42 (dk_at dksL_law_94 15 rfl rfl)
theorem dL_law_2355 : decode cL_law 2355 = .ok (.iload 4, 2) := dk_21 4 (dk_at dksL_law_94 16 rfl rfl)
theorem dL_law_2357 : decode cL_law 2357 = .ok (.iconst 1, 1) := dk_4 (dk_at dksL_law_94 18 rfl rfl)
theorem dL_law_2358 : decode cL_law 2358 = .ok (.iadd, 1) := dk_96 (dk_at dksL_law_94 19 rfl rfl)
theorem dL_law_2359 : decode cL_law 2359 = .ok (.iaload, 1) := dk_46 (dk_at dksL_law_94 20 rfl rfl)
theorem dL_law_2360 : decode cL_law 2360 = .ok (.aload_n 0, 1) := dk_42 (dk_at dksL_law_94 21 rfl rfl)
theorem dL_law_2361 : decode cL_law 2361 = .ok (.iload 4, 2) := dk_21 4 (dk_at dksL_law_94 22 rfl rfl)
theorem dL_law_2363 : decode cL_law 2363 = .ok (.iconst 2, 1) := dk_5 (dk_at dksL_law_95 0 rfl rfl)
theorem dL_law_2364 : decode cL_law 2364 = .ok (.iadd, 1) := dk_96 (dk_at dksL_law_95 1 rfl rfl)
theorem dL_law_2365 : decode cL_law 2365 = .ok (.iaload, 1) := dk_46 (dk_at dksL_law_95 2 rfl rfl)
theorem dL_law_2366 : decode cL_law 2366 = .ok (.invokevirtual 268, 3) := dk_182 1 12 (dk_at dksL_law_95 3 rfl rfl)
theorem dL_law_2369 : decode cL_law 2369 = .ok (.istore 6, 2) := dk_54 6 (dk_at dksL_law_95 6 rfl rfl)
theorem dL_law_2371 : decode cL_law 2371 = .ok (.aload_n 2, 1) := dk_44 (dk_at dksL_law_95 8 rfl rfl)
theorem dL_law_2372 : decode cL_law 2372 = .ok (.invokevirtual 165, 3) := dk_182 0 165 (dk_at dksL_law_95 9 rfl rfl)
theorem dL_law_2375 : decode cL_law 2375 = .ok (.iload 5, 2) := dk_21 5 (dk_at dksL_law_95 12 rfl rfl)
theorem dL_law_2377 : decode cL_law 2377 = .ok (.if_icmp .eq 5, 3) := dk_159 0 5 (dk_at dksL_law_95 14 rfl rfl)
theorem dL_law_2380 : decode cL_law 2380 = .ok (.iconst 0, 1) := dk_3 (dk_at dksL_law_95 17 rfl rfl)
theorem dL_law_2381 : decode cL_law 2381 = .ok (.ireturn, 1) := dk_172 (dk_at dksL_law_95 18 rfl rfl)
theorem dL_law_2382 : decode cL_law 2382 = .ok (.iload 5, 2) := dk_21 5 (dk_at dksL_law_95 19 rfl rfl)
theorem dL_law_2384 : decode cL_law 2384 = .ok (.ifCond .ne 16, 3) := dk_154 0 16 (dk_at dksL_law_95 21 rfl rfl)
theorem dL_law_2387 : decode cL_law 2387 = .ok (.aload_n 3, 1) := dk_45 (dk_at dksL_law_96 0 rfl rfl)
theorem dL_law_2388 : decode cL_law 2388 = .ok (.getfield 13, 3) := dk_180 0 13 (dk_at dksL_law_96 1 rfl rfl)
theorem dL_law_2391 : decode cL_law 2391 = .ok (.iload 6, 2) := dk_21 6 (dk_at dksL_law_96 4 rfl rfl)
theorem dL_law_2393 : decode cL_law 2393 = .ok (.i2l, 1) := dk_133 (dk_at dksL_law_96 6 rfl rfl)
theorem dL_law_2394 : decode cL_law 2394 = .ok (.lcmp, 1) := dk_148 (dk_at dksL_law_96 7 rfl rfl)
theorem dL_law_2395 : decode cL_law 2395 = .ok (.ifCond .eq 5, 3) := dk_153 0 5 (dk_at dksL_law_96 8 rfl rfl)
theorem dL_law_2398 : decode cL_law 2398 = .ok (.iconst 0, 1) := dk_3 (dk_at dksL_law_96 11 rfl rfl)
theorem dL_law_2399 : decode cL_law 2399 = .ok (.ireturn, 1) := dk_172 (dk_at dksL_law_96 12 rfl rfl)
theorem dL_law_2400 : decode cL_law 2400 = .ok (.goto 623, 3) := dk_167 2 111 (dk_at dksL_law_96 13 rfl rfl)
theorem dL_law_2403 : decode cL_law 2403 = .ok (.aload_n 1, 1) := dk_43 (dk_at dksL_law_96 16 rfl rfl)
theorem dL_law_2404 : decode cL_law 2404 = .ok (.aload_n 0, 1) := dk_42 (dk_at dksL_law_96 17 rfl rfl)
theorem dL_law_2405 : decode cL_law 2405 = .ok (.iload 4, 2) := dk_21 4 (dk_at dksL_law_96 18 rfl rfl)
theorem dL_law_2407 : decode cL_law 2407 = .ok (.iconst 1, 1) := dk_4 (dk_at dksL_law_96 20 rfl rfl)
theorem dL_law_2408 : decode cL_law 2408 = .ok (.iadd, 1) := dk_96 (dk_at dksL_law_96 21 rfl rfl)
theorem dL_law_2409 : decode cL_law 2409 = .ok (.iaload, 1) := dk_46 (dk_at dksL_law_96 22 rfl rfl)
theorem dL_law_2410 : decode cL_law 2410 = .ok (.aload_n 3, 1) := dk_45 (dk_at dksL_law_96 23 rfl rfl)
theorem dL_law_2411 : decode cL_law 2411 = .ok (.invokestatic 269, 3) := dk_184 1 13 (dk_at dksL_law_97 0 rfl rfl)
theorem dL_law_2414 : decode cL_law 2414 = .ok (.istore 5, 2) := dk_54 5 (dk_at dksL_law_97 3 rfl rfl)
theorem dL_law_2416 : decode cL_law 2416 = .ok (.aload_n 2, 1) := dk_44 (dk_at dksL_law_97 5 rfl rfl)
theorem dL_law_2417 : decode cL_law 2417 = .ok (.aload_n 0, 1) := dk_42 (dk_at dksL_law_97 6 rfl rfl)
theorem dL_law_2418 : decode cL_law 2418 = .ok (.iload 4, 2) := dk_21 4 (dk_at dksL_law_97 7 rfl rfl)
theorem dL_law_2420 : decode cL_law 2420 = .ok (.iconst 1, 1) := dk_4 (dk_at dksL_law_97 9 rfl rfl)
theorem dL_law_2421 : decode cL_law 2421 = .ok (.iadd, 1) := dk_96 (dk_at dksL_law_97 10 rfl rfl)
theorem dL_law_2422 : decode cL_law 2422 = .ok (.iaload, 1) := dk_46 (dk_at dksL_law_97 11 rfl rfl)
theorem dL_law_2423 : decode cL_law 2423 = .ok (.invokevirtual 271, 3) := dk_182 1 15 (dk_at dksL_law_97 12 rfl rfl)
theorem dL_law_2426 : decode cL_law 2426 = .ok (.istore 6, 2) := dk_54 6 (dk_at dksL_law_97 15 rfl rfl)
theorem dL_law_2428 : decode cL_law 2428 = .ok (.aload_n 2, 1) := dk_44 (dk_at dksL_law_97 17 rfl rfl)
theorem dL_law_2429 : decode cL_law 2429 = .ok (.invokevirtual 165, 3) := dk_182 0 165 (dk_at dksL_law_97 18 rfl rfl)
theorem dL_law_2432 : decode cL_law 2432 = .ok (.iload 5, 2) := dk_21 5 (dk_at dksL_law_97 21 rfl rfl)
theorem dL_law_2434 : decode cL_law 2434 = .ok (.if_icmp .eq 5, 3) := dk_159 0 5 (dk_at dksL_law_98 0 rfl rfl)
theorem dL_law_2437 : decode cL_law 2437 = .ok (.iconst 0, 1) := dk_3 (dk_at dksL_law_98 3 rfl rfl)
theorem dL_law_2438 : decode cL_law 2438 = .ok (.ireturn, 1) := dk_172 (dk_at dksL_law_98 4 rfl rfl)
theorem dL_law_2439 : decode cL_law 2439 = .ok (.iload 5, 2) := dk_21 5 (dk_at dksL_law_98 5 rfl rfl)
theorem dL_law_2441 : decode cL_law 2441 = .ok (.ifCond .ne 16, 3) := dk_154 0 16 (dk_at dksL_law_98 7 rfl rfl)
theorem dL_law_2444 : decode cL_law 2444 = .ok (.aload_n 3, 1) := dk_45 (dk_at dksL_law_98 10 rfl rfl)
theorem dL_law_2445 : decode cL_law 2445 = .ok (.getfield 13, 3) := dk_180 0 13 (dk_at dksL_law_98 11 rfl rfl)
theorem dL_law_2448 : decode cL_law 2448 = .ok (.iload 6, 2) := dk_21 6 (dk_at dksL_law_98 14 rfl rfl)
theorem dL_law_2450 : decode cL_law 2450 = .ok (.i2l, 1) := dk_133 (dk_at dksL_law_98 16 rfl rfl)
theorem dL_law_2451 : decode cL_law 2451 = .ok (.lcmp, 1) := dk_148 (dk_at dksL_law_98 17 rfl rfl)
theorem dL_law_2452 : decode cL_law 2452 = .ok (.ifCond .eq 5, 3) := dk_153 0 5 (dk_at dksL_law_98 18 rfl rfl)
theorem dL_law_2455 : decode cL_law 2455 = .ok (.iconst 0, 1) := dk_3 (dk_at dksL_law_98 21 rfl rfl)
theorem dL_law_2456 : decode cL_law 2456 = .ok (.ireturn, 1) := dk_172 (dk_at dksL_law_98 22 rfl rfl)
theorem dL_law_2457 : decode cL_law 2457 = .ok (.goto 566, 3) := dk_167 2 54 (dk_at dksL_law_99 0 rfl rfl)
theorem dL_law_2460 : decode cL_law 2460 = .ok (.aload_n 1, 1) := dk_43 (dk_at dksL_law_99 3 rfl rfl)
theorem dL_law_2461 : decode cL_law 2461 = .ok (.aload_n 0, 1) := dk_42 (dk_at dksL_law_99 4 rfl rfl)
theorem dL_law_2462 : decode cL_law 2462 = .ok (.iload 4, 2) := dk_21 4 (dk_at dksL_law_99 5 rfl rfl)
theorem dL_law_2464 : decode cL_law 2464 = .ok (.iconst 1, 1) := dk_4 (dk_at dksL_law_99 7 rfl rfl)
theorem dL_law_2465 : decode cL_law 2465 = .ok (.iadd, 1) := dk_96 (dk_at dksL_law_99 8 rfl rfl)
theorem dL_law_2466 : decode cL_law 2466 = .ok (.iaload, 1) := dk_46 (dk_at dksL_law_99 9 rfl rfl)
theorem dL_law_2467 : decode cL_law 2467 = .ok (.aload_n 3, 1) := dk_45 (dk_at dksL_law_99 10 rfl rfl)
theorem dL_law_2468 : decode cL_law 2468 = .ok (.invokestatic 272, 3) := dk_184 1 16 (dk_at dksL_law_99 11 rfl rfl)
theorem dL_law_2471 : decode cL_law 2471 = .ok (.istore 5, 2) := dk_54 5 (dk_at dksL_law_99 14 rfl rfl)
theorem dL_law_2473 : decode cL_law 2473 = .ok (.aload_n 2, 1) := dk_44 (dk_at dksL_law_99 16 rfl rfl)
theorem dL_law_2474 : decode cL_law 2474 = .ok (.aload_n 0, 1) := dk_42 (dk_at dksL_law_99 17 rfl rfl)
theorem dL_law_2475 : decode cL_law 2475 = .ok (.iload 4, 2) := dk_21 4 (dk_at dksL_law_99 18 rfl rfl)
theorem dL_law_2477 : decode cL_law 2477 = .ok (.iconst 1, 1) := dk_4 (dk_at dksL_law_99 20 rfl rfl)
theorem dL_law_2478 : decode cL_law 2478 = .ok (.iadd, 1) := dk_96 (dk_at dksL_law_99 21 rfl rfl)
theorem dL_law_2479 : decode cL_law 2479 = .ok (.iaload, 1) := dk_46 (dk_at dksL_law_99 22 rfl rfl)
theorem dL_law_2480 : decode cL_law 2480 = .ok (.invokevirtual 274, 3) := dk_182 1 18 (dk_at dksL_law_100 0 rfl rfl)
theorem dL_law_2483 : decode cL_law 2483 = .ok (.astore 6, 2) := dk_58 6 (dk_at dksL_law_100 3 rfl rfl)
theorem dL_law_2485 : decode cL_law 2485 = .ok (.aload_n 2, 1) := dk_44 (dk_at dksL_law_100 5 rfl rfl)
theorem dL_law_2486 : decode cL_law 2486 = .ok (.invokevirtual 165, 3) := dk_182 0 165 (dk_at dksL_law_100 6 rfl rfl)
theorem dL_law_2489 : decode cL_law 2489 = .ok (.iload 5, 2) := dk_21 5 (dk_at dksL_law_100 9 rfl rfl)
theorem dL_law_2491 : decode cL_law 2491 = .ok (.if_icmp .eq 5, 3) := dk_159 0 5 (dk_at dksL_law_100 11 rfl rfl)
theorem dL_law_2494 : decode cL_law 2494 = .ok (.iconst 0, 1) := dk_3 (dk_at dksL_law_100 14 rfl rfl)
theorem dL_law_2495 : decode cL_law 2495 = .ok (.ireturn, 1) := dk_172 (dk_at dksL_law_100 15 rfl rfl)
theorem dL_law_2496 : decode cL_law 2496 = .ok (.iload 5, 2) := dk_21 5 (dk_at dksL_law_100 16 rfl rfl)
theorem dL_law_2498 : decode cL_law 2498 = .ok (.ifCond .ne 17, 3) := dk_154 0 17 (dk_at dksL_law_100 18 rfl rfl)
theorem dL_law_2501 : decode cL_law 2501 = .ok (.aload_n 3, 1) := dk_45 (dk_at dksL_law_100 21 rfl rfl)
theorem dL_law_2502 : decode cL_law 2502 = .ok (.getfield 124, 3) := dk_180 0 124 (dk_at dksL_law_101 0 rfl rfl)
theorem dL_law_2505 : decode cL_law 2505 = .ok (.aload 6, 2) := dk_25 6 (dk_at dksL_law_101 3 rfl rfl)
theorem dL_law_2507 : decode cL_law 2507 = .ok (.invokevirtual 275, 3) := dk_182 1 19 (dk_at dksL_law_101 5 rfl rfl)
theorem dL_law_2510 : decode cL_law 2510 = .ok (.ifCond .ne 5, 3) := dk_154 0 5 (dk_at dksL_law_101 8 rfl rfl)
theorem dL_law_2513 : decode cL_law 2513 = .ok (.iconst 0, 1) := dk_3 (dk_at dksL_law_101 11 rfl rfl)
theorem dL_law_2514 : decode cL_law 2514 = .ok (.ireturn, 1) := dk_172 (dk_at dksL_law_101 12 rfl rfl)
theorem dL_law_2515 : decode cL_law 2515 = .ok (.goto 508, 3) := dk_167 1 252 (dk_at dksL_law_101 13 rfl rfl)
theorem dL_law_2518 : decode cL_law 2518 = .ok (.aload_n 1, 1) := dk_43 (dk_at dksL_law_101 16 rfl rfl)
theorem dL_law_2519 : decode cL_law 2519 = .ok (.aload_n 0, 1) := dk_42 (dk_at dksL_law_101 17 rfl rfl)
theorem dL_law_2520 : decode cL_law 2520 = .ok (.iload 4, 2) := dk_21 4 (dk_at dksL_law_101 18 rfl rfl)
theorem dL_law_2522 : decode cL_law 2522 = .ok (.iconst 1, 1) := dk_4 (dk_at dksL_law_101 20 rfl rfl)
theorem dL_law_2523 : decode cL_law 2523 = .ok (.iadd, 1) := dk_96 (dk_at dksL_law_101 21 rfl rfl)
theorem dL_law_2524 : decode cL_law 2524 = .ok (.iaload, 1) := dk_46 (dk_at dksL_law_101 22 rfl rfl)
theorem dL_law_2525 : decode cL_law 2525 = .ok (.aload_n 3, 1) := dk_45 (dk_at dksL_law_101 23 rfl rfl)
theorem dL_law_2526 : decode cL_law 2526 = .ok (.invokestatic 281, 3) := dk_184 1 25 (dk_at dksL_law_102 0 rfl rfl)
theorem dL_law_2529 : decode cL_law 2529 = .ok (.istore 5, 2) := dk_54 5 (dk_at dksL_law_102 3 rfl rfl)
theorem dL_law_2531 : decode cL_law 2531 = .ok (.aload_n 2, 1) := dk_44 (dk_at dksL_law_102 5 rfl rfl)
theorem dL_law_2532 : decode cL_law 2532 = .ok (.aload_n 0, 1) := dk_42 (dk_at dksL_law_102 6 rfl rfl)
theorem dL_law_2533 : decode cL_law 2533 = .ok (.iload 4, 2) := dk_21 4 (dk_at dksL_law_102 7 rfl rfl)
theorem dL_law_2535 : decode cL_law 2535 = .ok (.iconst 1, 1) := dk_4 (dk_at dksL_law_102 9 rfl rfl)
theorem dL_law_2536 : decode cL_law 2536 = .ok (.iadd, 1) := dk_96 (dk_at dksL_law_102 10 rfl rfl)
theorem dL_law_2537 : decode cL_law 2537 = .ok (.iaload, 1) := dk_46 (dk_at dksL_law_102 11 rfl rfl)
theorem dL_law_2538 : decode cL_law 2538 = .ok (.invokevirtual 283, 3) := dk_182 1 27 (dk_at dksL_law_102 12 rfl rfl)
theorem dL_law_2541 : decode cL_law 2541 = .ok (.dstore 6, 2) := dk_57 6 (dk_at dksL_law_102 15 rfl rfl)
theorem dL_law_2543 : decode cL_law 2543 = .ok (.aload_n 2, 1) := dk_44 (dk_at dksL_law_102 17 rfl rfl)
theorem dL_law_2544 : decode cL_law 2544 = .ok (.invokevirtual 165, 3) := dk_182 0 165 (dk_at dksL_law_102 18 rfl rfl)
theorem dL_law_2547 : decode cL_law 2547 = .ok (.iload 5, 2) := dk_21 5 (dk_at dksL_law_102 21 rfl rfl)
theorem dL_law_2549 : decode cL_law 2549 = .ok (.if_icmp .eq 5, 3) := dk_159 0 5 (dk_at dksL_law_103 0 rfl rfl)
theorem dL_law_2552 : decode cL_law 2552 = .ok (.iconst 0, 1) := dk_3 (dk_at dksL_law_103 3 rfl rfl)
theorem dL_law_2553 : decode cL_law 2553 = .ok (.ireturn, 1) := dk_172 (dk_at dksL_law_103 4 rfl rfl)
theorem dL_law_2554 : decode cL_law 2554 = .ok (.iload 5, 2) := dk_21 5 (dk_at dksL_law_103 5 rfl rfl)
theorem dL_law_2556 : decode cL_law 2556 = .ok (.ifCond .ne 35, 3) := dk_154 0 35 (dk_at dksL_law_103 7 rfl rfl)
theorem dL_law_2559 : decode cL_law 2559 = .ok (.aload_n 3, 1) := dk_45 (dk_at dksL_law_103 10 rfl rfl)
theorem dL_law_2560 : decode cL_law 2560 = .ok (.getfield 132, 3) := dk_180 0 132 (dk_at dksL_law_103 11 rfl rfl)
theorem dL_law_2563 : decode cL_law 2563 = .ok (.dload 6, 2) := dk_24 6 (dk_at dksL_law_103 14 rfl rfl)
theorem dL_law_2565 : decode cL_law 2565 = .ok (.dcmp .l, 1) := dk_151 (dk_at dksL_law_103 16 rfl rfl)
theorem dL_law_2566 : decode cL_law 2566 = .ok (.ifCond .eq 25, 3) := dk_153 0 25 (dk_at dksL_law_103 17 rfl rfl)
theorem dL_law_2569 : decode cL_law 2569 = .ok (.aload_n 3, 1) := dk_45 (dk_at dksL_law_103 20 rfl rfl)
theorem dL_law_2570 : decode cL_law 2570 = .ok (.getfield 132, 3) := dk_180 0 132 (dk_at dksL_law_103 21 rfl rfl)
theorem dL_law_2573 : decode cL_law 2573 = .ok (.aload_n 3, 1) := dk_45 (dk_at dksL_law_104 0 rfl rfl)
theorem dL_law_2574 : decode cL_law 2574 = .ok (.getfield 132, 3) := dk_180 0 132 (dk_at dksL_law_104 1 rfl rfl)
theorem dL_law_2577 : decode cL_law 2577 = .ok (.dcmp .l, 1) := dk_151 (dk_at dksL_law_104 4 rfl rfl)
theorem dL_law_2578 : decode cL_law 2578 = .ok (.ifCond .eq 11, 3) := dk_153 0 11 (dk_at dksL_law_104 5 rfl rfl)
theorem dL_law_2581 : decode cL_law 2581 = .ok (.dload 6, 2) := dk_24 6 (dk_at dksL_law_104 8 rfl rfl)
theorem dL_law_2583 : decode cL_law 2583 = .ok (.dload 6, 2) := dk_24 6 (dk_at dksL_law_104 10 rfl rfl)
theorem dL_law_2585 : decode cL_law 2585 = .ok (.dcmp .l, 1) := dk_151 (dk_at dksL_law_104 12 rfl rfl)
theorem dL_law_2586 : decode cL_law 2586 = .ok (.ifCond .ne 5, 3) := dk_154 0 5 (dk_at dksL_law_104 13 rfl rfl)
theorem dL_law_2589 : decode cL_law 2589 = .ok (.iconst 0, 1) := dk_3 (dk_at dksL_law_104 16 rfl rfl)
theorem dL_law_2590 : decode cL_law 2590 = .ok (.ireturn, 1) := dk_172 (dk_at dksL_law_104 17 rfl rfl)
theorem dL_law_2591 : decode cL_law 2591 = .ok (.goto 432, 3) := dk_167 1 176 (dk_at dksL_law_104 18 rfl rfl)
theorem dL_law_2594 : decode cL_law 2594 = .ok (.aload_n 1, 1) := dk_43 (dk_at dksL_law_104 21 rfl rfl)
theorem dL_law_2595 : decode cL_law 2595 = .ok (.aload_n 0, 1) := dk_42 (dk_at dksL_law_104 22 rfl rfl)
theorem dL_law_2596 : decode cL_law 2596 = .ok (.iload 4, 2) := dk_21 4 (dk_at dksL_law_105 0 rfl rfl)
theorem dL_law_2598 : decode cL_law 2598 = .ok (.iconst 1, 1) := dk_4 (dk_at dksL_law_105 2 rfl rfl)
theorem dL_law_2599 : decode cL_law 2599 = .ok (.iadd, 1) := dk_96 (dk_at dksL_law_105 3 rfl rfl)
theorem dL_law_2600 : decode cL_law 2600 = .ok (.iaload, 1) := dk_46 (dk_at dksL_law_105 4 rfl rfl)
theorem dL_law_2601 : decode cL_law 2601 = .ok (.aload_n 0, 1) := dk_42 (dk_at dksL_law_105 5 rfl rfl)
theorem dL_law_2602 : decode cL_law 2602 = .ok (.iload 4, 2) := dk_21 4 (dk_at dksL_law_105 6 rfl rfl)
theorem dL_law_2604 : decode cL_law 2604 = .ok (.iconst 2, 1) := dk_5 (dk_at dksL_law_105 8 rfl rfl)
theorem dL_law_2605 : decode cL_law 2605 = .ok (.iadd, 1) := dk_96 (dk_at dksL_law_105 9 rfl rfl)
theorem dL_law_2606 : decode cL_law 2606 = .ok (.iaload, 1) := dk_46 (dk_at dksL_law_105 10 rfl rfl)
theorem dL_law_2607 : decode cL_law 2607 = .ok (.aload_n 3, 1) := dk_45 (dk_at dksL_law_105 11 rfl rfl)
theorem dL_law_2608 : decode cL_law 2608 = .ok (.invokestatic 284, 3) := dk_184 1 28 (dk_at dksL_law_105 12 rfl rfl)
theorem dL_law_2611 : decode cL_law 2611 = .ok (.istore 5, 2) := dk_54 5 (dk_at dksL_law_105 15 rfl rfl)
theorem dL_law_2613 : decode cL_law 2613 = .ok (.aload_n 2, 1) := dk_44 (dk_at dksL_law_105 17 rfl rfl)
theorem dL_law_2614 : decode cL_law 2614 = .ok (.aload_n 0, 1) := dk_42 (dk_at dksL_law_105 18 rfl rfl)
theorem dL_law_2615 : decode cL_law 2615 = .ok (.iload 4, 2) := dk_21 4 (dk_at dksL_law_105 19 rfl rfl)
theorem dL_law_2617 : decode cL_law 2617 = .ok (.iconst 1, 1) := dk_4 (dk_at dksL_law_105 21 rfl rfl)
theorem dL_law_2618 : decode cL_law 2618 = .ok (.iadd, 1) := dk_96 (dk_at dksL_law_105 22 rfl rfl)
theorem dL_law_2619 : decode cL_law 2619 = .ok (.iaload, 1) := dk_46 (dk_at dksL_law_105 23 rfl rfl)
theorem dL_law_2620 : decode cL_law 2620 = .ok (.aload_n 0, 1) := dk_42 (dk_at dksL_law_106 0 rfl rfl)
theorem dL_law_2621 : decode cL_law 2621 = .ok (.iload 4, 2) := dk_21 4 (dk_at dksL_law_106 1 rfl rfl)
theorem dL_law_2623 : decode cL_law 2623 = .ok (.iconst 2, 1) := dk_5 (dk_at dksL_law_106 3 rfl rfl)
theorem dL_law_2624 : decode cL_law 2624 = .ok (.iadd, 1) := dk_96 (dk_at dksL_law_106 4 rfl rfl)
theorem dL_law_2625 : decode cL_law 2625 = .ok (.iaload, 1) := dk_46 (dk_at dksL_law_106 5 rfl rfl)
theorem dL_law_2626 : decode cL_law 2626 = .ok (.invokevirtual 286, 3) := dk_182 1 30 (dk_at dksL_law_106 6 rfl rfl)
theorem dL_law_2629 : decode cL_law 2629 = .ok (.istore 6, 2) := dk_54 6 (dk_at dksL_law_106 9 rfl rfl)
theorem dL_law_2631 : decode cL_law 2631 = .ok (.aload_n 2, 1) := dk_44 (dk_at dksL_law_106 11 rfl rfl)
theorem dL_law_2632 : decode cL_law 2632 = .ok (.invokevirtual 165, 3) := dk_182 0 165 (dk_at dksL_law_106 12 rfl rfl)
theorem dL_law_2635 : decode cL_law 2635 = .ok (.iload 5, 2) := dk_21 5 (dk_at dksL_law_106 15 rfl rfl)
theorem dL_law_2637 : decode cL_law 2637 = .ok (.if_icmp .eq 5, 3) := dk_159 0 5 (dk_at dksL_law_106 17 rfl rfl)
theorem dL_law_2640 : decode cL_law 2640 = .ok (.iconst 0, 1) := dk_3 (dk_at dksL_law_106 20 rfl rfl)
theorem dL_law_2641 : decode cL_law 2641 = .ok (.ireturn, 1) := dk_172 (dk_at dksL_law_106 21 rfl rfl)
theorem dL_law_2642 : decode cL_law 2642 = .ok (.iload 5, 2) := dk_21 5 (dk_at dksL_law_106 22 rfl rfl)
theorem dL_law_2644 : decode cL_law 2644 = .ok (.ifCond .ne 16, 3) := dk_154 0 16 (dk_at dksL_law_107 0 rfl rfl)
theorem dL_law_2647 : decode cL_law 2647 = .ok (.aload_n 3, 1) := dk_45 (dk_at dksL_law_107 3 rfl rfl)
theorem dL_law_2648 : decode cL_law 2648 = .ok (.getfield 13, 3) := dk_180 0 13 (dk_at dksL_law_107 4 rfl rfl)
theorem dL_law_2651 : decode cL_law 2651 = .ok (.iload 6, 2) := dk_21 6 (dk_at dksL_law_107 7 rfl rfl)
theorem dL_law_2653 : decode cL_law 2653 = .ok (.i2l, 1) := dk_133 (dk_at dksL_law_107 9 rfl rfl)
theorem dL_law_2654 : decode cL_law 2654 = .ok (.lcmp, 1) := dk_148 (dk_at dksL_law_107 10 rfl rfl)
theorem dL_law_2655 : decode cL_law 2655 = .ok (.ifCond .eq 5, 3) := dk_153 0 5 (dk_at dksL_law_107 11 rfl rfl)
theorem dL_law_2658 : decode cL_law 2658 = .ok (.iconst 0, 1) := dk_3 (dk_at dksL_law_107 14 rfl rfl)
theorem dL_law_2659 : decode cL_law 2659 = .ok (.ireturn, 1) := dk_172 (dk_at dksL_law_107 15 rfl rfl)
theorem dL_law_2660 : decode cL_law 2660 = .ok (.goto 363, 3) := dk_167 1 107 (dk_at dksL_law_107 16 rfl rfl)
theorem dL_law_2663 : decode cL_law 2663 = .ok (.aload_n 1, 1) := dk_43 (dk_at dksL_law_107 19 rfl rfl)
theorem dL_law_2664 : decode cL_law 2664 = .ok (.aload_n 0, 1) := dk_42 (dk_at dksL_law_107 20 rfl rfl)
theorem dL_law_2665 : decode cL_law 2665 = .ok (.iload 4, 2) := dk_21 4 (dk_at dksL_law_107 21 rfl rfl)
theorem dL_law_2667 : decode cL_law 2667 = .ok (.iconst 1, 1) := dk_4 (dk_at dksL_law_107 23 rfl rfl)
theorem dL_law_2668 : decode cL_law 2668 = .ok (.iadd, 1) := dk_96 (dk_at dksL_law_108 0 rfl rfl)
theorem dL_law_2669 : decode cL_law 2669 = .ok (.iaload, 1) := dk_46 (dk_at dksL_law_108 1 rfl rfl)
theorem dL_law_2670 : decode cL_law 2670 = .ok (.aload_n 3, 1) := dk_45 (dk_at dksL_law_108 2 rfl rfl)
theorem dL_law_2671 : decode cL_law 2671 = .ok (.invokestatic 287, 3) := dk_184 1 31 (dk_at dksL_law_108 3 rfl rfl)
theorem dL_law_2674 : decode cL_law 2674 = .ok (.istore 5, 2) := dk_54 5 (dk_at dksL_law_108 6 rfl rfl)
theorem dL_law_2676 : decode cL_law 2676 = .ok (.aload_n 2, 1) := dk_44 (dk_at dksL_law_108 8 rfl rfl)
theorem dL_law_2677 : decode cL_law 2677 = .ok (.aload_n 0, 1) := dk_42 (dk_at dksL_law_108 9 rfl rfl)
theorem dL_law_2678 : decode cL_law 2678 = .ok (.iload 4, 2) := dk_21 4 (dk_at dksL_law_108 10 rfl rfl)
theorem dL_law_2680 : decode cL_law 2680 = .ok (.iconst 1, 1) := dk_4 (dk_at dksL_law_108 12 rfl rfl)
theorem dL_law_2681 : decode cL_law 2681 = .ok (.iadd, 1) := dk_96 (dk_at dksL_law_108 13 rfl rfl)
theorem dL_law_2682 : decode cL_law 2682 = .ok (.iaload, 1) := dk_46 (dk_at dksL_law_108 14 rfl rfl)
theorem dL_law_2683 : decode cL_law 2683 = .ok (.invokevirtual 289, 3) := dk_182 1 33 (dk_at dksL_law_108 15 rfl rfl)
theorem dL_law_2686 : decode cL_law 2686 = .ok (.istore 6, 2) := dk_54 6 (dk_at dksL_law_108 18 rfl rfl)
theorem dL_law_2688 : decode cL_law 2688 = .ok (.aload_n 2, 1) := dk_44 (dk_at dksL_law_108 20 rfl rfl)
theorem dL_law_2689 : decode cL_law 2689 = .ok (.invokevirtual 165, 3) := dk_182 0 165 (dk_at dksL_law_108 21 rfl rfl)
theorem dL_law_2692 : decode cL_law 2692 = .ok (.iload 5, 2) := dk_21 5 (dk_at dksL_law_109 0 rfl rfl)
theorem dL_law_2694 : decode cL_law 2694 = .ok (.if_icmp .eq 5, 3) := dk_159 0 5 (dk_at dksL_law_109 2 rfl rfl)
theorem dL_law_2697 : decode cL_law 2697 = .ok (.iconst 0, 1) := dk_3 (dk_at dksL_law_109 5 rfl rfl)
theorem dL_law_2698 : decode cL_law 2698 = .ok (.ireturn, 1) := dk_172 (dk_at dksL_law_109 6 rfl rfl)
theorem dL_law_2699 : decode cL_law 2699 = .ok (.iload 5, 2) := dk_21 5 (dk_at dksL_law_109 7 rfl rfl)
theorem dL_law_2701 : decode cL_law 2701 = .ok (.ifCond .ne 16, 3) := dk_154 0 16 (dk_at dksL_law_109 9 rfl rfl)
theorem dL_law_2704 : decode cL_law 2704 = .ok (.aload_n 3, 1) := dk_45 (dk_at dksL_law_109 12 rfl rfl)
theorem dL_law_2705 : decode cL_law 2705 = .ok (.getfield 13, 3) := dk_180 0 13 (dk_at dksL_law_109 13 rfl rfl)
theorem dL_law_2708 : decode cL_law 2708 = .ok (.iload 6, 2) := dk_21 6 (dk_at dksL_law_109 16 rfl rfl)
theorem dL_law_2710 : decode cL_law 2710 = .ok (.i2l, 1) := dk_133 (dk_at dksL_law_109 18 rfl rfl)
theorem dL_law_2711 : decode cL_law 2711 = .ok (.lcmp, 1) := dk_148 (dk_at dksL_law_109 19 rfl rfl)
theorem dL_law_2712 : decode cL_law 2712 = .ok (.ifCond .eq 5, 3) := dk_153 0 5 (dk_at dksL_law_109 20 rfl rfl)
theorem dL_law_2715 : decode cL_law 2715 = .ok (.iconst 0, 1) := dk_3 (dk_at dksL_law_109 23 rfl rfl)
theorem dL_law_2716 : decode cL_law 2716 = .ok (.ireturn, 1) := dk_172 (dk_at dksL_law_110 0 rfl rfl)
theorem dL_law_2717 : decode cL_law 2717 = .ok (.goto 306, 3) := dk_167 1 50 (dk_at dksL_law_110 1 rfl rfl)
theorem dL_law_2720 : decode cL_law 2720 = .ok (.aload_n 1, 1) := dk_43 (dk_at dksL_law_110 4 rfl rfl)
theorem dL_law_2721 : decode cL_law 2721 = .ok (.aload_n 0, 1) := dk_42 (dk_at dksL_law_110 5 rfl rfl)
theorem dL_law_2722 : decode cL_law 2722 = .ok (.iload 4, 2) := dk_21 4 (dk_at dksL_law_110 6 rfl rfl)
theorem dL_law_2724 : decode cL_law 2724 = .ok (.iconst 1, 1) := dk_4 (dk_at dksL_law_110 8 rfl rfl)
theorem dL_law_2725 : decode cL_law 2725 = .ok (.iadd, 1) := dk_96 (dk_at dksL_law_110 9 rfl rfl)
theorem dL_law_2726 : decode cL_law 2726 = .ok (.iaload, 1) := dk_46 (dk_at dksL_law_110 10 rfl rfl)
theorem dL_law_2727 : decode cL_law 2727 = .ok (.aload_n 0, 1) := dk_42 (dk_at dksL_law_110 11 rfl rfl)
theorem dL_law_2728 : decode cL_law 2728 = .ok (.iload 4, 2) := dk_21 4 (dk_at dksL_law_110 12 rfl rfl)
theorem dL_law_2730 : decode cL_law 2730 = .ok (.iconst 2, 1) := dk_5 (dk_at dksL_law_110 14 rfl rfl)
theorem dL_law_2731 : decode cL_law 2731 = .ok (.iadd, 1) := dk_96 (dk_at dksL_law_110 15 rfl rfl)
theorem dL_law_2732 : decode cL_law 2732 = .ok (.iaload, 1) := dk_46 (dk_at dksL_law_110 16 rfl rfl)
theorem dL_law_2733 : decode cL_law 2733 = .ok (.aload_n 0, 1) := dk_42 (dk_at dksL_law_110 17 rfl rfl)
theorem dL_law_2734 : decode cL_law 2734 = .ok (.iload 4, 2) := dk_21 4 (dk_at dksL_law_110 18 rfl rfl)
theorem dL_law_2736 : decode cL_law 2736 = .ok (.iconst 3, 1) := dk_6 (dk_at dksL_law_110 20 rfl rfl)
theorem dL_law_2737 : decode cL_law 2737 = .ok (.iadd, 1) := dk_96 (dk_at dksL_law_110 21 rfl rfl)
theorem dL_law_2738 : decode cL_law 2738 = .ok (.iaload, 1) := dk_46 (dk_at dksL_law_110 22 rfl rfl)
theorem dL_law_2739 : decode cL_law 2739 = .ok (.aload_n 0, 1) := dk_42 (dk_at dksL_law_110 23 rfl rfl)
theorem dL_law_2740 : decode cL_law 2740 = .ok (.iload 4, 2) := dk_21 4 (dk_at dksL_law_111 0 rfl rfl)
theorem dL_law_2742 : decode cL_law 2742 = .ok (.iconst 4, 1) := dk_7 (dk_at dksL_law_111 2 rfl rfl)
theorem dL_law_2743 : decode cL_law 2743 = .ok (.iadd, 1) := dk_96 (dk_at dksL_law_111 3 rfl rfl)
theorem dL_law_2744 : decode cL_law 2744 = .ok (.iaload, 1) := dk_46 (dk_at dksL_law_111 4 rfl rfl)
theorem dL_law_2745 : decode cL_law 2745 = .ok (.aload_n 3, 1) := dk_45 (dk_at dksL_law_111 5 rfl rfl)
theorem dL_law_2746 : decode cL_law 2746 = .ok (.invokestatic 290, 3) := dk_184 1 34 (dk_at dksL_law_111 6 rfl rfl)
theorem dL_law_2749 : decode cL_law 2749 = .ok (.istore 5, 2) := dk_54 5 (dk_at dksL_law_111 9 rfl rfl)
theorem dL_law_2751 : decode cL_law 2751 = .ok (.aload_n 2, 1) := dk_44 (dk_at dksL_law_111 11 rfl rfl)
theorem dL_law_2752 : decode cL_law 2752 = .ok (.aload_n 0, 1) := dk_42 (dk_at dksL_law_111 12 rfl rfl)
theorem dL_law_2753 : decode cL_law 2753 = .ok (.iload 4, 2) := dk_21 4 (dk_at dksL_law_111 13 rfl rfl)
theorem dL_law_2755 : decode cL_law 2755 = .ok (.iconst 1, 1) := dk_4 (dk_at dksL_law_111 15 rfl rfl)
theorem dL_law_2756 : decode cL_law 2756 = .ok (.iadd, 1) := dk_96 (dk_at dksL_law_111 16 rfl rfl)
theorem dL_law_2757 : decode cL_law 2757 = .ok (.iaload, 1) := dk_46 (dk_at dksL_law_111 17 rfl rfl)
theorem dL_law_2758 : decode cL_law 2758 = .ok (.aload_n 0, 1) := dk_42 (dk_at dksL_law_111 18 rfl rfl)
theorem dL_law_2759 : decode cL_law 2759 = .ok (.iload 4, 2) := dk_21 4 (dk_at dksL_law_111 19 rfl rfl)
theorem dL_law_2761 : decode cL_law 2761 = .ok (.iconst 2, 1) := dk_5 (dk_at dksL_law_111 21 rfl rfl)
theorem dL_law_2762 : decode cL_law 2762 = .ok (.iadd, 1) := dk_96 (dk_at dksL_law_111 22 rfl rfl)
theorem dL_law_2763 : decode cL_law 2763 = .ok (.iaload, 1) := dk_46 (dk_at dksL_law_111 23 rfl rfl)
theorem dL_law_2764 : decode cL_law 2764 = .ok (.aload_n 0, 1) := dk_42 (dk_at dksL_law_112 0 rfl rfl)
theorem dL_law_2765 : decode cL_law 2765 = .ok (.iload 4, 2) := dk_21 4 (dk_at dksL_law_112 1 rfl rfl)
theorem dL_law_2767 : decode cL_law 2767 = .ok (.iconst 3, 1) := dk_6 (dk_at dksL_law_112 3 rfl rfl)
theorem dL_law_2768 : decode cL_law 2768 = .ok (.iadd, 1) := dk_96 (dk_at dksL_law_112 4 rfl rfl)
theorem dL_law_2769 : decode cL_law 2769 = .ok (.iaload, 1) := dk_46 (dk_at dksL_law_112 5 rfl rfl)
theorem dL_law_2770 : decode cL_law 2770 = .ok (.aload_n 0, 1) := dk_42 (dk_at dksL_law_112 6 rfl rfl)
theorem dL_law_2771 : decode cL_law 2771 = .ok (.iload 4, 2) := dk_21 4 (dk_at dksL_law_112 7 rfl rfl)
theorem dL_law_2773 : decode cL_law 2773 = .ok (.iconst 4, 1) := dk_7 (dk_at dksL_law_112 9 rfl rfl)
theorem dL_law_2774 : decode cL_law 2774 = .ok (.iadd, 1) := dk_96 (dk_at dksL_law_112 10 rfl rfl)
theorem dL_law_2775 : decode cL_law 2775 = .ok (.iaload, 1) := dk_46 (dk_at dksL_law_112 11 rfl rfl)
theorem dL_law_2776 : decode cL_law 2776 = .ok (.invokevirtual 292, 3) := dk_182 1 36 (dk_at dksL_law_112 12 rfl rfl)
theorem dL_law_2779 : decode cL_law 2779 = .ok (.istore 6, 2) := dk_54 6 (dk_at dksL_law_112 15 rfl rfl)
theorem dL_law_2781 : decode cL_law 2781 = .ok (.aload_n 2, 1) := dk_44 (dk_at dksL_law_112 17 rfl rfl)
theorem dL_law_2782 : decode cL_law 2782 = .ok (.invokevirtual 165, 3) := dk_182 0 165 (dk_at dksL_law_112 18 rfl rfl)
theorem dL_law_2785 : decode cL_law 2785 = .ok (.iload 5, 2) := dk_21 5 (dk_at dksL_law_112 21 rfl rfl)
theorem dL_law_2787 : decode cL_law 2787 = .ok (.if_icmp .eq 5, 3) := dk_159 0 5 (dk_at dksL_law_113 0 rfl rfl)
theorem dL_law_2790 : decode cL_law 2790 = .ok (.iconst 0, 1) := dk_3 (dk_at dksL_law_113 3 rfl rfl)
theorem dL_law_2791 : decode cL_law 2791 = .ok (.ireturn, 1) := dk_172 (dk_at dksL_law_113 4 rfl rfl)
theorem dL_law_2792 : decode cL_law 2792 = .ok (.iload 5, 2) := dk_21 5 (dk_at dksL_law_113 5 rfl rfl)
theorem dL_law_2794 : decode cL_law 2794 = .ok (.ifCond .ne 16, 3) := dk_154 0 16 (dk_at dksL_law_113 7 rfl rfl)
theorem dL_law_2797 : decode cL_law 2797 = .ok (.aload_n 3, 1) := dk_45 (dk_at dksL_law_113 10 rfl rfl)
theorem dL_law_2798 : decode cL_law 2798 = .ok (.getfield 13, 3) := dk_180 0 13 (dk_at dksL_law_113 11 rfl rfl)
theorem dL_law_2801 : decode cL_law 2801 = .ok (.iload 6, 2) := dk_21 6 (dk_at dksL_law_113 14 rfl rfl)
theorem dL_law_2803 : decode cL_law 2803 = .ok (.i2l, 1) := dk_133 (dk_at dksL_law_113 16 rfl rfl)
theorem dL_law_2804 : decode cL_law 2804 = .ok (.lcmp, 1) := dk_148 (dk_at dksL_law_113 17 rfl rfl)
theorem dL_law_2805 : decode cL_law 2805 = .ok (.ifCond .eq 5, 3) := dk_153 0 5 (dk_at dksL_law_113 18 rfl rfl)
theorem dL_law_2808 : decode cL_law 2808 = .ok (.iconst 0, 1) := dk_3 (dk_at dksL_law_113 21 rfl rfl)
theorem dL_law_2809 : decode cL_law 2809 = .ok (.ireturn, 1) := dk_172 (dk_at dksL_law_113 22 rfl rfl)
theorem dL_law_2810 : decode cL_law 2810 = .ok (.goto 213, 3) := dk_167 0 213 (dk_at dksL_law_114 0 rfl rfl)
theorem dL_law_2813 : decode cL_law 2813 = .ok (.aload_n 1, 1) := dk_43 (dk_at dksL_law_114 3 rfl rfl)
theorem dL_law_2814 : decode cL_law 2814 = .ok (.aload_n 0, 1) := dk_42 (dk_at dksL_law_114 4 rfl rfl)
theorem dL_law_2815 : decode cL_law 2815 = .ok (.iload 4, 2) := dk_21 4 (dk_at dksL_law_114 5 rfl rfl)
theorem dL_law_2817 : decode cL_law 2817 = .ok (.iconst 1, 1) := dk_4 (dk_at dksL_law_114 7 rfl rfl)
theorem dL_law_2818 : decode cL_law 2818 = .ok (.iadd, 1) := dk_96 (dk_at dksL_law_114 8 rfl rfl)
theorem dL_law_2819 : decode cL_law 2819 = .ok (.iaload, 1) := dk_46 (dk_at dksL_law_114 9 rfl rfl)
theorem dL_law_2820 : decode cL_law 2820 = .ok (.aload_n 0, 1) := dk_42 (dk_at dksL_law_114 10 rfl rfl)
theorem dL_law_2821 : decode cL_law 2821 = .ok (.iload 4, 2) := dk_21 4 (dk_at dksL_law_114 11 rfl rfl)
theorem dL_law_2823 : decode cL_law 2823 = .ok (.iconst 2, 1) := dk_5 (dk_at dksL_law_114 13 rfl rfl)
theorem dL_law_2824 : decode cL_law 2824 = .ok (.iadd, 1) := dk_96 (dk_at dksL_law_114 14 rfl rfl)
theorem dL_law_2825 : decode cL_law 2825 = .ok (.iaload, 1) := dk_46 (dk_at dksL_law_114 15 rfl rfl)
theorem dL_law_2826 : decode cL_law 2826 = .ok (.aload_n 3, 1) := dk_45 (dk_at dksL_law_114 16 rfl rfl)
theorem dL_law_2827 : decode cL_law 2827 = .ok (.invokestatic 293, 3) := dk_184 1 37 (dk_at dksL_law_114 17 rfl rfl)
theorem dL_law_2830 : decode cL_law 2830 = .ok (.istore 5, 2) := dk_54 5 (dk_at dksL_law_114 20 rfl rfl)
theorem dL_law_2832 : decode cL_law 2832 = .ok (.aload_n 2, 1) := dk_44 (dk_at dksL_law_114 22 rfl rfl)
theorem dL_law_2833 : decode cL_law 2833 = .ok (.aload_n 0, 1) := dk_42 (dk_at dksL_law_114 23 rfl rfl)
theorem dL_law_2834 : decode cL_law 2834 = .ok (.iload 4, 2) := dk_21 4 (dk_at dksL_law_115 0 rfl rfl)
theorem dL_law_2836 : decode cL_law 2836 = .ok (.iconst 1, 1) := dk_4 (dk_at dksL_law_115 2 rfl rfl)
theorem dL_law_2837 : decode cL_law 2837 = .ok (.iadd, 1) := dk_96 (dk_at dksL_law_115 3 rfl rfl)
theorem dL_law_2838 : decode cL_law 2838 = .ok (.iaload, 1) := dk_46 (dk_at dksL_law_115 4 rfl rfl)
theorem dL_law_2839 : decode cL_law 2839 = .ok (.aload_n 0, 1) := dk_42 (dk_at dksL_law_115 5 rfl rfl)
theorem dL_law_2840 : decode cL_law 2840 = .ok (.iload 4, 2) := dk_21 4 (dk_at dksL_law_115 6 rfl rfl)
theorem dL_law_2842 : decode cL_law 2842 = .ok (.iconst 2, 1) := dk_5 (dk_at dksL_law_115 8 rfl rfl)
theorem dL_law_2843 : decode cL_law 2843 = .ok (.iadd, 1) := dk_96 (dk_at dksL_law_115 9 rfl rfl)
theorem dL_law_2844 : decode cL_law 2844 = .ok (.iaload, 1) := dk_46 (dk_at dksL_law_115 10 rfl rfl)
theorem dL_law_2845 : decode cL_law 2845 = .ok (.invokevirtual 295, 3) := dk_182 1 39 (dk_at dksL_law_115 11 rfl rfl)
theorem dL_law_2848 : decode cL_law 2848 = .ok (.istore 6, 2) := dk_54 6 (dk_at dksL_law_115 14 rfl rfl)
theorem dL_law_2850 : decode cL_law 2850 = .ok (.aload_n 2, 1) := dk_44 (dk_at dksL_law_115 16 rfl rfl)
theorem dL_law_2851 : decode cL_law 2851 = .ok (.invokevirtual 165, 3) := dk_182 0 165 (dk_at dksL_law_115 17 rfl rfl)
theorem dL_law_2854 : decode cL_law 2854 = .ok (.iload 5, 2) := dk_21 5 (dk_at dksL_law_115 20 rfl rfl)
theorem dL_law_2856 : decode cL_law 2856 = .ok (.if_icmp .eq 5, 3) := dk_159 0 5 (dk_at dksL_law_116 0 rfl rfl)
theorem dL_law_2859 : decode cL_law 2859 = .ok (.iconst 0, 1) := dk_3 (dk_at dksL_law_116 3 rfl rfl)
theorem dL_law_2860 : decode cL_law 2860 = .ok (.ireturn, 1) := dk_172 (dk_at dksL_law_116 4 rfl rfl)
theorem dL_law_2861 : decode cL_law 2861 = .ok (.iload 5, 2) := dk_21 5 (dk_at dksL_law_116 5 rfl rfl)
theorem dL_law_2863 : decode cL_law 2863 = .ok (.ifCond .ne 16, 3) := dk_154 0 16 (dk_at dksL_law_116 7 rfl rfl)
theorem dL_law_2866 : decode cL_law 2866 = .ok (.aload_n 3, 1) := dk_45 (dk_at dksL_law_116 10 rfl rfl)
theorem dL_law_2867 : decode cL_law 2867 = .ok (.getfield 13, 3) := dk_180 0 13 (dk_at dksL_law_116 11 rfl rfl)
theorem dL_law_2870 : decode cL_law 2870 = .ok (.iload 6, 2) := dk_21 6 (dk_at dksL_law_116 14 rfl rfl)
theorem dL_law_2872 : decode cL_law 2872 = .ok (.i2l, 1) := dk_133 (dk_at dksL_law_116 16 rfl rfl)
theorem dL_law_2873 : decode cL_law 2873 = .ok (.lcmp, 1) := dk_148 (dk_at dksL_law_116 17 rfl rfl)
theorem dL_law_2874 : decode cL_law 2874 = .ok (.ifCond .eq 5, 3) := dk_153 0 5 (dk_at dksL_law_116 18 rfl rfl)
theorem dL_law_2877 : decode cL_law 2877 = .ok (.iconst 0, 1) := dk_3 (dk_at dksL_law_116 21 rfl rfl)
theorem dL_law_2878 : decode cL_law 2878 = .ok (.ireturn, 1) := dk_172 (dk_at dksL_law_116 22 rfl rfl)
theorem dL_law_2879 : decode cL_law 2879 = .ok (.goto 144, 3) := dk_167 0 144 (dk_at dksL_law_117 0 rfl rfl)
theorem dL_law_2882 : decode cL_law 2882 = .ok (.aload_n 1, 1) := dk_43 (dk_at dksL_law_117 3 rfl rfl)
theorem dL_law_2883 : decode cL_law 2883 = .ok (.aload_n 0, 1) := dk_42 (dk_at dksL_law_117 4 rfl rfl)
theorem dL_law_2884 : decode cL_law 2884 = .ok (.iload 4, 2) := dk_21 4 (dk_at dksL_law_117 5 rfl rfl)
theorem dL_law_2886 : decode cL_law 2886 = .ok (.iconst 1, 1) := dk_4 (dk_at dksL_law_117 7 rfl rfl)
theorem dL_law_2887 : decode cL_law 2887 = .ok (.iadd, 1) := dk_96 (dk_at dksL_law_117 8 rfl rfl)
theorem dL_law_2888 : decode cL_law 2888 = .ok (.iaload, 1) := dk_46 (dk_at dksL_law_117 9 rfl rfl)
theorem dL_law_2889 : decode cL_law 2889 = .ok (.aload_n 3, 1) := dk_45 (dk_at dksL_law_117 10 rfl rfl)
theorem dL_law_2890 : decode cL_law 2890 = .ok (.invokestatic 296, 3) := dk_184 1 40 (dk_at dksL_law_117 11 rfl rfl)
theorem dL_law_2893 : decode cL_law 2893 = .ok (.istore 5, 2) := dk_54 5 (dk_at dksL_law_117 14 rfl rfl)
theorem dL_law_2895 : decode cL_law 2895 = .ok (.aload_n 2, 1) := dk_44 (dk_at dksL_law_117 16 rfl rfl)
theorem dL_law_2896 : decode cL_law 2896 = .ok (.aload_n 0, 1) := dk_42 (dk_at dksL_law_117 17 rfl rfl)
theorem dL_law_2897 : decode cL_law 2897 = .ok (.iload 4, 2) := dk_21 4 (dk_at dksL_law_117 18 rfl rfl)
theorem dL_law_2899 : decode cL_law 2899 = .ok (.iconst 1, 1) := dk_4 (dk_at dksL_law_117 20 rfl rfl)
theorem dL_law_2900 : decode cL_law 2900 = .ok (.iadd, 1) := dk_96 (dk_at dksL_law_117 21 rfl rfl)
theorem dL_law_2901 : decode cL_law 2901 = .ok (.iaload, 1) := dk_46 (dk_at dksL_law_117 22 rfl rfl)
theorem dL_law_2902 : decode cL_law 2902 = .ok (.invokevirtual 298, 3) := dk_182 1 42 (dk_at dksL_law_118 0 rfl rfl)
theorem dL_law_2905 : decode cL_law 2905 = .ok (.istore 6, 2) := dk_54 6 (dk_at dksL_law_118 3 rfl rfl)
theorem dL_law_2907 : decode cL_law 2907 = .ok (.aload_n 2, 1) := dk_44 (dk_at dksL_law_118 5 rfl rfl)
theorem dL_law_2908 : decode cL_law 2908 = .ok (.invokevirtual 165, 3) := dk_182 0 165 (dk_at dksL_law_118 6 rfl rfl)
theorem dL_law_2911 : decode cL_law 2911 = .ok (.iload 5, 2) := dk_21 5 (dk_at dksL_law_118 9 rfl rfl)
theorem dL_law_2913 : decode cL_law 2913 = .ok (.if_icmp .eq 5, 3) := dk_159 0 5 (dk_at dksL_law_118 11 rfl rfl)
theorem dL_law_2916 : decode cL_law 2916 = .ok (.iconst 0, 1) := dk_3 (dk_at dksL_law_118 14 rfl rfl)
theorem dL_law_2917 : decode cL_law 2917 = .ok (.ireturn, 1) := dk_172 (dk_at dksL_law_118 15 rfl rfl)
theorem dL_law_2918 : decode cL_law 2918 = .ok (.iload 5, 2) := dk_21 5 (dk_at dksL_law_118 16 rfl rfl)
theorem dL_law_2920 : decode cL_law 2920 = .ok (.ifCond .ne 16, 3) := dk_154 0 16 (dk_at dksL_law_118 18 rfl rfl)
theorem dL_law_2923 : decode cL_law 2923 = .ok (.aload_n 3, 1) := dk_45 (dk_at dksL_law_118 21 rfl rfl)
theorem dL_law_2924 : decode cL_law 2924 = .ok (.getfield 13, 3) := dk_180 0 13 (dk_at dksL_law_119 0 rfl rfl)
theorem dL_law_2927 : decode cL_law 2927 = .ok (.iload 6, 2) := dk_21 6 (dk_at dksL_law_119 3 rfl rfl)
theorem dL_law_2929 : decode cL_law 2929 = .ok (.i2l, 1) := dk_133 (dk_at dksL_law_119 5 rfl rfl)
theorem dL_law_2930 : decode cL_law 2930 = .ok (.lcmp, 1) := dk_148 (dk_at dksL_law_119 6 rfl rfl)
theorem dL_law_2931 : decode cL_law 2931 = .ok (.ifCond .eq 5, 3) := dk_153 0 5 (dk_at dksL_law_119 7 rfl rfl)
theorem dL_law_2934 : decode cL_law 2934 = .ok (.iconst 0, 1) := dk_3 (dk_at dksL_law_119 10 rfl rfl)
theorem dL_law_2935 : decode cL_law 2935 = .ok (.ireturn, 1) := dk_172 (dk_at dksL_law_119 11 rfl rfl)
theorem dL_law_2936 : decode cL_law 2936 = .ok (.goto 87, 3) := dk_167 0 87 (dk_at dksL_law_119 12 rfl rfl)
theorem dL_law_2939 : decode cL_law 2939 = .ok (.aload_n 1, 1) := dk_43 (dk_at dksL_law_119 15 rfl rfl)
theorem dL_law_2940 : decode cL_law 2940 = .ok (.aload_n 0, 1) := dk_42 (dk_at dksL_law_119 16 rfl rfl)
theorem dL_law_2941 : decode cL_law 2941 = .ok (.iload 4, 2) := dk_21 4 (dk_at dksL_law_119 17 rfl rfl)
theorem dL_law_2943 : decode cL_law 2943 = .ok (.iconst 1, 1) := dk_4 (dk_at dksL_law_119 19 rfl rfl)
theorem dL_law_2944 : decode cL_law 2944 = .ok (.iadd, 1) := dk_96 (dk_at dksL_law_119 20 rfl rfl)
theorem dL_law_2945 : decode cL_law 2945 = .ok (.iaload, 1) := dk_46 (dk_at dksL_law_119 21 rfl rfl)
theorem dL_law_2946 : decode cL_law 2946 = .ok (.aload_n 3, 1) := dk_45 (dk_at dksL_law_119 22 rfl rfl)
theorem dL_law_2947 : decode cL_law 2947 = .ok (.invokestatic 299, 3) := dk_184 1 43 (dk_at dksL_law_120 0 rfl rfl)
theorem dL_law_2950 : decode cL_law 2950 = .ok (.istore 5, 2) := dk_54 5 (dk_at dksL_law_120 3 rfl rfl)
theorem dL_law_2952 : decode cL_law 2952 = .ok (.aload_n 2, 1) := dk_44 (dk_at dksL_law_120 5 rfl rfl)
theorem dL_law_2953 : decode cL_law 2953 = .ok (.aload_n 0, 1) := dk_42 (dk_at dksL_law_120 6 rfl rfl)
theorem dL_law_2954 : decode cL_law 2954 = .ok (.iload 4, 2) := dk_21 4 (dk_at dksL_law_120 7 rfl rfl)
theorem dL_law_2956 : decode cL_law 2956 = .ok (.iconst 1, 1) := dk_4 (dk_at dksL_law_120 9 rfl rfl)
theorem dL_law_2957 : decode cL_law 2957 = .ok (.iadd, 1) := dk_96 (dk_at dksL_law_120 10 rfl rfl)
theorem dL_law_2958 : decode cL_law 2958 = .ok (.iaload, 1) := dk_46 (dk_at dksL_law_120 11 rfl rfl)
theorem dL_law_2959 : decode cL_law 2959 = .ok (.invokevirtual 301, 3) := dk_182 1 45 (dk_at dksL_law_120 12 rfl rfl)
theorem dL_law_2962 : decode cL_law 2962 = .ok (.istore 6, 2) := dk_54 6 (dk_at dksL_law_120 15 rfl rfl)
theorem dL_law_2964 : decode cL_law 2964 = .ok (.aload_n 2, 1) := dk_44 (dk_at dksL_law_120 17 rfl rfl)
theorem dL_law_2965 : decode cL_law 2965 = .ok (.invokevirtual 165, 3) := dk_182 0 165 (dk_at dksL_law_120 18 rfl rfl)
theorem dL_law_2968 : decode cL_law 2968 = .ok (.iload 5, 2) := dk_21 5 (dk_at dksL_law_120 21 rfl rfl)
theorem dL_law_2970 : decode cL_law 2970 = .ok (.if_icmp .eq 5, 3) := dk_159 0 5 (dk_at dksL_law_121 0 rfl rfl)
theorem dL_law_2973 : decode cL_law 2973 = .ok (.iconst 0, 1) := dk_3 (dk_at dksL_law_121 3 rfl rfl)
theorem dL_law_2974 : decode cL_law 2974 = .ok (.ireturn, 1) := dk_172 (dk_at dksL_law_121 4 rfl rfl)
theorem dL_law_2975 : decode cL_law 2975 = .ok (.iload 5, 2) := dk_21 5 (dk_at dksL_law_121 5 rfl rfl)
theorem dL_law_2977 : decode cL_law 2977 = .ok (.ifCond .ne 16, 3) := dk_154 0 16 (dk_at dksL_law_121 7 rfl rfl)
theorem dL_law_2980 : decode cL_law 2980 = .ok (.aload_n 3, 1) := dk_45 (dk_at dksL_law_121 10 rfl rfl)
theorem dL_law_2981 : decode cL_law 2981 = .ok (.getfield 13, 3) := dk_180 0 13 (dk_at dksL_law_121 11 rfl rfl)
theorem dL_law_2984 : decode cL_law 2984 = .ok (.iload 6, 2) := dk_21 6 (dk_at dksL_law_121 14 rfl rfl)
theorem dL_law_2986 : decode cL_law 2986 = .ok (.i2l, 1) := dk_133 (dk_at dksL_law_121 16 rfl rfl)
theorem dL_law_2987 : decode cL_law 2987 = .ok (.lcmp, 1) := dk_148 (dk_at dksL_law_121 17 rfl rfl)
theorem dL_law_2988 : decode cL_law 2988 = .ok (.ifCond .eq 5, 3) := dk_153 0 5 (dk_at dksL_law_121 18 rfl rfl)
theorem dL_law_2991 : decode cL_law 2991 = .ok (.iconst 0, 1) := dk_3 (dk_at dksL_law_121 21 rfl rfl)
theorem dL_law_2992 : decode cL_law 2992 = .ok (.ireturn, 1) := dk_172 (dk_at dksL_law_121 22 rfl rfl)
theorem dL_law_2993 : decode cL_law 2993 = .ok (.goto 30, 3) := dk_167 0 30 (dk_at dksL_law_122 0 rfl rfl)
theorem dL_law_2996 : decode cL_law 2996 = .ok (.aload_n 1, 1) := dk_43 (dk_at dksL_law_122 3 rfl rfl)
theorem dL_law_2997 : decode cL_law 2997 = .ok (.invokevirtual 302, 3) := dk_182 1 46 (dk_at dksL_law_122 4 rfl rfl)
theorem dL_law_3000 : decode cL_law 3000 = .ok (.aload_n 2, 1) := dk_44 (dk_at dksL_law_122 7 rfl rfl)
theorem dL_law_3001 : decode cL_law 3001 = .ok (.invokevirtual 306, 3) := dk_182 1 50 (dk_at dksL_law_122 8 rfl rfl)
theorem dL_law_3004 : decode cL_law 3004 = .ok (.if_icmp .eq 19, 3) := dk_159 0 19 (dk_at dksL_law_122 11 rfl rfl)
theorem dL_law_3007 : decode cL_law 3007 = .ok (.iconst 0, 1) := dk_3 (dk_at dksL_law_122 14 rfl rfl)
theorem dL_law_3008 : decode cL_law 3008 = .ok (.ireturn, 1) := dk_172 (dk_at dksL_law_122 15 rfl rfl)
theorem dL_law_3009 : decode cL_law 3009 = .ok (.aload_n 1, 1) := dk_43 (dk_at dksL_law_122 16 rfl rfl)
theorem dL_law_3010 : decode cL_law 3010 = .ok (.invokevirtual 307, 3) := dk_182 1 51 (dk_at dksL_law_122 17 rfl rfl)
theorem dL_law_3013 : decode cL_law 3013 = .ok (.aload_n 2, 1) := dk_44 (dk_at dksL_law_122 20 rfl rfl)
theorem dL_law_3014 : decode cL_law 3014 = .ok (.invokevirtual 311, 3) := dk_182 1 55 (dk_at dksL_law_122 21 rfl rfl)
theorem dL_law_3017 : decode cL_law 3017 = .ok (.lcmp, 1) := dk_148 (dk_at dksL_law_123 0 rfl rfl)
theorem dL_law_3018 : decode cL_law 3018 = .ok (.ifCond .eq 5, 3) := dk_153 0 5 (dk_at dksL_law_123 1 rfl rfl)
theorem dL_law_3021 : decode cL_law 3021 = .ok (.iconst 0, 1) := dk_3 (dk_at dksL_law_123 4 rfl rfl)
theorem dL_law_3022 : decode cL_law 3022 = .ok (.ireturn, 1) := dk_172 (dk_at dksL_law_123 5 rfl rfl)
theorem dL_law_3023 : decode cL_law 3023 = .ok (.iinc 4 5, 3) := dk_132 4 5 (dk_at dksL_law_123 6 rfl rfl)
theorem dL_law_3026 : decode cL_law 3026 = .ok (.goto (-2999), 3) := dk_167 244 73 (dk_at dksL_law_123 9 rfl rfl)
theorem dL_law_3029 : decode cL_law 3029 = .ok (.iconst 1, 1) := dk_4 (dk_at dksL_law_123 12 rfl rfl)
theorem dL_law_3030 : decode cL_law 3030 = .ok (.ireturn, 1) := dk_172 (dk_at dksL_law_123 13 rfl rfl)
