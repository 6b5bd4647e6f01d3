/-! PublicanryModel -/
set_option maxRecDepth 100000
def RX8 : String := "PublicanryModel"
def TX8 : u_T := fun k => match k with
  | 0 => ("PublicanryModel", "thrown", "I", false)
  | 1 => ("PublicanryModel", "season", "I", false)
  | 2 => ("PublicanryModel", "sky", "I", false)
  | 3 => ("PublicanryModel", "villages", "Ljava/util/ArrayList;", true)
  | 4 => ("PublicanryModel", "companies", "Ljava/util/ArrayList;", true)
  | 5 => ("PublicanryModel", "lots", "Ljava/util/ArrayList;", true)
  | 6 => ("PublicanryModel", "rates", "[I", true)
  | 7 => ("PublicanryModel", "exempt", "[I", true)
  | 8 => ("PublicanryModel", "edictRate", "[I", true)
  | 9 => ("PublicanryModel", "edictExempt", "[I", true)
  | 10 => ("PublicanryModel", "hasClerks", "[Z", true)
  | 11 => ("PublicanryModel", "clerksBrought", "[I", true)
  | 12 => ("PublicanryModel", "number", "I", false)
  | 13 => ("PublicanryModel", "treasury", "I", false)
  | 14 => ("PublicanryModel", "governor", "I", false)
  | 15 => ("PublicanryModel", "world", "I", false)
  | 16 => ("PublicanryModel", "evidence", "I", false)
  | 17 => ("PublicanryModel", "won", "I", false)
  | 18 => ("PublicanryModel", "lost", "I", false)
  | 19 => ("PublicanryModel", "aside", "I", false)
  | 20 => ("PublicanryModel", "bidders", "I", false)
  | _ => ("PublicanryModel", "refused", "I", false)
def tyX8 : Nat → FieldType := fun k => match k with
  | 0 => .int
  | 1 => .int
  | 2 => .int
  | 3 => .object "java/util/ArrayList"
  | 4 => .object "java/util/ArrayList"
  | 5 => .object "java/util/ArrayList"
  | 6 => .array .int
  | 7 => .array .int
  | 8 => .array .int
  | 9 => .array .int
  | 10 => .array .boolean
  | 11 => .array .int
  | 12 => .int
  | 13 => .int
  | 14 => .int
  | 15 => .int
  | 16 => .int
  | 17 => .int
  | 18 => .int
  | 19 => .int
  | 20 => .int
  | _ => .int
abbrev wsX80 : List Cond := u_ws RX8 TX8 22
set_option maxRecDepth 100000 in
theorem nmX8 : ∀ a, a < 22 → ∀ b, b < 22 → a ≠ b → (TX8 a).2.1 ≠ (TX8 b).2.1 := by decide +kernel
set_option maxRecDepth 100000 in
theorem tyX8_ok : ∀ k, k < 22 → parseFieldDescriptor (TX8 k).2.2.1 = some (tyX8 k) := by decide +kernel
abbrev cX8_init : ByteArray := prog_19_method_1_code
def yX8_init : MethodName := ⟨RX8, "<init>", "()V"⟩
def dkwX8_init_4 : List UInt8 := [42, 6, 188, 4, 181, 0, 39, 42, 6, 188, 10, 181, 0, 43, 42, 6, 181, 0, 46, 177]
abbrev dktX8_init_4 : List UInt8 := dkwX8_init_4 ++ []
def dkwX8_init_3 : List UInt8 := [188, 10, 89, 3, 2, 79, 89, 4, 2, 79, 89, 5, 2, 79, 181, 0, 33, 42, 6, 188, 10, 181, 0, 36]
abbrev dktX8_init_3 : List UInt8 := dkwX8_init_3 ++ dktX8_init_4
def dkwX8_init_2 : List UInt8 := [16, 100, 79, 89, 4, 16, 10, 79, 89, 5, 5, 79, 181, 0, 26, 42, 6, 188, 10, 181, 0, 30, 42, 6]
abbrev dktX8_init_2 : List UInt8 := dkwX8_init_2 ++ dktX8_init_3
def dkwX8_init_1 : List UInt8 := [89, 183, 0, 15, 181, 0, 20, 42, 187, 0, 13, 89, 183, 0, 15, 181, 0, 23, 42, 6, 188, 10, 89, 3]
abbrev dktX8_init_1 : List UInt8 := dkwX8_init_1 ++ dktX8_init_2
def dkwX8_init_0 : List UInt8 := [42, 183, 0, 1, 42, 8, 181, 0, 7, 42, 187, 0, 13, 89, 183, 0, 15, 181, 0, 16, 42, 187, 0, 13]
abbrev dktX8_init_0 : List UInt8 := dkwX8_init_0 ++ dktX8_init_1
theorem dksX8_init_0 : cX8_init.data.toList.drop 0 = dktX8_init_0 := by decide +kernel
theorem dksX8_init_1 : cX8_init.data.toList.drop 24 = dktX8_init_1 := dk_seg dksX8_init_0 24 rfl rfl
theorem dksX8_init_2 : cX8_init.data.toList.drop 48 = dktX8_init_2 := dk_seg dksX8_init_1 24 rfl rfl
theorem dksX8_init_3 : cX8_init.data.toList.drop 72 = dktX8_init_3 := dk_seg dksX8_init_2 24 rfl rfl
theorem dksX8_init_4 : cX8_init.data.toList.drop 96 = dktX8_init_4 := dk_seg dksX8_init_3 24 rfl rfl
theorem dX8_init_0 : decode cX8_init 0 = .ok (.aload_n 0, 1) := dk_42 (dk_at dksX8_init_0 0 rfl rfl)
theorem dX8_init_1 : decode cX8_init 1 = .ok (.invokespecial 1, 3) := dk_183 0 1 (dk_at dksX8_init_0 1 rfl rfl)
theorem dX8_init_4 : decode cX8_init 4 = .ok (.aload_n 0, 1) := dk_42 (dk_at dksX8_init_0 4 rfl rfl)
theorem dX8_init_5 : decode cX8_init 5 = .ok (.iconst 5, 1) := dk_8 (dk_at dksX8_init_0 5 rfl rfl)
theorem dX8_init_6 : decode cX8_init 6 = .ok (.putfield 7, 3) := dk_181 0 7 (dk_at dksX8_init_0 6 rfl rfl)
theorem dX8_init_9 : decode cX8_init 9 = .ok (.aload_n 0, 1) := dk_42 (dk_at dksX8_init_0 9 rfl rfl)
theorem dX8_init_10 : decode cX8_init 10 = .ok (.new 13, 3) := dk_187 0 13 (dk_at dksX8_init_0 10 rfl rfl)
theorem dX8_init_13 : decode cX8_init 13 = .ok (.dup, 1) := dk_89 (dk_at dksX8_init_0 13 rfl rfl)
theorem dX8_init_14 : decode cX8_init 14 = .ok (.invokespecial 15, 3) := dk_183 0 15 (dk_at dksX8_init_0 14 rfl rfl)
theorem dX8_init_17 : decode cX8_init 17 = .ok (.putfield 16, 3) := dk_181 0 16 (dk_at dksX8_init_0 17 rfl rfl)
theorem dX8_init_20 : decode cX8_init 20 = .ok (.aload_n 0, 1) := dk_42 (dk_at dksX8_init_0 20 rfl rfl)
theorem dX8_init_21 : decode cX8_init 21 = .ok (.new 13, 3) := dk_187 0 13 (dk_at dksX8_init_0 21 rfl rfl)
theorem dX8_init_24 : decode cX8_init 24 = .ok (.dup, 1) := dk_89 (dk_at dksX8_init_1 0 rfl rfl)
theorem dX8_init_25 : decode cX8_init 25 = .ok (.invokespecial 15, 3) := dk_183 0 15 (dk_at dksX8_init_1 1 rfl rfl)
theorem dX8_init_28 : decode cX8_init 28 = .ok (.putfield 20, 3) := dk_181 0 20 (dk_at dksX8_init_1 4 rfl rfl)
theorem dX8_init_31 : decode cX8_init 31 = .ok (.aload_n 0, 1) := dk_42 (dk_at dksX8_init_1 7 rfl rfl)
theorem dX8_init_32 : decode cX8_init 32 = .ok (.new 13, 3) := dk_187 0 13 (dk_at dksX8_init_1 8 rfl rfl)
theorem dX8_init_35 : decode cX8_init 35 = .ok (.dup, 1) := dk_89 (dk_at dksX8_init_1 11 rfl rfl)
theorem dX8_init_36 : decode cX8_init 36 = .ok (.invokespecial 15, 3) := dk_183 0 15 (dk_at dksX8_init_1 12 rfl rfl)
theorem dX8_init_39 : decode cX8_init 39 = .ok (.putfield 23, 3) := dk_181 0 23 (dk_at dksX8_init_1 15 rfl rfl)
theorem dX8_init_42 : decode cX8_init 42 = .ok (.aload_n 0, 1) := dk_42 (dk_at dksX8_init_1 18 rfl rfl)
theorem dX8_init_43 : decode cX8_init 43 = .ok (.iconst 3, 1) := dk_6 (dk_at dksX8_init_1 19 rfl rfl)
theorem dX8_init_44 : decode cX8_init 44 = .ok (.newarray .int, 2) := dk_188_10 (dk_at dksX8_init_1 20 rfl rfl)
theorem dX8_init_46 : decode cX8_init 46 = .ok (.dup, 1) := dk_89 (dk_at dksX8_init_1 22 rfl rfl)
theorem dX8_init_47 : decode cX8_init 47 = .ok (.iconst 0, 1) := dk_3 (dk_at dksX8_init_1 23 rfl rfl)
theorem dX8_init_48 : decode cX8_init 48 = .ok (.bipush 100, 2) := dk_16 100 (dk_at dksX8_init_2 0 rfl rfl)
theorem dX8_init_50 : decode cX8_init 50 = .ok (.iastore, 1) := dk_79 (dk_at dksX8_init_2 2 rfl rfl)
theorem dX8_init_51 : decode cX8_init 51 = .ok (.dup, 1) := dk_89 (dk_at dksX8_init_2 3 rfl rfl)
theorem dX8_init_52 : decode cX8_init 52 = .ok (.iconst 1, 1) := dk_4 (dk_at dksX8_init_2 4 rfl rfl)
theorem dX8_init_53 : decode cX8_init 53 = .ok (.bipush 10, 2) := dk_16 10 (dk_at dksX8_init_2 5 rfl rfl)
theorem dX8_init_55 : decode cX8_init 55 = .ok (.iastore, 1) := dk_79 (dk_at dksX8_init_2 7 rfl rfl)
theorem dX8_init_56 : decode cX8_init 56 = .ok (.dup, 1) := dk_89 (dk_at dksX8_init_2 8 rfl rfl)
theorem dX8_init_57 : decode cX8_init 57 = .ok (.iconst 2, 1) := dk_5 (dk_at dksX8_init_2 9 rfl rfl)
theorem dX8_init_58 : decode cX8_init 58 = .ok (.iconst 2, 1) := dk_5 (dk_at dksX8_init_2 10 rfl rfl)
theorem dX8_init_59 : decode cX8_init 59 = .ok (.iastore, 1) := dk_79 (dk_at dksX8_init_2 11 rfl rfl)
theorem dX8_init_60 : decode cX8_init 60 = .ok (.putfield 26, 3) := dk_181 0 26 (dk_at dksX8_init_2 12 rfl rfl)
theorem dX8_init_63 : decode cX8_init 63 = .ok (.aload_n 0, 1) := dk_42 (dk_at dksX8_init_2 15 rfl rfl)
theorem dX8_init_64 : decode cX8_init 64 = .ok (.iconst 3, 1) := dk_6 (dk_at dksX8_init_2 16 rfl rfl)
theorem dX8_init_65 : decode cX8_init 65 = .ok (.newarray .int, 2) := dk_188_10 (dk_at dksX8_init_2 17 rfl rfl)
theorem dX8_init_67 : decode cX8_init 67 = .ok (.putfield 30, 3) := dk_181 0 30 (dk_at dksX8_init_2 19 rfl rfl)
theorem dX8_init_70 : decode cX8_init 70 = .ok (.aload_n 0, 1) := dk_42 (dk_at dksX8_init_2 22 rfl rfl)
theorem dX8_init_71 : decode cX8_init 71 = .ok (.iconst 3, 1) := dk_6 (dk_at dksX8_init_2 23 rfl rfl)
theorem dX8_init_72 : decode cX8_init 72 = .ok (.newarray .int, 2) := dk_188_10 (dk_at dksX8_init_3 0 rfl rfl)
theorem dX8_init_74 : decode cX8_init 74 = .ok (.dup, 1) := dk_89 (dk_at dksX8_init_3 2 rfl rfl)
theorem dX8_init_75 : decode cX8_init 75 = .ok (.iconst 0, 1) := dk_3 (dk_at dksX8_init_3 3 rfl rfl)
theorem dX8_init_76 : decode cX8_init 76 = .ok (.iconst (-1), 1) := dk_2 (dk_at dksX8_init_3 4 rfl rfl)
theorem dX8_init_77 : decode cX8_init 77 = .ok (.iastore, 1) := dk_79 (dk_at dksX8_init_3 5 rfl rfl)
theorem dX8_init_78 : decode cX8_init 78 = .ok (.dup, 1) := dk_89 (dk_at dksX8_init_3 6 rfl rfl)
theorem dX8_init_79 : decode cX8_init 79 = .ok (.iconst 1, 1) := dk_4 (dk_at dksX8_init_3 7 rfl rfl)
theorem dX8_init_80 : decode cX8_init 80 = .ok (.iconst (-1), 1) := dk_2 (dk_at dksX8_init_3 8 rfl rfl)
theorem dX8_init_81 : decode cX8_init 81 = .ok (.iastore, 1) := dk_79 (dk_at dksX8_init_3 9 rfl rfl)
theorem dX8_init_82 : decode cX8_init 82 = .ok (.dup, 1) := dk_89 (dk_at dksX8_init_3 10 rfl rfl)
theorem dX8_init_83 : decode cX8_init 83 = .ok (.iconst 2, 1) := dk_5 (dk_at dksX8_init_3 11 rfl rfl)
theorem dX8_init_84 : decode cX8_init 84 = .ok (.iconst (-1), 1) := dk_2 (dk_at dksX8_init_3 12 rfl rfl)
theorem dX8_init_85 : decode cX8_init 85 = .ok (.iastore, 1) := dk_79 (dk_at dksX8_init_3 13 rfl rfl)
theorem dX8_init_86 : decode cX8_init 86 = .ok (.putfield 33, 3) := dk_181 0 33 (dk_at dksX8_init_3 14 rfl rfl)
theorem dX8_init_89 : decode cX8_init 89 = .ok (.aload_n 0, 1) := dk_42 (dk_at dksX8_init_3 17 rfl rfl)
theorem dX8_init_90 : decode cX8_init 90 = .ok (.iconst 3, 1) := dk_6 (dk_at dksX8_init_3 18 rfl rfl)
theorem dX8_init_91 : decode cX8_init 91 = .ok (.newarray .int, 2) := dk_188_10 (dk_at dksX8_init_3 19 rfl rfl)
theorem dX8_init_93 : decode cX8_init 93 = .ok (.putfield 36, 3) := dk_181 0 36 (dk_at dksX8_init_3 21 rfl rfl)
theorem dX8_init_96 : decode cX8_init 96 = .ok (.aload_n 0, 1) := dk_42 (dk_at dksX8_init_4 0 rfl rfl)
theorem dX8_init_97 : decode cX8_init 97 = .ok (.iconst 3, 1) := dk_6 (dk_at dksX8_init_4 1 rfl rfl)
theorem dX8_init_98 : decode cX8_init 98 = .ok (.newarray .boolean, 2) := dk_188_4 (dk_at dksX8_init_4 2 rfl rfl)
theorem dX8_init_100 : decode cX8_init 100 = .ok (.putfield 39, 3) := dk_181 0 39 (dk_at dksX8_init_4 4 rfl rfl)
theorem dX8_init_103 : decode cX8_init 103 = .ok (.aload_n 0, 1) := dk_42 (dk_at dksX8_init_4 7 rfl rfl)
theorem dX8_init_104 : decode cX8_init 104 = .ok (.iconst 3, 1) := dk_6 (dk_at dksX8_init_4 8 rfl rfl)
theorem dX8_init_105 : decode cX8_init 105 = .ok (.newarray .int, 2) := dk_188_10 (dk_at dksX8_init_4 9 rfl rfl)
theorem dX8_init_107 : decode cX8_init 107 = .ok (.putfield 43, 3) := dk_181 0 43 (dk_at dksX8_init_4 11 rfl rfl)
theorem dX8_init_110 : decode cX8_init 110 = .ok (.aload_n 0, 1) := dk_42 (dk_at dksX8_init_4 14 rfl rfl)
theorem dX8_init_111 : decode cX8_init 111 = .ok (.iconst 3, 1) := dk_6 (dk_at dksX8_init_4 15 rfl rfl)
theorem dX8_init_112 : decode cX8_init 112 = .ok (.putfield 46, 3) := dk_181 0 46 (dk_at dksX8_init_4 16 rfl rfl)
theorem dX8_init_115 : decode cX8_init 115 = .ok (.return_, 1) := dk_177 (dk_at dksX8_init_4 19 rfl rfl)
abbrev cX8_thrown : ByteArray := prog_19_method_2_code
def yX8_thrown : MethodName := ⟨RX8, "thrown", "()I"⟩
theorem dX8_thrown_0 : decode cX8_thrown 0 = .ok (.aload_n 0, 1) := by decide +kernel
theorem dX8_thrown_1 : decode cX8_thrown 1 = .ok (.getfield 49, 3) := by decide +kernel
theorem dX8_thrown_4 : decode cX8_thrown 4 = .ok (.ireturn, 1) := by decide +kernel
abbrev cX8_village : ByteArray := prog_19_method_18_code
def yX8_village : MethodName := ⟨RX8, "village", "(IIII)I"⟩
def dkwX8_village_7 : List UInt8 := [4, 100, 172]
abbrev dktX8_village_7 : List UInt8 := dkwX8_village_7 ++ []
def dkwX8_village_6 : List UInt8 := [182, 0, 134, 87, 42, 42, 180, 0, 16, 182, 0, 56, 4, 100, 182, 0, 138, 42, 180, 0, 16, 182, 0, 56]
abbrev dktX8_village_6 : List UInt8 := dkwX8_village_6 ++ dktX8_village_7
def dkwX8_village_5 : List UInt8 := [181, 0, 105, 25, 6, 7, 27, 104, 181, 0, 128, 25, 6, 28, 181, 0, 131, 42, 180, 0, 16, 25, 6]
abbrev dktX8_village_5 : List UInt8 := dkwX8_village_5 ++ dktX8_village_6
def dkwX8_village_4 : List UInt8 := [58, 6, 25, 6, 27, 181, 0, 75, 25, 6, 28, 181, 0, 102, 25, 6, 29, 181, 0, 72, 25, 6, 21, 4]
abbrev dktX8_village_4 : List UInt8 := dkwX8_village_4 ++ dktX8_village_5
def dkwX8_village_3 : List UInt8 := [160, 0, 7, 4, 167, 0, 4, 3, 5, 182, 0, 52, 153, 0, 5, 3, 172, 187, 0, 68, 89, 183, 0, 127]
abbrev dktX8_village_3 : List UInt8 := dkwX8_village_3 ++ dktX8_village_4
def dkwX8_village_2 : List UInt8 := [3, 54, 5, 42, 21, 5, 4, 182, 0, 124, 154, 0, 28, 42, 42, 180, 0, 16, 182, 0, 56, 16, 8]
abbrev dktX8_village_2 : List UInt8 := dkwX8_village_2 ++ dktX8_village_3
def dkwX8_village_1 : List UInt8 := [17, 2, 88, 184, 0, 60, 153, 0, 14, 21, 4, 4, 16, 9, 184, 0, 60, 154, 0, 7, 4, 167, 0, 4]
abbrev dktX8_village_1 : List UInt8 := dkwX8_village_1 ++ dktX8_village_2
def dkwX8_village_0 : List UInt8 := [27, 4, 16, 90, 184, 0, 60, 153, 0, 36, 28, 3, 17, 2, 88, 184, 0, 60, 153, 0, 25, 29, 3]
abbrev dktX8_village_0 : List UInt8 := dkwX8_village_0 ++ dktX8_village_1
theorem dksX8_village_0 : cX8_village.data.toList.drop 0 = dktX8_village_0 := by decide +kernel
theorem dksX8_village_1 : cX8_village.data.toList.drop 23 = dktX8_village_1 := dk_seg dksX8_village_0 23 rfl rfl
theorem dksX8_village_2 : cX8_village.data.toList.drop 47 = dktX8_village_2 := dk_seg dksX8_village_1 24 rfl rfl
theorem dksX8_village_3 : cX8_village.data.toList.drop 70 = dktX8_village_3 := dk_seg dksX8_village_2 23 rfl rfl
theorem dksX8_village_4 : cX8_village.data.toList.drop 94 = dktX8_village_4 := dk_seg dksX8_village_3 24 rfl rfl
theorem dksX8_village_5 : cX8_village.data.toList.drop 118 = dktX8_village_5 := dk_seg dksX8_village_4 24 rfl rfl
theorem dksX8_village_6 : cX8_village.data.toList.drop 141 = dktX8_village_6 := dk_seg dksX8_village_5 23 rfl rfl
theorem dksX8_village_7 : cX8_village.data.toList.drop 165 = dktX8_village_7 := dk_seg dksX8_village_6 24 rfl rfl
theorem dX8_village_0 : decode cX8_village 0 = .ok (.iload_n 1, 1) := dk_27 (dk_at dksX8_village_0 0 rfl rfl)
theorem dX8_village_1 : decode cX8_village 1 = .ok (.iconst 1, 1) := dk_4 (dk_at dksX8_village_0 1 rfl rfl)
theorem dX8_village_2 : decode cX8_village 2 = .ok (.bipush 90, 2) := dk_16 90 (dk_at dksX8_village_0 2 rfl rfl)
theorem dX8_village_4 : decode cX8_village 4 = .ok (.invokestatic 60, 3) := dk_184 0 60 (dk_at dksX8_village_0 4 rfl rfl)
theorem dX8_village_7 : decode cX8_village 7 = .ok (.ifCond .eq 36, 3) := dk_153 0 36 (dk_at dksX8_village_0 7 rfl rfl)
theorem dX8_village_10 : decode cX8_village 10 = .ok (.iload_n 2, 1) := dk_28 (dk_at dksX8_village_0 10 rfl rfl)
theorem dX8_village_11 : decode cX8_village 11 = .ok (.iconst 0, 1) := dk_3 (dk_at dksX8_village_0 11 rfl rfl)
theorem dX8_village_12 : decode cX8_village 12 = .ok (.sipush 600, 3) := dk_17 2 88 (dk_at dksX8_village_0 12 rfl rfl)
theorem dX8_village_15 : decode cX8_village 15 = .ok (.invokestatic 60, 3) := dk_184 0 60 (dk_at dksX8_village_0 15 rfl rfl)
theorem dX8_village_18 : decode cX8_village 18 = .ok (.ifCond .eq 25, 3) := dk_153 0 25 (dk_at dksX8_village_0 18 rfl rfl)
theorem dX8_village_21 : decode cX8_village 21 = .ok (.iload_n 3, 1) := dk_29 (dk_at dksX8_village_0 21 rfl rfl)
theorem dX8_village_22 : decode cX8_village 22 = .ok (.iconst 0, 1) := dk_3 (dk_at dksX8_village_0 22 rfl rfl)
theorem dX8_village_23 : decode cX8_village 23 = .ok (.sipush 600, 3) := dk_17 2 88 (dk_at dksX8_village_1 0 rfl rfl)
theorem dX8_village_26 : decode cX8_village 26 = .ok (.invokestatic 60, 3) := dk_184 0 60 (dk_at dksX8_village_1 3 rfl rfl)
theorem dX8_village_29 : decode cX8_village 29 = .ok (.ifCond .eq 14, 3) := dk_153 0 14 (dk_at dksX8_village_1 6 rfl rfl)
theorem dX8_village_32 : decode cX8_village 32 = .ok (.iload 4, 2) := dk_21 4 (dk_at dksX8_village_1 9 rfl rfl)
theorem dX8_village_34 : decode cX8_village 34 = .ok (.iconst 1, 1) := dk_4 (dk_at dksX8_village_1 11 rfl rfl)
theorem dX8_village_35 : decode cX8_village 35 = .ok (.bipush 9, 2) := dk_16 9 (dk_at dksX8_village_1 12 rfl rfl)
theorem dX8_village_37 : decode cX8_village 37 = .ok (.invokestatic 60, 3) := dk_184 0 60 (dk_at dksX8_village_1 14 rfl rfl)
theorem dX8_village_40 : decode cX8_village 40 = .ok (.ifCond .ne 7, 3) := dk_154 0 7 (dk_at dksX8_village_1 17 rfl rfl)
theorem dX8_village_43 : decode cX8_village 43 = .ok (.iconst 1, 1) := dk_4 (dk_at dksX8_village_1 20 rfl rfl)
theorem dX8_village_44 : decode cX8_village 44 = .ok (.goto 4, 3) := dk_167 0 4 (dk_at dksX8_village_1 21 rfl rfl)
theorem dX8_village_47 : decode cX8_village 47 = .ok (.iconst 0, 1) := dk_3 (dk_at dksX8_village_2 0 rfl rfl)
theorem dX8_village_48 : decode cX8_village 48 = .ok (.istore 5, 2) := dk_54 5 (dk_at dksX8_village_2 1 rfl rfl)
theorem dX8_village_50 : decode cX8_village 50 = .ok (.aload_n 0, 1) := dk_42 (dk_at dksX8_village_2 3 rfl rfl)
theorem dX8_village_51 : decode cX8_village 51 = .ok (.iload 5, 2) := dk_21 5 (dk_at dksX8_village_2 4 rfl rfl)
theorem dX8_village_53 : decode cX8_village 53 = .ok (.iconst 1, 1) := dk_4 (dk_at dksX8_village_2 6 rfl rfl)
theorem dX8_village_54 : decode cX8_village 54 = .ok (.invokevirtual 124, 3) := dk_182 0 124 (dk_at dksX8_village_2 7 rfl rfl)
theorem dX8_village_57 : decode cX8_village 57 = .ok (.ifCond .ne 28, 3) := dk_154 0 28 (dk_at dksX8_village_2 10 rfl rfl)
theorem dX8_village_60 : decode cX8_village 60 = .ok (.aload_n 0, 1) := dk_42 (dk_at dksX8_village_2 13 rfl rfl)
theorem dX8_village_61 : decode cX8_village 61 = .ok (.aload_n 0, 1) := dk_42 (dk_at dksX8_village_2 14 rfl rfl)
theorem dX8_village_62 : decode cX8_village 62 = .ok (.getfield 16, 3) := dk_180 0 16 (dk_at dksX8_village_2 15 rfl rfl)
theorem dX8_village_65 : decode cX8_village 65 = .ok (.invokevirtual 56, 3) := dk_182 0 56 (dk_at dksX8_village_2 18 rfl rfl)
theorem dX8_village_68 : decode cX8_village 68 = .ok (.bipush 8, 2) := dk_16 8 (dk_at dksX8_village_2 21 rfl rfl)
theorem dX8_village_70 : decode cX8_village 70 = .ok (.if_icmp .ne 7, 3) := dk_160 0 7 (dk_at dksX8_village_3 0 rfl rfl)
theorem dX8_village_73 : decode cX8_village 73 = .ok (.iconst 1, 1) := dk_4 (dk_at dksX8_village_3 3 rfl rfl)
theorem dX8_village_74 : decode cX8_village 74 = .ok (.goto 4, 3) := dk_167 0 4 (dk_at dksX8_village_3 4 rfl rfl)
theorem dX8_village_77 : decode cX8_village 77 = .ok (.iconst 0, 1) := dk_3 (dk_at dksX8_village_3 7 rfl rfl)
theorem dX8_village_78 : decode cX8_village 78 = .ok (.iconst 2, 1) := dk_5 (dk_at dksX8_village_3 8 rfl rfl)
theorem dX8_village_79 : decode cX8_village 79 = .ok (.invokevirtual 52, 3) := dk_182 0 52 (dk_at dksX8_village_3 9 rfl rfl)
theorem dX8_village_82 : decode cX8_village 82 = .ok (.ifCond .eq 5, 3) := dk_153 0 5 (dk_at dksX8_village_3 12 rfl rfl)
theorem dX8_village_85 : decode cX8_village 85 = .ok (.iconst 0, 1) := dk_3 (dk_at dksX8_village_3 15 rfl rfl)
theorem dX8_village_86 : decode cX8_village 86 = .ok (.ireturn, 1) := dk_172 (dk_at dksX8_village_3 16 rfl rfl)
theorem dX8_village_87 : decode cX8_village 87 = .ok (.new 68, 3) := dk_187 0 68 (dk_at dksX8_village_3 17 rfl rfl)
theorem dX8_village_90 : decode cX8_village 90 = .ok (.dup, 1) := dk_89 (dk_at dksX8_village_3 20 rfl rfl)
theorem dX8_village_91 : decode cX8_village 91 = .ok (.invokespecial 127, 3) := dk_183 0 127 (dk_at dksX8_village_3 21 rfl rfl)
theorem dX8_village_94 : decode cX8_village 94 = .ok (.astore 6, 2) := dk_58 6 (dk_at dksX8_village_4 0 rfl rfl)
theorem dX8_village_96 : decode cX8_village 96 = .ok (.aload 6, 2) := dk_25 6 (dk_at dksX8_village_4 2 rfl rfl)
theorem dX8_village_98 : decode cX8_village 98 = .ok (.iload_n 1, 1) := dk_27 (dk_at dksX8_village_4 4 rfl rfl)
theorem dX8_village_99 : decode cX8_village 99 = .ok (.putfield 75, 3) := dk_181 0 75 (dk_at dksX8_village_4 5 rfl rfl)
theorem dX8_village_102 : decode cX8_village 102 = .ok (.aload 6, 2) := dk_25 6 (dk_at dksX8_village_4 8 rfl rfl)
theorem dX8_village_104 : decode cX8_village 104 = .ok (.iload_n 2, 1) := dk_28 (dk_at dksX8_village_4 10 rfl rfl)
theorem dX8_village_105 : decode cX8_village 105 = .ok (.putfield 102, 3) := dk_181 0 102 (dk_at dksX8_village_4 11 rfl rfl)
theorem dX8_village_108 : decode cX8_village 108 = .ok (.aload 6, 2) := dk_25 6 (dk_at dksX8_village_4 14 rfl rfl)
theorem dX8_village_110 : decode cX8_village 110 = .ok (.iload_n 3, 1) := dk_29 (dk_at dksX8_village_4 16 rfl rfl)
theorem dX8_village_111 : decode cX8_village 111 = .ok (.putfield 72, 3) := dk_181 0 72 (dk_at dksX8_village_4 17 rfl rfl)
theorem dX8_village_114 : decode cX8_village 114 = .ok (.aload 6, 2) := dk_25 6 (dk_at dksX8_village_4 20 rfl rfl)
theorem dX8_village_116 : decode cX8_village 116 = .ok (.iload 4, 2) := dk_21 4 (dk_at dksX8_village_4 22 rfl rfl)
theorem dX8_village_118 : decode cX8_village 118 = .ok (.putfield 105, 3) := dk_181 0 105 (dk_at dksX8_village_5 0 rfl rfl)
theorem dX8_village_121 : decode cX8_village 121 = .ok (.aload 6, 2) := dk_25 6 (dk_at dksX8_village_5 3 rfl rfl)
theorem dX8_village_123 : decode cX8_village 123 = .ok (.iconst 4, 1) := dk_7 (dk_at dksX8_village_5 5 rfl rfl)
theorem dX8_village_124 : decode cX8_village 124 = .ok (.iload_n 1, 1) := dk_27 (dk_at dksX8_village_5 6 rfl rfl)
theorem dX8_village_125 : decode cX8_village 125 = .ok (.imul, 1) := dk_104 (dk_at dksX8_village_5 7 rfl rfl)
theorem dX8_village_126 : decode cX8_village 126 = .ok (.putfield 128, 3) := dk_181 0 128 (dk_at dksX8_village_5 8 rfl rfl)
theorem dX8_village_129 : decode cX8_village 129 = .ok (.aload 6, 2) := dk_25 6 (dk_at dksX8_village_5 11 rfl rfl)
theorem dX8_village_131 : decode cX8_village 131 = .ok (.iload_n 2, 1) := dk_28 (dk_at dksX8_village_5 13 rfl rfl)
theorem dX8_village_132 : decode cX8_village 132 = .ok (.putfield 131, 3) := dk_181 0 131 (dk_at dksX8_village_5 14 rfl rfl)
theorem dX8_village_135 : decode cX8_village 135 = .ok (.aload_n 0, 1) := dk_42 (dk_at dksX8_village_5 17 rfl rfl)
theorem dX8_village_136 : decode cX8_village 136 = .ok (.getfield 16, 3) := dk_180 0 16 (dk_at dksX8_village_5 18 rfl rfl)
theorem dX8_village_139 : decode cX8_village 139 = .ok (.aload 6, 2) := dk_25 6 (dk_at dksX8_village_5 21 rfl rfl)
theorem dX8_village_141 : decode cX8_village 141 = .ok (.invokevirtual 134, 3) := dk_182 0 134 (dk_at dksX8_village_6 0 rfl rfl)
theorem dX8_village_144 : decode cX8_village 144 = .ok (.pop, 1) := dk_87 (dk_at dksX8_village_6 3 rfl rfl)
theorem dX8_village_145 : decode cX8_village 145 = .ok (.aload_n 0, 1) := dk_42 (dk_at dksX8_village_6 4 rfl rfl)
theorem dX8_village_146 : decode cX8_village 146 = .ok (.aload_n 0, 1) := dk_42 (dk_at dksX8_village_6 5 rfl rfl)
theorem dX8_village_147 : decode cX8_village 147 = .ok (.getfield 16, 3) := dk_180 0 16 (dk_at dksX8_village_6 6 rfl rfl)
theorem dX8_village_150 : decode cX8_village 150 = .ok (.invokevirtual 56, 3) := dk_182 0 56 (dk_at dksX8_village_6 9 rfl rfl)
theorem dX8_village_153 : decode cX8_village 153 = .ok (.iconst 1, 1) := dk_4 (dk_at dksX8_village_6 12 rfl rfl)
theorem dX8_village_154 : decode cX8_village 154 = .ok (.isub, 1) := dk_100 (dk_at dksX8_village_6 13 rfl rfl)
theorem dX8_village_155 : decode cX8_village 155 = .ok (.invokevirtual 138, 3) := dk_182 0 138 (dk_at dksX8_village_6 14 rfl rfl)
theorem dX8_village_158 : decode cX8_village 158 = .ok (.aload_n 0, 1) := dk_42 (dk_at dksX8_village_6 17 rfl rfl)
theorem dX8_village_159 : decode cX8_village 159 = .ok (.getfield 16, 3) := dk_180 0 16 (dk_at dksX8_village_6 18 rfl rfl)
theorem dX8_village_162 : decode cX8_village 162 = .ok (.invokevirtual 56, 3) := dk_182 0 56 (dk_at dksX8_village_6 21 rfl rfl)
theorem dX8_village_165 : decode cX8_village 165 = .ok (.iconst 1, 1) := dk_4 (dk_at dksX8_village_7 0 rfl rfl)
theorem dX8_village_166 : decode cX8_village 166 = .ok (.isub, 1) := dk_100 (dk_at dksX8_village_7 1 rfl rfl)
theorem dX8_village_167 : decode cX8_village 167 = .ok (.ireturn, 1) := dk_172 (dk_at dksX8_village_7 2 rfl rfl)
abbrev cX8_isIn : ByteArray := prog_19_method_3_code
def yX8_isIn : MethodName := ⟨RX8, "isIn", "(III)Z"⟩
def dkwX8_isIn_0 : List UInt8 := [26, 27, 161, 0, 12, 26, 28, 163, 0, 7, 4, 167, 0, 4, 3, 172]
abbrev dktX8_isIn_0 : List UInt8 := dkwX8_isIn_0 ++ []
theorem dksX8_isIn_0 : cX8_isIn.data.toList.drop 0 = dktX8_isIn_0 := by decide +kernel
theorem dX8_isIn_0 : decode cX8_isIn 0 = .ok (.iload_n 0, 1) := dk_26 (dk_at dksX8_isIn_0 0 rfl rfl)
theorem dX8_isIn_1 : decode cX8_isIn 1 = .ok (.iload_n 1, 1) := dk_27 (dk_at dksX8_isIn_0 1 rfl rfl)
theorem dX8_isIn_2 : decode cX8_isIn 2 = .ok (.if_icmp .lt 12, 3) := dk_161 0 12 (dk_at dksX8_isIn_0 2 rfl rfl)
theorem dX8_isIn_5 : decode cX8_isIn 5 = .ok (.iload_n 0, 1) := dk_26 (dk_at dksX8_isIn_0 5 rfl rfl)
theorem dX8_isIn_6 : decode cX8_isIn 6 = .ok (.iload_n 2, 1) := dk_28 (dk_at dksX8_isIn_0 6 rfl rfl)
theorem dX8_isIn_7 : decode cX8_isIn 7 = .ok (.if_icmp .gt 7, 3) := dk_163 0 7 (dk_at dksX8_isIn_0 7 rfl rfl)
theorem dX8_isIn_10 : decode cX8_isIn 10 = .ok (.iconst 1, 1) := dk_4 (dk_at dksX8_isIn_0 10 rfl rfl)
theorem dX8_isIn_11 : decode cX8_isIn 11 = .ok (.goto 4, 3) := dk_167 0 4 (dk_at dksX8_isIn_0 11 rfl rfl)
theorem dX8_isIn_14 : decode cX8_isIn 14 = .ok (.iconst 0, 1) := dk_3 (dk_at dksX8_isIn_0 14 rfl rfl)
theorem dX8_isIn_15 : decode cX8_isIn 15 = .ok (.ireturn, 1) := dk_172 (dk_at dksX8_isIn_0 15 rfl rfl)
abbrev cX8_start : ByteArray := prog_19_method_6_code
def yX8_start : MethodName := ⟨RX8, "start", "(ZI)Z"⟩
def dkwX8_start_0 : List UInt8 := [42, 3, 181, 0, 49, 42, 27, 28, 182, 0, 52, 172]
abbrev dktX8_start_0 : List UInt8 := dkwX8_start_0 ++ []
theorem dksX8_start_0 : cX8_start.data.toList.drop 0 = dktX8_start_0 := by decide +kernel
theorem dX8_start_0 : decode cX8_start 0 = .ok (.aload_n 0, 1) := dk_42 (dk_at dksX8_start_0 0 rfl rfl)
theorem dX8_start_1 : decode cX8_start 1 = .ok (.iconst 0, 1) := dk_3 (dk_at dksX8_start_0 1 rfl rfl)
theorem dX8_start_2 : decode cX8_start 2 = .ok (.putfield 49, 3) := dk_181 0 49 (dk_at dksX8_start_0 2 rfl rfl)
theorem dX8_start_5 : decode cX8_start 5 = .ok (.aload_n 0, 1) := dk_42 (dk_at dksX8_start_0 5 rfl rfl)
theorem dX8_start_6 : decode cX8_start 6 = .ok (.iload_n 1, 1) := dk_27 (dk_at dksX8_start_0 6 rfl rfl)
theorem dX8_start_7 : decode cX8_start 7 = .ok (.iload_n 2, 1) := dk_28 (dk_at dksX8_start_0 7 rfl rfl)
theorem dX8_start_8 : decode cX8_start 8 = .ok (.invokevirtual 52, 3) := dk_182 0 52 (dk_at dksX8_start_0 8 rfl rfl)
theorem dX8_start_11 : decode cX8_start 11 = .ok (.ireturn, 1) := dk_172 (dk_at dksX8_start_0 11 rfl rfl)
abbrev cX8_refuse : ByteArray := prog_19_method_5_code
def yX8_refuse : MethodName := ⟨RX8, "refuse", "(ZI)Z"⟩
def dkwX8_refuse_1 : List UInt8 := [167, 0, 4, 3, 172]
abbrev dktX8_refuse_1 : List UInt8 := dkwX8_refuse_1 ++ []
def dkwX8_refuse_0 : List UInt8 := [27, 153, 0, 15, 42, 180, 0, 49, 154, 0, 8, 42, 28, 181, 0, 49, 42, 180, 0, 49, 158, 0, 7, 4]
abbrev dktX8_refuse_0 : List UInt8 := dkwX8_refuse_0 ++ dktX8_refuse_1
theorem dksX8_refuse_0 : cX8_refuse.data.toList.drop 0 = dktX8_refuse_0 := by decide +kernel
theorem dksX8_refuse_1 : cX8_refuse.data.toList.drop 24 = dktX8_refuse_1 := dk_seg dksX8_refuse_0 24 rfl rfl
theorem dX8_refuse_0 : decode cX8_refuse 0 = .ok (.iload_n 1, 1) := dk_27 (dk_at dksX8_refuse_0 0 rfl rfl)
theorem dX8_refuse_1 : decode cX8_refuse 1 = .ok (.ifCond .eq 15, 3) := dk_153 0 15 (dk_at dksX8_refuse_0 1 rfl rfl)
theorem dX8_refuse_4 : decode cX8_refuse 4 = .ok (.aload_n 0, 1) := dk_42 (dk_at dksX8_refuse_0 4 rfl rfl)
theorem dX8_refuse_5 : decode cX8_refuse 5 = .ok (.getfield 49, 3) := dk_180 0 49 (dk_at dksX8_refuse_0 5 rfl rfl)
theorem dX8_refuse_8 : decode cX8_refuse 8 = .ok (.ifCond .ne 8, 3) := dk_154 0 8 (dk_at dksX8_refuse_0 8 rfl rfl)
theorem dX8_refuse_11 : decode cX8_refuse 11 = .ok (.aload_n 0, 1) := dk_42 (dk_at dksX8_refuse_0 11 rfl rfl)
theorem dX8_refuse_12 : decode cX8_refuse 12 = .ok (.iload_n 2, 1) := dk_28 (dk_at dksX8_refuse_0 12 rfl rfl)
theorem dX8_refuse_13 : decode cX8_refuse 13 = .ok (.putfield 49, 3) := dk_181 0 49 (dk_at dksX8_refuse_0 13 rfl rfl)
theorem dX8_refuse_16 : decode cX8_refuse 16 = .ok (.aload_n 0, 1) := dk_42 (dk_at dksX8_refuse_0 16 rfl rfl)
theorem dX8_refuse_17 : decode cX8_refuse 17 = .ok (.getfield 49, 3) := dk_180 0 49 (dk_at dksX8_refuse_0 17 rfl rfl)
theorem dX8_refuse_20 : decode cX8_refuse 20 = .ok (.ifCond .le 7, 3) := dk_158 0 7 (dk_at dksX8_refuse_0 20 rfl rfl)
theorem dX8_refuse_23 : decode cX8_refuse 23 = .ok (.iconst 1, 1) := dk_4 (dk_at dksX8_refuse_0 23 rfl rfl)
theorem dX8_refuse_24 : decode cX8_refuse 24 = .ok (.goto 4, 3) := dk_167 0 4 (dk_at dksX8_refuse_1 0 rfl rfl)
theorem dX8_refuse_27 : decode cX8_refuse 27 = .ok (.iconst 0, 1) := dk_3 (dk_at dksX8_refuse_1 3 rfl rfl)
theorem dX8_refuse_28 : decode cX8_refuse 28 = .ok (.ireturn, 1) := dk_172 (dk_at dksX8_refuse_1 4 rfl rfl)
abbrev cX8_cutStone : ByteArray := prog_19_method_16_code
def yX8_cutStone : MethodName := ⟨RX8, "cutStone", "(I)V"⟩
def dkwX8_cutStone_2 : List UInt8 := [132, 3, 1, 167, 255, 220, 44, 42, 180, 0, 112, 181, 0, 115, 177]
abbrev dktX8_cutStone_2 : List UInt8 := dkwX8_cutStone_2 ++ []
def dkwX8_cutStone_1 : List UInt8 := [42, 180, 0, 26, 29, 46, 79, 44, 180, 0, 91, 29, 42, 180, 0, 30, 29, 46, 27, 184, 0, 82, 84]
abbrev dktX8_cutStone_1 : List UInt8 := dkwX8_cutStone_1 ++ dktX8_cutStone_2
def dkwX8_cutStone_0 : List UInt8 := [42, 180, 0, 16, 27, 182, 0, 78, 192, 0, 68, 77, 3, 62, 29, 6, 162, 0, 37, 44, 180, 0, 90, 29]
abbrev dktX8_cutStone_0 : List UInt8 := dkwX8_cutStone_0 ++ dktX8_cutStone_1
theorem dksX8_cutStone_0 : cX8_cutStone.data.toList.drop 0 = dktX8_cutStone_0 := by decide +kernel
theorem dksX8_cutStone_1 : cX8_cutStone.data.toList.drop 24 = dktX8_cutStone_1 := dk_seg dksX8_cutStone_0 24 rfl rfl
theorem dksX8_cutStone_2 : cX8_cutStone.data.toList.drop 47 = dktX8_cutStone_2 := dk_seg dksX8_cutStone_1 23 rfl rfl
theorem dX8_cutStone_0 : decode cX8_cutStone 0 = .ok (.aload_n 0, 1) := dk_42 (dk_at dksX8_cutStone_0 0 rfl rfl)
theorem dX8_cutStone_1 : decode cX8_cutStone 1 = .ok (.getfield 16, 3) := dk_180 0 16 (dk_at dksX8_cutStone_0 1 rfl rfl)
theorem dX8_cutStone_4 : decode cX8_cutStone 4 = .ok (.iload_n 1, 1) := dk_27 (dk_at dksX8_cutStone_0 4 rfl rfl)
theorem dX8_cutStone_5 : decode cX8_cutStone 5 = .ok (.invokevirtual 78, 3) := dk_182 0 78 (dk_at dksX8_cutStone_0 5 rfl rfl)
theorem dX8_cutStone_8 : decode cX8_cutStone 8 = .ok (.checkcast 68, 3) := dk_192 0 68 (dk_at dksX8_cutStone_0 8 rfl rfl)
theorem dX8_cutStone_11 : decode cX8_cutStone 11 = .ok (.astore_n 2, 1) := dk_77 (dk_at dksX8_cutStone_0 11 rfl rfl)
theorem dX8_cutStone_12 : decode cX8_cutStone 12 = .ok (.iconst 0, 1) := dk_3 (dk_at dksX8_cutStone_0 12 rfl rfl)
theorem dX8_cutStone_13 : decode cX8_cutStone 13 = .ok (.istore_n 3, 1) := dk_62 (dk_at dksX8_cutStone_0 13 rfl rfl)
theorem dX8_cutStone_14 : decode cX8_cutStone 14 = .ok (.iload_n 3, 1) := dk_29 (dk_at dksX8_cutStone_0 14 rfl rfl)
theorem dX8_cutStone_15 : decode cX8_cutStone 15 = .ok (.iconst 3, 1) := dk_6 (dk_at dksX8_cutStone_0 15 rfl rfl)
theorem dX8_cutStone_16 : decode cX8_cutStone 16 = .ok (.if_icmp .ge 37, 3) := dk_162 0 37 (dk_at dksX8_cutStone_0 16 rfl rfl)
theorem dX8_cutStone_19 : decode cX8_cutStone 19 = .ok (.aload_n 2, 1) := dk_44 (dk_at dksX8_cutStone_0 19 rfl rfl)
theorem dX8_cutStone_20 : decode cX8_cutStone 20 = .ok (.getfield 90, 3) := dk_180 0 90 (dk_at dksX8_cutStone_0 20 rfl rfl)
theorem dX8_cutStone_23 : decode cX8_cutStone 23 = .ok (.iload_n 3, 1) := dk_29 (dk_at dksX8_cutStone_0 23 rfl rfl)
theorem dX8_cutStone_24 : decode cX8_cutStone 24 = .ok (.aload_n 0, 1) := dk_42 (dk_at dksX8_cutStone_1 0 rfl rfl)
theorem dX8_cutStone_25 : decode cX8_cutStone 25 = .ok (.getfield 26, 3) := dk_180 0 26 (dk_at dksX8_cutStone_1 1 rfl rfl)
theorem dX8_cutStone_28 : decode cX8_cutStone 28 = .ok (.iload_n 3, 1) := dk_29 (dk_at dksX8_cutStone_1 4 rfl rfl)
theorem dX8_cutStone_29 : decode cX8_cutStone 29 = .ok (.iaload, 1) := dk_46 (dk_at dksX8_cutStone_1 5 rfl rfl)
theorem dX8_cutStone_30 : decode cX8_cutStone 30 = .ok (.iastore, 1) := dk_79 (dk_at dksX8_cutStone_1 6 rfl rfl)
theorem dX8_cutStone_31 : decode cX8_cutStone 31 = .ok (.aload_n 2, 1) := dk_44 (dk_at dksX8_cutStone_1 7 rfl rfl)
theorem dX8_cutStone_32 : decode cX8_cutStone 32 = .ok (.getfield 91, 3) := dk_180 0 91 (dk_at dksX8_cutStone_1 8 rfl rfl)
theorem dX8_cutStone_35 : decode cX8_cutStone 35 = .ok (.iload_n 3, 1) := dk_29 (dk_at dksX8_cutStone_1 11 rfl rfl)
theorem dX8_cutStone_36 : decode cX8_cutStone 36 = .ok (.aload_n 0, 1) := dk_42 (dk_at dksX8_cutStone_1 12 rfl rfl)
theorem dX8_cutStone_37 : decode cX8_cutStone 37 = .ok (.getfield 30, 3) := dk_180 0 30 (dk_at dksX8_cutStone_1 13 rfl rfl)
theorem dX8_cutStone_40 : decode cX8_cutStone 40 = .ok (.iload_n 3, 1) := dk_29 (dk_at dksX8_cutStone_1 16 rfl rfl)
theorem dX8_cutStone_41 : decode cX8_cutStone 41 = .ok (.iaload, 1) := dk_46 (dk_at dksX8_cutStone_1 17 rfl rfl)
theorem dX8_cutStone_42 : decode cX8_cutStone 42 = .ok (.iload_n 1, 1) := dk_27 (dk_at dksX8_cutStone_1 18 rfl rfl)
theorem dX8_cutStone_43 : decode cX8_cutStone 43 = .ok (.invokestatic 82, 3) := dk_184 0 82 (dk_at dksX8_cutStone_1 19 rfl rfl)
theorem dX8_cutStone_46 : decode cX8_cutStone 46 = .ok (.bastore, 1) := dk_84 (dk_at dksX8_cutStone_1 22 rfl rfl)
theorem dX8_cutStone_47 : decode cX8_cutStone 47 = .ok (.iinc 3 1, 3) := dk_132 3 1 (dk_at dksX8_cutStone_2 0 rfl rfl)
theorem dX8_cutStone_50 : decode cX8_cutStone 50 = .ok (.goto (-36), 3) := dk_167 255 220 (dk_at dksX8_cutStone_2 3 rfl rfl)
theorem dX8_cutStone_53 : decode cX8_cutStone 53 = .ok (.aload_n 2, 1) := dk_44 (dk_at dksX8_cutStone_2 6 rfl rfl)
theorem dX8_cutStone_54 : decode cX8_cutStone 54 = .ok (.aload_n 0, 1) := dk_42 (dk_at dksX8_cutStone_2 7 rfl rfl)
theorem dX8_cutStone_55 : decode cX8_cutStone 55 = .ok (.getfield 112, 3) := dk_180 0 112 (dk_at dksX8_cutStone_2 8 rfl rfl)
theorem dX8_cutStone_58 : decode cX8_cutStone 58 = .ok (.putfield 115, 3) := dk_181 0 115 (dk_at dksX8_cutStone_2 11 rfl rfl)
theorem dX8_cutStone_61 : decode cX8_cutStone 61 = .ok (.return_, 1) := dk_177 (dk_at dksX8_cutStone_2 14 rfl rfl)
abbrev cX8_has : ByteArray := prog_19_method_4_code
def yX8_has : MethodName := ⟨RX8, "has", "(II)Z"⟩
def dkwX8_has_0 : List UInt8 := [26, 27, 122, 4, 126, 4, 160, 0, 7, 4, 167, 0, 4, 3, 172]
abbrev dktX8_has_0 : List UInt8 := dkwX8_has_0 ++ []
theorem dksX8_has_0 : cX8_has.data.toList.drop 0 = dktX8_has_0 := by decide +kernel
theorem dX8_has_0 : decode cX8_has 0 = .ok (.iload_n 0, 1) := dk_26 (dk_at dksX8_has_0 0 rfl rfl)
theorem dX8_has_1 : decode cX8_has 1 = .ok (.iload_n 1, 1) := dk_27 (dk_at dksX8_has_0 1 rfl rfl)
theorem dX8_has_2 : decode cX8_has 2 = .ok (.ishr, 1) := dk_122 (dk_at dksX8_has_0 2 rfl rfl)
theorem dX8_has_3 : decode cX8_has 3 = .ok (.iconst 1, 1) := dk_4 (dk_at dksX8_has_0 3 rfl rfl)
theorem dX8_has_4 : decode cX8_has 4 = .ok (.iand, 1) := dk_126 (dk_at dksX8_has_0 4 rfl rfl)
theorem dX8_has_5 : decode cX8_has 5 = .ok (.iconst 1, 1) := dk_4 (dk_at dksX8_has_0 5 rfl rfl)
theorem dX8_has_6 : decode cX8_has 6 = .ok (.if_icmp .ne 7, 3) := dk_160 0 7 (dk_at dksX8_has_0 6 rfl rfl)
theorem dX8_has_9 : decode cX8_has 9 = .ok (.iconst 1, 1) := dk_4 (dk_at dksX8_has_0 9 rfl rfl)
theorem dX8_has_10 : decode cX8_has 10 = .ok (.goto 4, 3) := dk_167 0 4 (dk_at dksX8_has_0 10 rfl rfl)
theorem dX8_has_13 : decode cX8_has 13 = .ok (.iconst 0, 1) := dk_3 (dk_at dksX8_has_0 13 rfl rfl)
theorem dX8_has_14 : decode cX8_has 14 = .ok (.ireturn, 1) := dk_172 (dk_at dksX8_has_0 14 rfl rfl)
abbrev cX8_clear : ByteArray := prog_19_method_19_code
def yX8_clear : MethodName := ⟨RX8, "clear", "(II)I"⟩
def dkwX8_clear_3 : List UInt8 := [172]
abbrev dktX8_clear_3 : List UInt8 := dkwX8_clear_3 ++ []
def dkwX8_clear_2 : List UInt8 := [192, 0, 68, 78, 45, 17, 2, 88, 45, 180, 0, 102, 28, 96, 184, 0, 93, 181, 0, 102, 45, 180, 0, 102]
abbrev dktX8_clear_2 : List UInt8 := dkwX8_clear_2 ++ dktX8_clear_3
def dkwX8_clear_1 : List UInt8 := [4, 167, 0, 4, 3, 5, 182, 0, 52, 153, 0, 5, 3, 172, 42, 180, 0, 16, 27, 182, 0, 78]
abbrev dktX8_clear_1 : List UInt8 := dkwX8_clear_1 ++ dktX8_clear_2
def dkwX8_clear_0 : List UInt8 := [42, 42, 27, 182, 0, 142, 4, 182, 0, 124, 154, 0, 26, 42, 28, 4, 16, 100, 184, 0, 60, 154, 0, 7]
abbrev dktX8_clear_0 : List UInt8 := dkwX8_clear_0 ++ dktX8_clear_1
theorem dksX8_clear_0 : cX8_clear.data.toList.drop 0 = dktX8_clear_0 := by decide +kernel
theorem dksX8_clear_1 : cX8_clear.data.toList.drop 24 = dktX8_clear_1 := dk_seg dksX8_clear_0 24 rfl rfl
theorem dksX8_clear_2 : cX8_clear.data.toList.drop 46 = dktX8_clear_2 := dk_seg dksX8_clear_1 22 rfl rfl
theorem dksX8_clear_3 : cX8_clear.data.toList.drop 70 = dktX8_clear_3 := dk_seg dksX8_clear_2 24 rfl rfl
theorem dX8_clear_0 : decode cX8_clear 0 = .ok (.aload_n 0, 1) := dk_42 (dk_at dksX8_clear_0 0 rfl rfl)
theorem dX8_clear_1 : decode cX8_clear 1 = .ok (.aload_n 0, 1) := dk_42 (dk_at dksX8_clear_0 1 rfl rfl)
theorem dX8_clear_2 : decode cX8_clear 2 = .ok (.iload_n 1, 1) := dk_27 (dk_at dksX8_clear_0 2 rfl rfl)
theorem dX8_clear_3 : decode cX8_clear 3 = .ok (.invokevirtual 142, 3) := dk_182 0 142 (dk_at dksX8_clear_0 3 rfl rfl)
theorem dX8_clear_6 : decode cX8_clear 6 = .ok (.iconst 1, 1) := dk_4 (dk_at dksX8_clear_0 6 rfl rfl)
theorem dX8_clear_7 : decode cX8_clear 7 = .ok (.invokevirtual 124, 3) := dk_182 0 124 (dk_at dksX8_clear_0 7 rfl rfl)
theorem dX8_clear_10 : decode cX8_clear 10 = .ok (.ifCond .ne 26, 3) := dk_154 0 26 (dk_at dksX8_clear_0 10 rfl rfl)
theorem dX8_clear_13 : decode cX8_clear 13 = .ok (.aload_n 0, 1) := dk_42 (dk_at dksX8_clear_0 13 rfl rfl)
theorem dX8_clear_14 : decode cX8_clear 14 = .ok (.iload_n 2, 1) := dk_28 (dk_at dksX8_clear_0 14 rfl rfl)
theorem dX8_clear_15 : decode cX8_clear 15 = .ok (.iconst 1, 1) := dk_4 (dk_at dksX8_clear_0 15 rfl rfl)
theorem dX8_clear_16 : decode cX8_clear 16 = .ok (.bipush 100, 2) := dk_16 100 (dk_at dksX8_clear_0 16 rfl rfl)
theorem dX8_clear_18 : decode cX8_clear 18 = .ok (.invokestatic 60, 3) := dk_184 0 60 (dk_at dksX8_clear_0 18 rfl rfl)
theorem dX8_clear_21 : decode cX8_clear 21 = .ok (.ifCond .ne 7, 3) := dk_154 0 7 (dk_at dksX8_clear_0 21 rfl rfl)
theorem dX8_clear_24 : decode cX8_clear 24 = .ok (.iconst 1, 1) := dk_4 (dk_at dksX8_clear_1 0 rfl rfl)
theorem dX8_clear_25 : decode cX8_clear 25 = .ok (.goto 4, 3) := dk_167 0 4 (dk_at dksX8_clear_1 1 rfl rfl)
theorem dX8_clear_28 : decode cX8_clear 28 = .ok (.iconst 0, 1) := dk_3 (dk_at dksX8_clear_1 4 rfl rfl)
theorem dX8_clear_29 : decode cX8_clear 29 = .ok (.iconst 2, 1) := dk_5 (dk_at dksX8_clear_1 5 rfl rfl)
theorem dX8_clear_30 : decode cX8_clear 30 = .ok (.invokevirtual 52, 3) := dk_182 0 52 (dk_at dksX8_clear_1 6 rfl rfl)
theorem dX8_clear_33 : decode cX8_clear 33 = .ok (.ifCond .eq 5, 3) := dk_153 0 5 (dk_at dksX8_clear_1 9 rfl rfl)
theorem dX8_clear_36 : decode cX8_clear 36 = .ok (.iconst 0, 1) := dk_3 (dk_at dksX8_clear_1 12 rfl rfl)
theorem dX8_clear_37 : decode cX8_clear 37 = .ok (.ireturn, 1) := dk_172 (dk_at dksX8_clear_1 13 rfl rfl)
theorem dX8_clear_38 : decode cX8_clear 38 = .ok (.aload_n 0, 1) := dk_42 (dk_at dksX8_clear_1 14 rfl rfl)
theorem dX8_clear_39 : decode cX8_clear 39 = .ok (.getfield 16, 3) := dk_180 0 16 (dk_at dksX8_clear_1 15 rfl rfl)
theorem dX8_clear_42 : decode cX8_clear 42 = .ok (.iload_n 1, 1) := dk_27 (dk_at dksX8_clear_1 18 rfl rfl)
theorem dX8_clear_43 : decode cX8_clear 43 = .ok (.invokevirtual 78, 3) := dk_182 0 78 (dk_at dksX8_clear_1 19 rfl rfl)
theorem dX8_clear_46 : decode cX8_clear 46 = .ok (.checkcast 68, 3) := dk_192 0 68 (dk_at dksX8_clear_2 0 rfl rfl)
theorem dX8_clear_49 : decode cX8_clear 49 = .ok (.astore_n 3, 1) := dk_78 (dk_at dksX8_clear_2 3 rfl rfl)
theorem dX8_clear_50 : decode cX8_clear 50 = .ok (.aload_n 3, 1) := dk_45 (dk_at dksX8_clear_2 4 rfl rfl)
theorem dX8_clear_51 : decode cX8_clear 51 = .ok (.sipush 600, 3) := dk_17 2 88 (dk_at dksX8_clear_2 5 rfl rfl)
theorem dX8_clear_54 : decode cX8_clear 54 = .ok (.aload_n 3, 1) := dk_45 (dk_at dksX8_clear_2 8 rfl rfl)
theorem dX8_clear_55 : decode cX8_clear 55 = .ok (.getfield 102, 3) := dk_180 0 102 (dk_at dksX8_clear_2 9 rfl rfl)
theorem dX8_clear_58 : decode cX8_clear 58 = .ok (.iload_n 2, 1) := dk_28 (dk_at dksX8_clear_2 12 rfl rfl)
theorem dX8_clear_59 : decode cX8_clear 59 = .ok (.iadd, 1) := dk_96 (dk_at dksX8_clear_2 13 rfl rfl)
theorem dX8_clear_60 : decode cX8_clear 60 = .ok (.invokestatic 93, 3) := dk_184 0 93 (dk_at dksX8_clear_2 14 rfl rfl)
theorem dX8_clear_63 : decode cX8_clear 63 = .ok (.putfield 102, 3) := dk_181 0 102 (dk_at dksX8_clear_2 17 rfl rfl)
theorem dX8_clear_66 : decode cX8_clear 66 = .ok (.aload_n 3, 1) := dk_45 (dk_at dksX8_clear_2 20 rfl rfl)
theorem dX8_clear_67 : decode cX8_clear 67 = .ok (.getfield 102, 3) := dk_180 0 102 (dk_at dksX8_clear_2 21 rfl rfl)
theorem dX8_clear_70 : decode cX8_clear 70 = .ok (.ireturn, 1) := dk_172 (dk_at dksX8_clear_3 0 rfl rfl)
abbrev cX8_isNoVillage : ByteArray := prog_19_method_7_code
def yX8_isNoVillage : MethodName := ⟨RX8, "isNoVillage", "(I)Z"⟩
def dkwX8_isNoVillage_0 : List UInt8 := [27, 3, 42, 180, 0, 16, 182, 0, 56, 4, 100, 184, 0, 60, 154, 0, 7, 4, 167, 0, 4, 3, 172]
abbrev dktX8_isNoVillage_0 : List UInt8 := dkwX8_isNoVillage_0 ++ []
theorem dksX8_isNoVillage_0 : cX8_isNoVillage.data.toList.drop 0 = dktX8_isNoVillage_0 := by decide +kernel
theorem dX8_isNoVillage_0 : decode cX8_isNoVillage 0 = .ok (.iload_n 1, 1) := dk_27 (dk_at dksX8_isNoVillage_0 0 rfl rfl)
theorem dX8_isNoVillage_1 : decode cX8_isNoVillage 1 = .ok (.iconst 0, 1) := dk_3 (dk_at dksX8_isNoVillage_0 1 rfl rfl)
theorem dX8_isNoVillage_2 : decode cX8_isNoVillage 2 = .ok (.aload_n 0, 1) := dk_42 (dk_at dksX8_isNoVillage_0 2 rfl rfl)
theorem dX8_isNoVillage_3 : decode cX8_isNoVillage 3 = .ok (.getfield 16, 3) := dk_180 0 16 (dk_at dksX8_isNoVillage_0 3 rfl rfl)
theorem dX8_isNoVillage_6 : decode cX8_isNoVillage 6 = .ok (.invokevirtual 56, 3) := dk_182 0 56 (dk_at dksX8_isNoVillage_0 6 rfl rfl)
theorem dX8_isNoVillage_9 : decode cX8_isNoVillage 9 = .ok (.iconst 1, 1) := dk_4 (dk_at dksX8_isNoVillage_0 9 rfl rfl)
theorem dX8_isNoVillage_10 : decode cX8_isNoVillage 10 = .ok (.isub, 1) := dk_100 (dk_at dksX8_isNoVillage_0 10 rfl rfl)
theorem dX8_isNoVillage_11 : decode cX8_isNoVillage 11 = .ok (.invokestatic 60, 3) := dk_184 0 60 (dk_at dksX8_isNoVillage_0 11 rfl rfl)
theorem dX8_isNoVillage_14 : decode cX8_isNoVillage 14 = .ok (.ifCond .ne 7, 3) := dk_154 0 7 (dk_at dksX8_isNoVillage_0 14 rfl rfl)
theorem dX8_isNoVillage_17 : decode cX8_isNoVillage 17 = .ok (.iconst 1, 1) := dk_4 (dk_at dksX8_isNoVillage_0 17 rfl rfl)
theorem dX8_isNoVillage_18 : decode cX8_isNoVillage 18 = .ok (.goto 4, 3) := dk_167 0 4 (dk_at dksX8_isNoVillage_0 18 rfl rfl)
theorem dX8_isNoVillage_21 : decode cX8_isNoVillage 21 = .ok (.iconst 0, 1) := dk_3 (dk_at dksX8_isNoVillage_0 21 rfl rfl)
theorem dX8_isNoVillage_22 : decode cX8_isNoVillage 22 = .ok (.ireturn, 1) := dk_172 (dk_at dksX8_isNoVillage_0 22 rfl rfl)
abbrev cX8_survey : ByteArray := prog_19_method_20_code
def yX8_survey : MethodName := ⟨RX8, "survey", "(I)I"⟩
def dkwX8_survey_2 : List UInt8 := [16, 50, 108, 96, 182, 0, 146, 29, 172]
abbrev dktX8_survey_2 : List UInt8 := dkwX8_survey_2 ++ []
def dkwX8_survey_1 : List UInt8 := [192, 0, 68, 77, 44, 180, 0, 131, 62, 44, 44, 180, 0, 102, 181, 0, 131, 42, 5, 44, 180, 0, 102]
abbrev dktX8_survey_1 : List UInt8 := dkwX8_survey_1 ++ dktX8_survey_2
def dkwX8_survey_0 : List UInt8 := [42, 42, 27, 182, 0, 142, 4, 182, 0, 124, 153, 0, 5, 3, 172, 42, 180, 0, 16, 27, 182, 0, 78]
abbrev dktX8_survey_0 : List UInt8 := dkwX8_survey_0 ++ dktX8_survey_1
theorem dksX8_survey_0 : cX8_survey.data.toList.drop 0 = dktX8_survey_0 := by decide +kernel
theorem dksX8_survey_1 : cX8_survey.data.toList.drop 23 = dktX8_survey_1 := dk_seg dksX8_survey_0 23 rfl rfl
theorem dksX8_survey_2 : cX8_survey.data.toList.drop 46 = dktX8_survey_2 := dk_seg dksX8_survey_1 23 rfl rfl
theorem dX8_survey_0 : decode cX8_survey 0 = .ok (.aload_n 0, 1) := dk_42 (dk_at dksX8_survey_0 0 rfl rfl)
theorem dX8_survey_1 : decode cX8_survey 1 = .ok (.aload_n 0, 1) := dk_42 (dk_at dksX8_survey_0 1 rfl rfl)
theorem dX8_survey_2 : decode cX8_survey 2 = .ok (.iload_n 1, 1) := dk_27 (dk_at dksX8_survey_0 2 rfl rfl)
theorem dX8_survey_3 : decode cX8_survey 3 = .ok (.invokevirtual 142, 3) := dk_182 0 142 (dk_at dksX8_survey_0 3 rfl rfl)
theorem dX8_survey_6 : decode cX8_survey 6 = .ok (.iconst 1, 1) := dk_4 (dk_at dksX8_survey_0 6 rfl rfl)
theorem dX8_survey_7 : decode cX8_survey 7 = .ok (.invokevirtual 124, 3) := dk_182 0 124 (dk_at dksX8_survey_0 7 rfl rfl)
theorem dX8_survey_10 : decode cX8_survey 10 = .ok (.ifCond .eq 5, 3) := dk_153 0 5 (dk_at dksX8_survey_0 10 rfl rfl)
theorem dX8_survey_13 : decode cX8_survey 13 = .ok (.iconst 0, 1) := dk_3 (dk_at dksX8_survey_0 13 rfl rfl)
theorem dX8_survey_14 : decode cX8_survey 14 = .ok (.ireturn, 1) := dk_172 (dk_at dksX8_survey_0 14 rfl rfl)
theorem dX8_survey_15 : decode cX8_survey 15 = .ok (.aload_n 0, 1) := dk_42 (dk_at dksX8_survey_0 15 rfl rfl)
theorem dX8_survey_16 : decode cX8_survey 16 = .ok (.getfield 16, 3) := dk_180 0 16 (dk_at dksX8_survey_0 16 rfl rfl)
theorem dX8_survey_19 : decode cX8_survey 19 = .ok (.iload_n 1, 1) := dk_27 (dk_at dksX8_survey_0 19 rfl rfl)
theorem dX8_survey_20 : decode cX8_survey 20 = .ok (.invokevirtual 78, 3) := dk_182 0 78 (dk_at dksX8_survey_0 20 rfl rfl)
theorem dX8_survey_23 : decode cX8_survey 23 = .ok (.checkcast 68, 3) := dk_192 0 68 (dk_at dksX8_survey_1 0 rfl rfl)
theorem dX8_survey_26 : decode cX8_survey 26 = .ok (.astore_n 2, 1) := dk_77 (dk_at dksX8_survey_1 3 rfl rfl)
theorem dX8_survey_27 : decode cX8_survey 27 = .ok (.aload_n 2, 1) := dk_44 (dk_at dksX8_survey_1 4 rfl rfl)
theorem dX8_survey_28 : decode cX8_survey 28 = .ok (.getfield 131, 3) := dk_180 0 131 (dk_at dksX8_survey_1 5 rfl rfl)
theorem dX8_survey_31 : decode cX8_survey 31 = .ok (.istore_n 3, 1) := dk_62 (dk_at dksX8_survey_1 8 rfl rfl)
theorem dX8_survey_32 : decode cX8_survey 32 = .ok (.aload_n 2, 1) := dk_44 (dk_at dksX8_survey_1 9 rfl rfl)
theorem dX8_survey_33 : decode cX8_survey 33 = .ok (.aload_n 2, 1) := dk_44 (dk_at dksX8_survey_1 10 rfl rfl)
theorem dX8_survey_34 : decode cX8_survey 34 = .ok (.getfield 102, 3) := dk_180 0 102 (dk_at dksX8_survey_1 11 rfl rfl)
theorem dX8_survey_37 : decode cX8_survey 37 = .ok (.putfield 131, 3) := dk_181 0 131 (dk_at dksX8_survey_1 14 rfl rfl)
theorem dX8_survey_40 : decode cX8_survey 40 = .ok (.aload_n 0, 1) := dk_42 (dk_at dksX8_survey_1 17 rfl rfl)
theorem dX8_survey_41 : decode cX8_survey 41 = .ok (.iconst 2, 1) := dk_5 (dk_at dksX8_survey_1 18 rfl rfl)
theorem dX8_survey_42 : decode cX8_survey 42 = .ok (.aload_n 2, 1) := dk_44 (dk_at dksX8_survey_1 19 rfl rfl)
theorem dX8_survey_43 : decode cX8_survey 43 = .ok (.getfield 102, 3) := dk_180 0 102 (dk_at dksX8_survey_1 20 rfl rfl)
theorem dX8_survey_46 : decode cX8_survey 46 = .ok (.bipush 50, 2) := dk_16 50 (dk_at dksX8_survey_2 0 rfl rfl)
theorem dX8_survey_48 : decode cX8_survey 48 = .ok (.idiv, 1) := dk_108 (dk_at dksX8_survey_2 2 rfl rfl)
theorem dX8_survey_49 : decode cX8_survey 49 = .ok (.iadd, 1) := dk_96 (dk_at dksX8_survey_2 3 rfl rfl)
theorem dX8_survey_50 : decode cX8_survey 50 = .ok (.invokevirtual 146, 3) := dk_182 0 146 (dk_at dksX8_survey_2 4 rfl rfl)
theorem dX8_survey_53 : decode cX8_survey 53 = .ok (.iload_n 3, 1) := dk_29 (dk_at dksX8_survey_2 7 rfl rfl)
theorem dX8_survey_54 : decode cX8_survey 54 = .ok (.ireturn, 1) := dk_172 (dk_at dksX8_survey_2 8 rfl rfl)
abbrev cX8_treasuryPays : ByteArray := prog_19_method_17_code
def yX8_treasuryPays : MethodName := ⟨RX8, "treasuryPays", "(I)V"⟩
def dkwX8_treasuryPays_1 : List UInt8 := [28, 96, 181, 0, 121, 177]
abbrev dktX8_treasuryPays_1 : List UInt8 := dkwX8_treasuryPays_1 ++ []
def dkwX8_treasuryPays_0 : List UInt8 := [42, 180, 0, 118, 27, 184, 0, 93, 61, 42, 89, 180, 0, 118, 28, 100, 181, 0, 118, 42, 89, 180, 0, 121]
abbrev dktX8_treasuryPays_0 : List UInt8 := dkwX8_treasuryPays_0 ++ dktX8_treasuryPays_1
theorem dksX8_treasuryPays_0 : cX8_treasuryPays.data.toList.drop 0 = dktX8_treasuryPays_0 := by decide +kernel
theorem dksX8_treasuryPays_1 : cX8_treasuryPays.data.toList.drop 24 = dktX8_treasuryPays_1 := dk_seg dksX8_treasuryPays_0 24 rfl rfl
theorem dX8_treasuryPays_0 : decode cX8_treasuryPays 0 = .ok (.aload_n 0, 1) := dk_42 (dk_at dksX8_treasuryPays_0 0 rfl rfl)
theorem dX8_treasuryPays_1 : decode cX8_treasuryPays 1 = .ok (.getfield 118, 3) := dk_180 0 118 (dk_at dksX8_treasuryPays_0 1 rfl rfl)
theorem dX8_treasuryPays_4 : decode cX8_treasuryPays 4 = .ok (.iload_n 1, 1) := dk_27 (dk_at dksX8_treasuryPays_0 4 rfl rfl)
theorem dX8_treasuryPays_5 : decode cX8_treasuryPays 5 = .ok (.invokestatic 93, 3) := dk_184 0 93 (dk_at dksX8_treasuryPays_0 5 rfl rfl)
theorem dX8_treasuryPays_8 : decode cX8_treasuryPays 8 = .ok (.istore_n 2, 1) := dk_61 (dk_at dksX8_treasuryPays_0 8 rfl rfl)
theorem dX8_treasuryPays_9 : decode cX8_treasuryPays 9 = .ok (.aload_n 0, 1) := dk_42 (dk_at dksX8_treasuryPays_0 9 rfl rfl)
theorem dX8_treasuryPays_10 : decode cX8_treasuryPays 10 = .ok (.dup, 1) := dk_89 (dk_at dksX8_treasuryPays_0 10 rfl rfl)
theorem dX8_treasuryPays_11 : decode cX8_treasuryPays 11 = .ok (.getfield 118, 3) := dk_180 0 118 (dk_at dksX8_treasuryPays_0 11 rfl rfl)
theorem dX8_treasuryPays_14 : decode cX8_treasuryPays 14 = .ok (.iload_n 2, 1) := dk_28 (dk_at dksX8_treasuryPays_0 14 rfl rfl)
theorem dX8_treasuryPays_15 : decode cX8_treasuryPays 15 = .ok (.isub, 1) := dk_100 (dk_at dksX8_treasuryPays_0 15 rfl rfl)
theorem dX8_treasuryPays_16 : decode cX8_treasuryPays 16 = .ok (.putfield 118, 3) := dk_181 0 118 (dk_at dksX8_treasuryPays_0 16 rfl rfl)
theorem dX8_treasuryPays_19 : decode cX8_treasuryPays 19 = .ok (.aload_n 0, 1) := dk_42 (dk_at dksX8_treasuryPays_0 19 rfl rfl)
theorem dX8_treasuryPays_20 : decode cX8_treasuryPays 20 = .ok (.dup, 1) := dk_89 (dk_at dksX8_treasuryPays_0 20 rfl rfl)
theorem dX8_treasuryPays_21 : decode cX8_treasuryPays 21 = .ok (.getfield 121, 3) := dk_180 0 121 (dk_at dksX8_treasuryPays_0 21 rfl rfl)
theorem dX8_treasuryPays_24 : decode cX8_treasuryPays 24 = .ok (.iload_n 2, 1) := dk_28 (dk_at dksX8_treasuryPays_1 0 rfl rfl)
theorem dX8_treasuryPays_25 : decode cX8_treasuryPays 25 = .ok (.iadd, 1) := dk_96 (dk_at dksX8_treasuryPays_1 1 rfl rfl)
theorem dX8_treasuryPays_26 : decode cX8_treasuryPays 26 = .ok (.putfield 121, 3) := dk_181 0 121 (dk_at dksX8_treasuryPays_1 2 rfl rfl)
theorem dX8_treasuryPays_29 : decode cX8_treasuryPays 29 = .ok (.return_, 1) := dk_177 (dk_at dksX8_treasuryPays_1 5 rfl rfl)
abbrev cX8_war : ByteArray := prog_19_method_21_code
def yX8_war : MethodName := ⟨RX8, "war", "(I)I"⟩
def dkwX8_war_4 : List UInt8 := [132, 3, 1, 167, 255, 193, 28, 172]
abbrev dktX8_war_4 : List UInt8 := dkwX8_war_4 ++ []
def dkwX8_war_3 : List UInt8 := [42, 180, 0, 16, 29, 182, 0, 78, 192, 0, 68, 180, 0, 108, 153, 0, 7, 4, 167, 0, 4, 3, 96, 61]
abbrev dktX8_war_3 : List UInt8 := dkwX8_war_3 ++ dktX8_war_4
def dkwX8_war_2 : List UInt8 := [180, 0, 16, 29, 182, 0, 78, 192, 0, 68, 89, 180, 0, 108, 27, 29, 184, 0, 82, 128, 181, 0, 108, 28]
abbrev dktX8_war_2 : List UInt8 := dkwX8_war_2 ++ dktX8_war_3
def dkwX8_war_1 : List UInt8 := [182, 0, 124, 153, 0, 5, 3, 172, 3, 61, 3, 62, 29, 42, 180, 0, 16, 182, 0, 56, 162, 0, 58, 42]
abbrev dktX8_war_1 : List UInt8 := dkwX8_war_1 ++ dktX8_war_2
def dkwX8_war_0 : List UInt8 := [42, 27, 155, 0, 15, 27, 42, 180, 0, 16, 182, 0, 56, 122, 153, 0, 7, 4, 167, 0, 4, 3, 4]
abbrev dktX8_war_0 : List UInt8 := dkwX8_war_0 ++ dktX8_war_1
theorem dksX8_war_0 : cX8_war.data.toList.drop 0 = dktX8_war_0 := by decide +kernel
theorem dksX8_war_1 : cX8_war.data.toList.drop 23 = dktX8_war_1 := dk_seg dksX8_war_0 23 rfl rfl
theorem dksX8_war_2 : cX8_war.data.toList.drop 47 = dktX8_war_2 := dk_seg dksX8_war_1 24 rfl rfl
theorem dksX8_war_3 : cX8_war.data.toList.drop 71 = dktX8_war_3 := dk_seg dksX8_war_2 24 rfl rfl
theorem dksX8_war_4 : cX8_war.data.toList.drop 95 = dktX8_war_4 := dk_seg dksX8_war_3 24 rfl rfl
theorem dX8_war_0 : decode cX8_war 0 = .ok (.aload_n 0, 1) := dk_42 (dk_at dksX8_war_0 0 rfl rfl)
theorem dX8_war_1 : decode cX8_war 1 = .ok (.iload_n 1, 1) := dk_27 (dk_at dksX8_war_0 1 rfl rfl)
theorem dX8_war_2 : decode cX8_war 2 = .ok (.ifCond .lt 15, 3) := dk_155 0 15 (dk_at dksX8_war_0 2 rfl rfl)
theorem dX8_war_5 : decode cX8_war 5 = .ok (.iload_n 1, 1) := dk_27 (dk_at dksX8_war_0 5 rfl rfl)
theorem dX8_war_6 : decode cX8_war 6 = .ok (.aload_n 0, 1) := dk_42 (dk_at dksX8_war_0 6 rfl rfl)
theorem dX8_war_7 : decode cX8_war 7 = .ok (.getfield 16, 3) := dk_180 0 16 (dk_at dksX8_war_0 7 rfl rfl)
theorem dX8_war_10 : decode cX8_war 10 = .ok (.invokevirtual 56, 3) := dk_182 0 56 (dk_at dksX8_war_0 10 rfl rfl)
theorem dX8_war_13 : decode cX8_war 13 = .ok (.ishr, 1) := dk_122 (dk_at dksX8_war_0 13 rfl rfl)
theorem dX8_war_14 : decode cX8_war 14 = .ok (.ifCond .eq 7, 3) := dk_153 0 7 (dk_at dksX8_war_0 14 rfl rfl)
theorem dX8_war_17 : decode cX8_war 17 = .ok (.iconst 1, 1) := dk_4 (dk_at dksX8_war_0 17 rfl rfl)
theorem dX8_war_18 : decode cX8_war 18 = .ok (.goto 4, 3) := dk_167 0 4 (dk_at dksX8_war_0 18 rfl rfl)
theorem dX8_war_21 : decode cX8_war 21 = .ok (.iconst 0, 1) := dk_3 (dk_at dksX8_war_0 21 rfl rfl)
theorem dX8_war_22 : decode cX8_war 22 = .ok (.iconst 1, 1) := dk_4 (dk_at dksX8_war_0 22 rfl rfl)
theorem dX8_war_23 : decode cX8_war 23 = .ok (.invokevirtual 124, 3) := dk_182 0 124 (dk_at dksX8_war_1 0 rfl rfl)
theorem dX8_war_26 : decode cX8_war 26 = .ok (.ifCond .eq 5, 3) := dk_153 0 5 (dk_at dksX8_war_1 3 rfl rfl)
theorem dX8_war_29 : decode cX8_war 29 = .ok (.iconst 0, 1) := dk_3 (dk_at dksX8_war_1 6 rfl rfl)
theorem dX8_war_30 : decode cX8_war 30 = .ok (.ireturn, 1) := dk_172 (dk_at dksX8_war_1 7 rfl rfl)
theorem dX8_war_31 : decode cX8_war 31 = .ok (.iconst 0, 1) := dk_3 (dk_at dksX8_war_1 8 rfl rfl)
theorem dX8_war_32 : decode cX8_war 32 = .ok (.istore_n 2, 1) := dk_61 (dk_at dksX8_war_1 9 rfl rfl)
theorem dX8_war_33 : decode cX8_war 33 = .ok (.iconst 0, 1) := dk_3 (dk_at dksX8_war_1 10 rfl rfl)
theorem dX8_war_34 : decode cX8_war 34 = .ok (.istore_n 3, 1) := dk_62 (dk_at dksX8_war_1 11 rfl rfl)
theorem dX8_war_35 : decode cX8_war 35 = .ok (.iload_n 3, 1) := dk_29 (dk_at dksX8_war_1 12 rfl rfl)
theorem dX8_war_36 : decode cX8_war 36 = .ok (.aload_n 0, 1) := dk_42 (dk_at dksX8_war_1 13 rfl rfl)
theorem dX8_war_37 : decode cX8_war 37 = .ok (.getfield 16, 3) := dk_180 0 16 (dk_at dksX8_war_1 14 rfl rfl)
theorem dX8_war_40 : decode cX8_war 40 = .ok (.invokevirtual 56, 3) := dk_182 0 56 (dk_at dksX8_war_1 17 rfl rfl)
theorem dX8_war_43 : decode cX8_war 43 = .ok (.if_icmp .ge 58, 3) := dk_162 0 58 (dk_at dksX8_war_1 20 rfl rfl)
theorem dX8_war_46 : decode cX8_war 46 = .ok (.aload_n 0, 1) := dk_42 (dk_at dksX8_war_1 23 rfl rfl)
theorem dX8_war_47 : decode cX8_war 47 = .ok (.getfield 16, 3) := dk_180 0 16 (dk_at dksX8_war_2 0 rfl rfl)
theorem dX8_war_50 : decode cX8_war 50 = .ok (.iload_n 3, 1) := dk_29 (dk_at dksX8_war_2 3 rfl rfl)
theorem dX8_war_51 : decode cX8_war 51 = .ok (.invokevirtual 78, 3) := dk_182 0 78 (dk_at dksX8_war_2 4 rfl rfl)
theorem dX8_war_54 : decode cX8_war 54 = .ok (.checkcast 68, 3) := dk_192 0 68 (dk_at dksX8_war_2 7 rfl rfl)
theorem dX8_war_57 : decode cX8_war 57 = .ok (.dup, 1) := dk_89 (dk_at dksX8_war_2 10 rfl rfl)
theorem dX8_war_58 : decode cX8_war 58 = .ok (.getfield 108, 3) := dk_180 0 108 (dk_at dksX8_war_2 11 rfl rfl)
theorem dX8_war_61 : decode cX8_war 61 = .ok (.iload_n 1, 1) := dk_27 (dk_at dksX8_war_2 14 rfl rfl)
theorem dX8_war_62 : decode cX8_war 62 = .ok (.iload_n 3, 1) := dk_29 (dk_at dksX8_war_2 15 rfl rfl)
theorem dX8_war_63 : decode cX8_war 63 = .ok (.invokestatic 82, 3) := dk_184 0 82 (dk_at dksX8_war_2 16 rfl rfl)
theorem dX8_war_66 : decode cX8_war 66 = .ok (.ior, 1) := dk_128 (dk_at dksX8_war_2 19 rfl rfl)
theorem dX8_war_67 : decode cX8_war 67 = .ok (.putfield 108, 3) := dk_181 0 108 (dk_at dksX8_war_2 20 rfl rfl)
theorem dX8_war_70 : decode cX8_war 70 = .ok (.iload_n 2, 1) := dk_28 (dk_at dksX8_war_2 23 rfl rfl)
theorem dX8_war_71 : decode cX8_war 71 = .ok (.aload_n 0, 1) := dk_42 (dk_at dksX8_war_3 0 rfl rfl)
theorem dX8_war_72 : decode cX8_war 72 = .ok (.getfield 16, 3) := dk_180 0 16 (dk_at dksX8_war_3 1 rfl rfl)
theorem dX8_war_75 : decode cX8_war 75 = .ok (.iload_n 3, 1) := dk_29 (dk_at dksX8_war_3 4 rfl rfl)
theorem dX8_war_76 : decode cX8_war 76 = .ok (.invokevirtual 78, 3) := dk_182 0 78 (dk_at dksX8_war_3 5 rfl rfl)
theorem dX8_war_79 : decode cX8_war 79 = .ok (.checkcast 68, 3) := dk_192 0 68 (dk_at dksX8_war_3 8 rfl rfl)
theorem dX8_war_82 : decode cX8_war 82 = .ok (.getfield 108, 3) := dk_180 0 108 (dk_at dksX8_war_3 11 rfl rfl)
theorem dX8_war_85 : decode cX8_war 85 = .ok (.ifCond .eq 7, 3) := dk_153 0 7 (dk_at dksX8_war_3 14 rfl rfl)
theorem dX8_war_88 : decode cX8_war 88 = .ok (.iconst 1, 1) := dk_4 (dk_at dksX8_war_3 17 rfl rfl)
theorem dX8_war_89 : decode cX8_war 89 = .ok (.goto 4, 3) := dk_167 0 4 (dk_at dksX8_war_3 18 rfl rfl)
theorem dX8_war_92 : decode cX8_war 92 = .ok (.iconst 0, 1) := dk_3 (dk_at dksX8_war_3 21 rfl rfl)
theorem dX8_war_93 : decode cX8_war 93 = .ok (.iadd, 1) := dk_96 (dk_at dksX8_war_3 22 rfl rfl)
theorem dX8_war_94 : decode cX8_war 94 = .ok (.istore_n 2, 1) := dk_61 (dk_at dksX8_war_3 23 rfl rfl)
theorem dX8_war_95 : decode cX8_war 95 = .ok (.iinc 3 1, 3) := dk_132 3 1 (dk_at dksX8_war_4 0 rfl rfl)
theorem dX8_war_98 : decode cX8_war 98 = .ok (.goto (-63), 3) := dk_167 255 193 (dk_at dksX8_war_4 3 rfl rfl)
theorem dX8_war_101 : decode cX8_war 101 = .ok (.iload_n 2, 1) := dk_28 (dk_at dksX8_war_4 6 rfl rfl)
theorem dX8_war_102 : decode cX8_war 102 = .ok (.ireturn, 1) := dk_172 (dk_at dksX8_war_4 7 rfl rfl)
abbrev cX8_edict : ByteArray := prog_19_method_22_code
def yX8_edict : MethodName := ⟨RX8, "edict", "(III)I"⟩
def dkwX8_edict_3 : List UInt8 := [42, 180, 0, 33, 27, 28, 79, 42, 180, 0, 36, 27, 29, 79, 42, 180, 0, 112, 4, 96, 172]
abbrev dktX8_edict_3 : List UInt8 := dkwX8_edict_3 ++ []
def dkwX8_edict_2 : List UInt8 := [3, 17, 0, 255, 184, 0, 60, 154, 0, 7, 4, 167, 0, 4, 3, 5, 182, 0, 52, 153, 0, 5, 3, 172]
abbrev dktX8_edict_2 : List UInt8 := dkwX8_edict_2 ++ dktX8_edict_3
def dkwX8_edict_1 : List UInt8 := [42, 27, 184, 0, 149, 4, 182, 0, 124, 154, 0, 37, 42, 28, 3, 21, 4, 184, 0, 60, 153, 0, 14, 29]
abbrev dktX8_edict_1 : List UInt8 := dkwX8_edict_1 ++ dktX8_edict_2
def dkwX8_edict_0 : List UInt8 := [27, 154, 0, 9, 17, 1, 44, 167, 0, 15, 27, 4, 160, 0, 8, 16, 60, 167, 0, 5, 16, 9, 54, 4]
abbrev dktX8_edict_0 : List UInt8 := dkwX8_edict_0 ++ dktX8_edict_1
theorem dksX8_edict_0 : cX8_edict.data.toList.drop 0 = dktX8_edict_0 := by decide +kernel
theorem dksX8_edict_1 : cX8_edict.data.toList.drop 24 = dktX8_edict_1 := dk_seg dksX8_edict_0 24 rfl rfl
theorem dksX8_edict_2 : cX8_edict.data.toList.drop 48 = dktX8_edict_2 := dk_seg dksX8_edict_1 24 rfl rfl
theorem dksX8_edict_3 : cX8_edict.data.toList.drop 72 = dktX8_edict_3 := dk_seg dksX8_edict_2 24 rfl rfl
theorem dX8_edict_0 : decode cX8_edict 0 = .ok (.iload_n 1, 1) := dk_27 (dk_at dksX8_edict_0 0 rfl rfl)
theorem dX8_edict_1 : decode cX8_edict 1 = .ok (.ifCond .ne 9, 3) := dk_154 0 9 (dk_at dksX8_edict_0 1 rfl rfl)
theorem dX8_edict_4 : decode cX8_edict 4 = .ok (.sipush 300, 3) := dk_17 1 44 (dk_at dksX8_edict_0 4 rfl rfl)
theorem dX8_edict_7 : decode cX8_edict 7 = .ok (.goto 15, 3) := dk_167 0 15 (dk_at dksX8_edict_0 7 rfl rfl)
theorem dX8_edict_10 : decode cX8_edict 10 = .ok (.iload_n 1, 1) := dk_27 (dk_at dksX8_edict_0 10 rfl rfl)
theorem dX8_edict_11 : decode cX8_edict 11 = .ok (.iconst 1, 1) := dk_4 (dk_at dksX8_edict_0 11 rfl rfl)
theorem dX8_edict_12 : decode cX8_edict 12 = .ok (.if_icmp .ne 8, 3) := dk_160 0 8 (dk_at dksX8_edict_0 12 rfl rfl)
theorem dX8_edict_15 : decode cX8_edict 15 = .ok (.bipush 60, 2) := dk_16 60 (dk_at dksX8_edict_0 15 rfl rfl)
theorem dX8_edict_17 : decode cX8_edict 17 = .ok (.goto 5, 3) := dk_167 0 5 (dk_at dksX8_edict_0 17 rfl rfl)
theorem dX8_edict_20 : decode cX8_edict 20 = .ok (.bipush 9, 2) := dk_16 9 (dk_at dksX8_edict_0 20 rfl rfl)
theorem dX8_edict_22 : decode cX8_edict 22 = .ok (.istore 4, 2) := dk_54 4 (dk_at dksX8_edict_0 22 rfl rfl)
theorem dX8_edict_24 : decode cX8_edict 24 = .ok (.aload_n 0, 1) := dk_42 (dk_at dksX8_edict_1 0 rfl rfl)
theorem dX8_edict_25 : decode cX8_edict 25 = .ok (.iload_n 1, 1) := dk_27 (dk_at dksX8_edict_1 1 rfl rfl)
theorem dX8_edict_26 : decode cX8_edict 26 = .ok (.invokestatic 149, 3) := dk_184 0 149 (dk_at dksX8_edict_1 2 rfl rfl)
theorem dX8_edict_29 : decode cX8_edict 29 = .ok (.iconst 1, 1) := dk_4 (dk_at dksX8_edict_1 5 rfl rfl)
theorem dX8_edict_30 : decode cX8_edict 30 = .ok (.invokevirtual 124, 3) := dk_182 0 124 (dk_at dksX8_edict_1 6 rfl rfl)
theorem dX8_edict_33 : decode cX8_edict 33 = .ok (.ifCond .ne 37, 3) := dk_154 0 37 (dk_at dksX8_edict_1 9 rfl rfl)
theorem dX8_edict_36 : decode cX8_edict 36 = .ok (.aload_n 0, 1) := dk_42 (dk_at dksX8_edict_1 12 rfl rfl)
theorem dX8_edict_37 : decode cX8_edict 37 = .ok (.iload_n 2, 1) := dk_28 (dk_at dksX8_edict_1 13 rfl rfl)
theorem dX8_edict_38 : decode cX8_edict 38 = .ok (.iconst 0, 1) := dk_3 (dk_at dksX8_edict_1 14 rfl rfl)
theorem dX8_edict_39 : decode cX8_edict 39 = .ok (.iload 4, 2) := dk_21 4 (dk_at dksX8_edict_1 15 rfl rfl)
theorem dX8_edict_41 : decode cX8_edict 41 = .ok (.invokestatic 60, 3) := dk_184 0 60 (dk_at dksX8_edict_1 17 rfl rfl)
theorem dX8_edict_44 : decode cX8_edict 44 = .ok (.ifCond .eq 14, 3) := dk_153 0 14 (dk_at dksX8_edict_1 20 rfl rfl)
theorem dX8_edict_47 : decode cX8_edict 47 = .ok (.iload_n 3, 1) := dk_29 (dk_at dksX8_edict_1 23 rfl rfl)
theorem dX8_edict_48 : decode cX8_edict 48 = .ok (.iconst 0, 1) := dk_3 (dk_at dksX8_edict_2 0 rfl rfl)
theorem dX8_edict_49 : decode cX8_edict 49 = .ok (.sipush 255, 3) := dk_17 0 255 (dk_at dksX8_edict_2 1 rfl rfl)
theorem dX8_edict_52 : decode cX8_edict 52 = .ok (.invokestatic 60, 3) := dk_184 0 60 (dk_at dksX8_edict_2 4 rfl rfl)
theorem dX8_edict_55 : decode cX8_edict 55 = .ok (.ifCond .ne 7, 3) := dk_154 0 7 (dk_at dksX8_edict_2 7 rfl rfl)
theorem dX8_edict_58 : decode cX8_edict 58 = .ok (.iconst 1, 1) := dk_4 (dk_at dksX8_edict_2 10 rfl rfl)
theorem dX8_edict_59 : decode cX8_edict 59 = .ok (.goto 4, 3) := dk_167 0 4 (dk_at dksX8_edict_2 11 rfl rfl)
theorem dX8_edict_62 : decode cX8_edict 62 = .ok (.iconst 0, 1) := dk_3 (dk_at dksX8_edict_2 14 rfl rfl)
theorem dX8_edict_63 : decode cX8_edict 63 = .ok (.iconst 2, 1) := dk_5 (dk_at dksX8_edict_2 15 rfl rfl)
theorem dX8_edict_64 : decode cX8_edict 64 = .ok (.invokevirtual 52, 3) := dk_182 0 52 (dk_at dksX8_edict_2 16 rfl rfl)
theorem dX8_edict_67 : decode cX8_edict 67 = .ok (.ifCond .eq 5, 3) := dk_153 0 5 (dk_at dksX8_edict_2 19 rfl rfl)
theorem dX8_edict_70 : decode cX8_edict 70 = .ok (.iconst 0, 1) := dk_3 (dk_at dksX8_edict_2 22 rfl rfl)
theorem dX8_edict_71 : decode cX8_edict 71 = .ok (.ireturn, 1) := dk_172 (dk_at dksX8_edict_2 23 rfl rfl)
theorem dX8_edict_72 : decode cX8_edict 72 = .ok (.aload_n 0, 1) := dk_42 (dk_at dksX8_edict_3 0 rfl rfl)
theorem dX8_edict_73 : decode cX8_edict 73 = .ok (.getfield 33, 3) := dk_180 0 33 (dk_at dksX8_edict_3 1 rfl rfl)
theorem dX8_edict_76 : decode cX8_edict 76 = .ok (.iload_n 1, 1) := dk_27 (dk_at dksX8_edict_3 4 rfl rfl)
theorem dX8_edict_77 : decode cX8_edict 77 = .ok (.iload_n 2, 1) := dk_28 (dk_at dksX8_edict_3 5 rfl rfl)
theorem dX8_edict_78 : decode cX8_edict 78 = .ok (.iastore, 1) := dk_79 (dk_at dksX8_edict_3 6 rfl rfl)
theorem dX8_edict_79 : decode cX8_edict 79 = .ok (.aload_n 0, 1) := dk_42 (dk_at dksX8_edict_3 7 rfl rfl)
theorem dX8_edict_80 : decode cX8_edict 80 = .ok (.getfield 36, 3) := dk_180 0 36 (dk_at dksX8_edict_3 8 rfl rfl)
theorem dX8_edict_83 : decode cX8_edict 83 = .ok (.iload_n 1, 1) := dk_27 (dk_at dksX8_edict_3 11 rfl rfl)
theorem dX8_edict_84 : decode cX8_edict 84 = .ok (.iload_n 3, 1) := dk_29 (dk_at dksX8_edict_3 12 rfl rfl)
theorem dX8_edict_85 : decode cX8_edict 85 = .ok (.iastore, 1) := dk_79 (dk_at dksX8_edict_3 13 rfl rfl)
theorem dX8_edict_86 : decode cX8_edict 86 = .ok (.aload_n 0, 1) := dk_42 (dk_at dksX8_edict_3 14 rfl rfl)
theorem dX8_edict_87 : decode cX8_edict 87 = .ok (.getfield 112, 3) := dk_180 0 112 (dk_at dksX8_edict_3 15 rfl rfl)
theorem dX8_edict_90 : decode cX8_edict 90 = .ok (.iconst 1, 1) := dk_4 (dk_at dksX8_edict_3 18 rfl rfl)
theorem dX8_edict_91 : decode cX8_edict 91 = .ok (.iadd, 1) := dk_96 (dk_at dksX8_edict_3 19 rfl rfl)
theorem dX8_edict_92 : decode cX8_edict 92 = .ok (.ireturn, 1) := dk_172 (dk_at dksX8_edict_3 20 rfl rfl)
abbrev cX8_isNoDuty : ByteArray := prog_19_method_10_code
def yX8_isNoDuty : MethodName := ⟨RX8, "isNoDuty", "(I)Z"⟩
def dkwX8_isNoDuty_0 : List UInt8 := [26, 3, 5, 184, 0, 60, 154, 0, 7, 4, 167, 0, 4, 3, 172]
abbrev dktX8_isNoDuty_0 : List UInt8 := dkwX8_isNoDuty_0 ++ []
theorem dksX8_isNoDuty_0 : cX8_isNoDuty.data.toList.drop 0 = dktX8_isNoDuty_0 := by decide +kernel
theorem dX8_isNoDuty_0 : decode cX8_isNoDuty 0 = .ok (.iload_n 0, 1) := dk_26 (dk_at dksX8_isNoDuty_0 0 rfl rfl)
theorem dX8_isNoDuty_1 : decode cX8_isNoDuty 1 = .ok (.iconst 0, 1) := dk_3 (dk_at dksX8_isNoDuty_0 1 rfl rfl)
theorem dX8_isNoDuty_2 : decode cX8_isNoDuty 2 = .ok (.iconst 2, 1) := dk_5 (dk_at dksX8_isNoDuty_0 2 rfl rfl)
theorem dX8_isNoDuty_3 : decode cX8_isNoDuty 3 = .ok (.invokestatic 60, 3) := dk_184 0 60 (dk_at dksX8_isNoDuty_0 3 rfl rfl)
theorem dX8_isNoDuty_6 : decode cX8_isNoDuty 6 = .ok (.ifCond .ne 7, 3) := dk_154 0 7 (dk_at dksX8_isNoDuty_0 6 rfl rfl)
theorem dX8_isNoDuty_9 : decode cX8_isNoDuty 9 = .ok (.iconst 1, 1) := dk_4 (dk_at dksX8_isNoDuty_0 9 rfl rfl)
theorem dX8_isNoDuty_10 : decode cX8_isNoDuty 10 = .ok (.goto 4, 3) := dk_167 0 4 (dk_at dksX8_isNoDuty_0 10 rfl rfl)
theorem dX8_isNoDuty_13 : decode cX8_isNoDuty 13 = .ok (.iconst 0, 1) := dk_3 (dk_at dksX8_isNoDuty_0 13 rfl rfl)
theorem dX8_isNoDuty_14 : decode cX8_isNoDuty 14 = .ok (.ireturn, 1) := dk_172 (dk_at dksX8_isNoDuty_0 14 rfl rfl)
abbrev cX8_cut : ByteArray := prog_19_method_23_code
def yX8_cut : MethodName := ⟨RX8, "cut", "(I)I"⟩
def dkwX8_cut_1 : List UInt8 := [192, 0, 68, 180, 0, 115, 61, 42, 27, 182, 0, 138, 42, 6, 182, 0, 146, 28, 172]
abbrev dktX8_cut_1 : List UInt8 := dkwX8_cut_1 ++ []
def dkwX8_cut_0 : List UInt8 := [42, 42, 27, 182, 0, 142, 4, 182, 0, 124, 153, 0, 5, 3, 172, 42, 180, 0, 16, 27, 182, 0, 78]
abbrev dktX8_cut_0 : List UInt8 := dkwX8_cut_0 ++ dktX8_cut_1
theorem dksX8_cut_0 : cX8_cut.data.toList.drop 0 = dktX8_cut_0 := by decide +kernel
theorem dksX8_cut_1 : cX8_cut.data.toList.drop 23 = dktX8_cut_1 := dk_seg dksX8_cut_0 23 rfl rfl
theorem dX8_cut_0 : decode cX8_cut 0 = .ok (.aload_n 0, 1) := dk_42 (dk_at dksX8_cut_0 0 rfl rfl)
theorem dX8_cut_1 : decode cX8_cut 1 = .ok (.aload_n 0, 1) := dk_42 (dk_at dksX8_cut_0 1 rfl rfl)
theorem dX8_cut_2 : decode cX8_cut 2 = .ok (.iload_n 1, 1) := dk_27 (dk_at dksX8_cut_0 2 rfl rfl)
theorem dX8_cut_3 : decode cX8_cut 3 = .ok (.invokevirtual 142, 3) := dk_182 0 142 (dk_at dksX8_cut_0 3 rfl rfl)
theorem dX8_cut_6 : decode cX8_cut 6 = .ok (.iconst 1, 1) := dk_4 (dk_at dksX8_cut_0 6 rfl rfl)
theorem dX8_cut_7 : decode cX8_cut 7 = .ok (.invokevirtual 124, 3) := dk_182 0 124 (dk_at dksX8_cut_0 7 rfl rfl)
theorem dX8_cut_10 : decode cX8_cut 10 = .ok (.ifCond .eq 5, 3) := dk_153 0 5 (dk_at dksX8_cut_0 10 rfl rfl)
theorem dX8_cut_13 : decode cX8_cut 13 = .ok (.iconst 0, 1) := dk_3 (dk_at dksX8_cut_0 13 rfl rfl)
theorem dX8_cut_14 : decode cX8_cut 14 = .ok (.ireturn, 1) := dk_172 (dk_at dksX8_cut_0 14 rfl rfl)
theorem dX8_cut_15 : decode cX8_cut 15 = .ok (.aload_n 0, 1) := dk_42 (dk_at dksX8_cut_0 15 rfl rfl)
theorem dX8_cut_16 : decode cX8_cut 16 = .ok (.getfield 16, 3) := dk_180 0 16 (dk_at dksX8_cut_0 16 rfl rfl)
theorem dX8_cut_19 : decode cX8_cut 19 = .ok (.iload_n 1, 1) := dk_27 (dk_at dksX8_cut_0 19 rfl rfl)
theorem dX8_cut_20 : decode cX8_cut 20 = .ok (.invokevirtual 78, 3) := dk_182 0 78 (dk_at dksX8_cut_0 20 rfl rfl)
theorem dX8_cut_23 : decode cX8_cut 23 = .ok (.checkcast 68, 3) := dk_192 0 68 (dk_at dksX8_cut_1 0 rfl rfl)
theorem dX8_cut_26 : decode cX8_cut 26 = .ok (.getfield 115, 3) := dk_180 0 115 (dk_at dksX8_cut_1 3 rfl rfl)
theorem dX8_cut_29 : decode cX8_cut 29 = .ok (.istore_n 2, 1) := dk_61 (dk_at dksX8_cut_1 6 rfl rfl)
theorem dX8_cut_30 : decode cX8_cut 30 = .ok (.aload_n 0, 1) := dk_42 (dk_at dksX8_cut_1 7 rfl rfl)
theorem dX8_cut_31 : decode cX8_cut 31 = .ok (.iload_n 1, 1) := dk_27 (dk_at dksX8_cut_1 8 rfl rfl)
theorem dX8_cut_32 : decode cX8_cut 32 = .ok (.invokevirtual 138, 3) := dk_182 0 138 (dk_at dksX8_cut_1 9 rfl rfl)
theorem dX8_cut_35 : decode cX8_cut 35 = .ok (.aload_n 0, 1) := dk_42 (dk_at dksX8_cut_1 12 rfl rfl)
theorem dX8_cut_36 : decode cX8_cut 36 = .ok (.iconst 3, 1) := dk_6 (dk_at dksX8_cut_1 13 rfl rfl)
theorem dX8_cut_37 : decode cX8_cut 37 = .ok (.invokevirtual 146, 3) := dk_182 0 146 (dk_at dksX8_cut_1 14 rfl rfl)
theorem dX8_cut_40 : decode cX8_cut 40 = .ok (.iload_n 2, 1) := dk_28 (dk_at dksX8_cut_1 17 rfl rfl)
theorem dX8_cut_41 : decode cX8_cut 41 = .ok (.ireturn, 1) := dk_172 (dk_at dksX8_cut_1 18 rfl rfl)
abbrev cX8_company : ByteArray := prog_19_method_24_code
def yX8_company : MethodName := ⟨RX8, "company", "(II)I"⟩
def dkwX8_company_4 : List UInt8 := [4, 100, 172]
abbrev dktX8_company_4 : List UInt8 := dkwX8_company_4 ++ []
def dkwX8_company_3 : List UInt8 := [181, 0, 155, 45, 28, 181, 0, 158, 42, 180, 0, 20, 45, 182, 0, 134, 87, 42, 180, 0, 20, 182, 0, 56]
abbrev dktX8_company_3 : List UInt8 := dkwX8_company_3 ++ dktX8_company_4
def dkwX8_company_2 : List UInt8 := [167, 0, 4, 3, 5, 182, 0, 52, 153, 0, 5, 3, 172, 187, 0, 152, 89, 183, 0, 154, 78, 45, 27]
abbrev dktX8_company_2 : List UInt8 := dkwX8_company_2 ++ dktX8_company_3
def dkwX8_company_1 : List UInt8 := [167, 0, 4, 3, 4, 182, 0, 124, 154, 0, 27, 42, 42, 180, 0, 20, 182, 0, 56, 7, 160, 0, 7, 4]
abbrev dktX8_company_1 : List UInt8 := dkwX8_company_1 ++ dktX8_company_2
def dkwX8_company_0 : List UInt8 := [42, 27, 3, 17, 7, 208, 184, 0, 60, 153, 0, 12, 28, 3, 6, 184, 0, 60, 154, 0, 7, 4]
abbrev dktX8_company_0 : List UInt8 := dkwX8_company_0 ++ dktX8_company_1
theorem dksX8_company_0 : cX8_company.data.toList.drop 0 = dktX8_company_0 := by decide +kernel
theorem dksX8_company_1 : cX8_company.data.toList.drop 22 = dktX8_company_1 := dk_seg dksX8_company_0 22 rfl rfl
theorem dksX8_company_2 : cX8_company.data.toList.drop 46 = dktX8_company_2 := dk_seg dksX8_company_1 24 rfl rfl
theorem dksX8_company_3 : cX8_company.data.toList.drop 69 = dktX8_company_3 := dk_seg dksX8_company_2 23 rfl rfl
theorem dksX8_company_4 : cX8_company.data.toList.drop 93 = dktX8_company_4 := dk_seg dksX8_company_3 24 rfl rfl
theorem dX8_company_0 : decode cX8_company 0 = .ok (.aload_n 0, 1) := dk_42 (dk_at dksX8_company_0 0 rfl rfl)
theorem dX8_company_1 : decode cX8_company 1 = .ok (.iload_n 1, 1) := dk_27 (dk_at dksX8_company_0 1 rfl rfl)
theorem dX8_company_2 : decode cX8_company 2 = .ok (.iconst 0, 1) := dk_3 (dk_at dksX8_company_0 2 rfl rfl)
theorem dX8_company_3 : decode cX8_company 3 = .ok (.sipush 2000, 3) := dk_17 7 208 (dk_at dksX8_company_0 3 rfl rfl)
theorem dX8_company_6 : decode cX8_company 6 = .ok (.invokestatic 60, 3) := dk_184 0 60 (dk_at dksX8_company_0 6 rfl rfl)
theorem dX8_company_9 : decode cX8_company 9 = .ok (.ifCond .eq 12, 3) := dk_153 0 12 (dk_at dksX8_company_0 9 rfl rfl)
theorem dX8_company_12 : decode cX8_company 12 = .ok (.iload_n 2, 1) := dk_28 (dk_at dksX8_company_0 12 rfl rfl)
theorem dX8_company_13 : decode cX8_company 13 = .ok (.iconst 0, 1) := dk_3 (dk_at dksX8_company_0 13 rfl rfl)
theorem dX8_company_14 : decode cX8_company 14 = .ok (.iconst 3, 1) := dk_6 (dk_at dksX8_company_0 14 rfl rfl)
theorem dX8_company_15 : decode cX8_company 15 = .ok (.invokestatic 60, 3) := dk_184 0 60 (dk_at dksX8_company_0 15 rfl rfl)
theorem dX8_company_18 : decode cX8_company 18 = .ok (.ifCond .ne 7, 3) := dk_154 0 7 (dk_at dksX8_company_0 18 rfl rfl)
theorem dX8_company_21 : decode cX8_company 21 = .ok (.iconst 1, 1) := dk_4 (dk_at dksX8_company_0 21 rfl rfl)
theorem dX8_company_22 : decode cX8_company 22 = .ok (.goto 4, 3) := dk_167 0 4 (dk_at dksX8_company_1 0 rfl rfl)
theorem dX8_company_25 : decode cX8_company 25 = .ok (.iconst 0, 1) := dk_3 (dk_at dksX8_company_1 3 rfl rfl)
theorem dX8_company_26 : decode cX8_company 26 = .ok (.iconst 1, 1) := dk_4 (dk_at dksX8_company_1 4 rfl rfl)
theorem dX8_company_27 : decode cX8_company 27 = .ok (.invokevirtual 124, 3) := dk_182 0 124 (dk_at dksX8_company_1 5 rfl rfl)
theorem dX8_company_30 : decode cX8_company 30 = .ok (.ifCond .ne 27, 3) := dk_154 0 27 (dk_at dksX8_company_1 8 rfl rfl)
theorem dX8_company_33 : decode cX8_company 33 = .ok (.aload_n 0, 1) := dk_42 (dk_at dksX8_company_1 11 rfl rfl)
theorem dX8_company_34 : decode cX8_company 34 = .ok (.aload_n 0, 1) := dk_42 (dk_at dksX8_company_1 12 rfl rfl)
theorem dX8_company_35 : decode cX8_company 35 = .ok (.getfield 20, 3) := dk_180 0 20 (dk_at dksX8_company_1 13 rfl rfl)
theorem dX8_company_38 : decode cX8_company 38 = .ok (.invokevirtual 56, 3) := dk_182 0 56 (dk_at dksX8_company_1 16 rfl rfl)
theorem dX8_company_41 : decode cX8_company 41 = .ok (.iconst 4, 1) := dk_7 (dk_at dksX8_company_1 19 rfl rfl)
theorem dX8_company_42 : decode cX8_company 42 = .ok (.if_icmp .ne 7, 3) := dk_160 0 7 (dk_at dksX8_company_1 20 rfl rfl)
theorem dX8_company_45 : decode cX8_company 45 = .ok (.iconst 1, 1) := dk_4 (dk_at dksX8_company_1 23 rfl rfl)
theorem dX8_company_46 : decode cX8_company 46 = .ok (.goto 4, 3) := dk_167 0 4 (dk_at dksX8_company_2 0 rfl rfl)
theorem dX8_company_49 : decode cX8_company 49 = .ok (.iconst 0, 1) := dk_3 (dk_at dksX8_company_2 3 rfl rfl)
theorem dX8_company_50 : decode cX8_company 50 = .ok (.iconst 2, 1) := dk_5 (dk_at dksX8_company_2 4 rfl rfl)
theorem dX8_company_51 : decode cX8_company 51 = .ok (.invokevirtual 52, 3) := dk_182 0 52 (dk_at dksX8_company_2 5 rfl rfl)
theorem dX8_company_54 : decode cX8_company 54 = .ok (.ifCond .eq 5, 3) := dk_153 0 5 (dk_at dksX8_company_2 8 rfl rfl)
theorem dX8_company_57 : decode cX8_company 57 = .ok (.iconst 0, 1) := dk_3 (dk_at dksX8_company_2 11 rfl rfl)
theorem dX8_company_58 : decode cX8_company 58 = .ok (.ireturn, 1) := dk_172 (dk_at dksX8_company_2 12 rfl rfl)
theorem dX8_company_59 : decode cX8_company 59 = .ok (.new 152, 3) := dk_187 0 152 (dk_at dksX8_company_2 13 rfl rfl)
theorem dX8_company_62 : decode cX8_company 62 = .ok (.dup, 1) := dk_89 (dk_at dksX8_company_2 16 rfl rfl)
theorem dX8_company_63 : decode cX8_company 63 = .ok (.invokespecial 154, 3) := dk_183 0 154 (dk_at dksX8_company_2 17 rfl rfl)
theorem dX8_company_66 : decode cX8_company 66 = .ok (.astore_n 3, 1) := dk_78 (dk_at dksX8_company_2 20 rfl rfl)
theorem dX8_company_67 : decode cX8_company 67 = .ok (.aload_n 3, 1) := dk_45 (dk_at dksX8_company_2 21 rfl rfl)
theorem dX8_company_68 : decode cX8_company 68 = .ok (.iload_n 1, 1) := dk_27 (dk_at dksX8_company_2 22 rfl rfl)
theorem dX8_company_69 : decode cX8_company 69 = .ok (.putfield 155, 3) := dk_181 0 155 (dk_at dksX8_company_3 0 rfl rfl)
theorem dX8_company_72 : decode cX8_company 72 = .ok (.aload_n 3, 1) := dk_45 (dk_at dksX8_company_3 3 rfl rfl)
theorem dX8_company_73 : decode cX8_company 73 = .ok (.iload_n 2, 1) := dk_28 (dk_at dksX8_company_3 4 rfl rfl)
theorem dX8_company_74 : decode cX8_company 74 = .ok (.putfield 158, 3) := dk_181 0 158 (dk_at dksX8_company_3 5 rfl rfl)
theorem dX8_company_77 : decode cX8_company 77 = .ok (.aload_n 0, 1) := dk_42 (dk_at dksX8_company_3 8 rfl rfl)
theorem dX8_company_78 : decode cX8_company 78 = .ok (.getfield 20, 3) := dk_180 0 20 (dk_at dksX8_company_3 9 rfl rfl)
theorem dX8_company_81 : decode cX8_company 81 = .ok (.aload_n 3, 1) := dk_45 (dk_at dksX8_company_3 12 rfl rfl)
theorem dX8_company_82 : decode cX8_company 82 = .ok (.invokevirtual 134, 3) := dk_182 0 134 (dk_at dksX8_company_3 13 rfl rfl)
theorem dX8_company_85 : decode cX8_company 85 = .ok (.pop, 1) := dk_87 (dk_at dksX8_company_3 16 rfl rfl)
theorem dX8_company_86 : decode cX8_company 86 = .ok (.aload_n 0, 1) := dk_42 (dk_at dksX8_company_3 17 rfl rfl)
theorem dX8_company_87 : decode cX8_company 87 = .ok (.getfield 20, 3) := dk_180 0 20 (dk_at dksX8_company_3 18 rfl rfl)
theorem dX8_company_90 : decode cX8_company 90 = .ok (.invokevirtual 56, 3) := dk_182 0 56 (dk_at dksX8_company_3 21 rfl rfl)
theorem dX8_company_93 : decode cX8_company 93 = .ok (.iconst 1, 1) := dk_4 (dk_at dksX8_company_4 0 rfl rfl)
theorem dX8_company_94 : decode cX8_company 94 = .ok (.isub, 1) := dk_100 (dk_at dksX8_company_4 1 rfl rfl)
theorem dX8_company_95 : decode cX8_company 95 = .ok (.ireturn, 1) := dk_172 (dk_at dksX8_company_4 2 rfl rfl)
abbrev cX8_join : ByteArray := prog_19_method_25_code
def yX8_join : MethodName := ⟨RX8, "join", "(II)I"⟩
def dkwX8_join_5 : List UInt8 := [42, 89, 180, 0, 121, 7, 28, 104, 100, 181, 0, 121, 45, 180, 0, 164, 182, 0, 56, 4, 100, 172]
abbrev dktX8_join_5 : List UInt8 := dkwX8_join_5 ++ []
def dkwX8_join_4 : List UInt8 := [45, 180, 0, 173, 3, 184, 0, 167, 182, 0, 134, 87, 45, 89, 180, 0, 176, 7, 28, 104, 96, 181, 0, 176]
abbrev dktX8_join_4 : List UInt8 := dkwX8_join_4 ++ dktX8_join_5
def dkwX8_join_3 : List UInt8 := [42, 180, 0, 20, 27, 182, 0, 78, 192, 0, 152, 78, 45, 180, 0, 164, 28, 184, 0, 167, 182, 0, 134, 87]
abbrev dktX8_join_3 : List UInt8 := dkwX8_join_3 ++ dktX8_join_4
def dkwX8_join_2 : List UInt8 := [180, 0, 164, 182, 0, 56, 8, 160, 0, 7, 4, 167, 0, 4, 3, 6, 182, 0, 52, 153, 0, 5, 3, 172]
abbrev dktX8_join_2 : List UInt8 := dkwX8_join_2 ++ dktX8_join_3
def dkwX8_join_1 : List UInt8 := [4, 167, 0, 4, 3, 5, 182, 0, 52, 154, 0, 37, 42, 42, 180, 0, 20, 27, 182, 0, 78, 192, 0, 152]
abbrev dktX8_join_1 : List UInt8 := dkwX8_join_1 ++ dktX8_join_2
def dkwX8_join_0 : List UInt8 := [42, 42, 27, 182, 0, 161, 4, 182, 0, 124, 154, 0, 60, 42, 28, 4, 16, 99, 184, 0, 60, 154, 0, 7]
abbrev dktX8_join_0 : List UInt8 := dkwX8_join_0 ++ dktX8_join_1
theorem dksX8_join_0 : cX8_join.data.toList.drop 0 = dktX8_join_0 := by decide +kernel
theorem dksX8_join_1 : cX8_join.data.toList.drop 24 = dktX8_join_1 := dk_seg dksX8_join_0 24 rfl rfl
theorem dksX8_join_2 : cX8_join.data.toList.drop 48 = dktX8_join_2 := dk_seg dksX8_join_1 24 rfl rfl
theorem dksX8_join_3 : cX8_join.data.toList.drop 72 = dktX8_join_3 := dk_seg dksX8_join_2 24 rfl rfl
theorem dksX8_join_4 : cX8_join.data.toList.drop 96 = dktX8_join_4 := dk_seg dksX8_join_3 24 rfl rfl
theorem dksX8_join_5 : cX8_join.data.toList.drop 120 = dktX8_join_5 := dk_seg dksX8_join_4 24 rfl rfl
theorem dX8_join_0 : decode cX8_join 0 = .ok (.aload_n 0, 1) := dk_42 (dk_at dksX8_join_0 0 rfl rfl)
theorem dX8_join_1 : decode cX8_join 1 = .ok (.aload_n 0, 1) := dk_42 (dk_at dksX8_join_0 1 rfl rfl)
theorem dX8_join_2 : decode cX8_join 2 = .ok (.iload_n 1, 1) := dk_27 (dk_at dksX8_join_0 2 rfl rfl)
theorem dX8_join_3 : decode cX8_join 3 = .ok (.invokevirtual 161, 3) := dk_182 0 161 (dk_at dksX8_join_0 3 rfl rfl)
theorem dX8_join_6 : decode cX8_join 6 = .ok (.iconst 1, 1) := dk_4 (dk_at dksX8_join_0 6 rfl rfl)
theorem dX8_join_7 : decode cX8_join 7 = .ok (.invokevirtual 124, 3) := dk_182 0 124 (dk_at dksX8_join_0 7 rfl rfl)
theorem dX8_join_10 : decode cX8_join 10 = .ok (.ifCond .ne 60, 3) := dk_154 0 60 (dk_at dksX8_join_0 10 rfl rfl)
theorem dX8_join_13 : decode cX8_join 13 = .ok (.aload_n 0, 1) := dk_42 (dk_at dksX8_join_0 13 rfl rfl)
theorem dX8_join_14 : decode cX8_join 14 = .ok (.iload_n 2, 1) := dk_28 (dk_at dksX8_join_0 14 rfl rfl)
theorem dX8_join_15 : decode cX8_join 15 = .ok (.iconst 1, 1) := dk_4 (dk_at dksX8_join_0 15 rfl rfl)
theorem dX8_join_16 : decode cX8_join 16 = .ok (.bipush 99, 2) := dk_16 99 (dk_at dksX8_join_0 16 rfl rfl)
theorem dX8_join_18 : decode cX8_join 18 = .ok (.invokestatic 60, 3) := dk_184 0 60 (dk_at dksX8_join_0 18 rfl rfl)
theorem dX8_join_21 : decode cX8_join 21 = .ok (.ifCond .ne 7, 3) := dk_154 0 7 (dk_at dksX8_join_0 21 rfl rfl)
theorem dX8_join_24 : decode cX8_join 24 = .ok (.iconst 1, 1) := dk_4 (dk_at dksX8_join_1 0 rfl rfl)
theorem dX8_join_25 : decode cX8_join 25 = .ok (.goto 4, 3) := dk_167 0 4 (dk_at dksX8_join_1 1 rfl rfl)
theorem dX8_join_28 : decode cX8_join 28 = .ok (.iconst 0, 1) := dk_3 (dk_at dksX8_join_1 4 rfl rfl)
theorem dX8_join_29 : decode cX8_join 29 = .ok (.iconst 2, 1) := dk_5 (dk_at dksX8_join_1 5 rfl rfl)
theorem dX8_join_30 : decode cX8_join 30 = .ok (.invokevirtual 52, 3) := dk_182 0 52 (dk_at dksX8_join_1 6 rfl rfl)
theorem dX8_join_33 : decode cX8_join 33 = .ok (.ifCond .ne 37, 3) := dk_154 0 37 (dk_at dksX8_join_1 9 rfl rfl)
theorem dX8_join_36 : decode cX8_join 36 = .ok (.aload_n 0, 1) := dk_42 (dk_at dksX8_join_1 12 rfl rfl)
theorem dX8_join_37 : decode cX8_join 37 = .ok (.aload_n 0, 1) := dk_42 (dk_at dksX8_join_1 13 rfl rfl)
theorem dX8_join_38 : decode cX8_join 38 = .ok (.getfield 20, 3) := dk_180 0 20 (dk_at dksX8_join_1 14 rfl rfl)
theorem dX8_join_41 : decode cX8_join 41 = .ok (.iload_n 1, 1) := dk_27 (dk_at dksX8_join_1 17 rfl rfl)
theorem dX8_join_42 : decode cX8_join 42 = .ok (.invokevirtual 78, 3) := dk_182 0 78 (dk_at dksX8_join_1 18 rfl rfl)
theorem dX8_join_45 : decode cX8_join 45 = .ok (.checkcast 152, 3) := dk_192 0 152 (dk_at dksX8_join_1 21 rfl rfl)
theorem dX8_join_48 : decode cX8_join 48 = .ok (.getfield 164, 3) := dk_180 0 164 (dk_at dksX8_join_2 0 rfl rfl)
theorem dX8_join_51 : decode cX8_join 51 = .ok (.invokevirtual 56, 3) := dk_182 0 56 (dk_at dksX8_join_2 3 rfl rfl)
theorem dX8_join_54 : decode cX8_join 54 = .ok (.iconst 5, 1) := dk_8 (dk_at dksX8_join_2 6 rfl rfl)
theorem dX8_join_55 : decode cX8_join 55 = .ok (.if_icmp .ne 7, 3) := dk_160 0 7 (dk_at dksX8_join_2 7 rfl rfl)
theorem dX8_join_58 : decode cX8_join 58 = .ok (.iconst 1, 1) := dk_4 (dk_at dksX8_join_2 10 rfl rfl)
theorem dX8_join_59 : decode cX8_join 59 = .ok (.goto 4, 3) := dk_167 0 4 (dk_at dksX8_join_2 11 rfl rfl)
theorem dX8_join_62 : decode cX8_join 62 = .ok (.iconst 0, 1) := dk_3 (dk_at dksX8_join_2 14 rfl rfl)
theorem dX8_join_63 : decode cX8_join 63 = .ok (.iconst 3, 1) := dk_6 (dk_at dksX8_join_2 15 rfl rfl)
theorem dX8_join_64 : decode cX8_join 64 = .ok (.invokevirtual 52, 3) := dk_182 0 52 (dk_at dksX8_join_2 16 rfl rfl)
theorem dX8_join_67 : decode cX8_join 67 = .ok (.ifCond .eq 5, 3) := dk_153 0 5 (dk_at dksX8_join_2 19 rfl rfl)
theorem dX8_join_70 : decode cX8_join 70 = .ok (.iconst 0, 1) := dk_3 (dk_at dksX8_join_2 22 rfl rfl)
theorem dX8_join_71 : decode cX8_join 71 = .ok (.ireturn, 1) := dk_172 (dk_at dksX8_join_2 23 rfl rfl)
theorem dX8_join_72 : decode cX8_join 72 = .ok (.aload_n 0, 1) := dk_42 (dk_at dksX8_join_3 0 rfl rfl)
theorem dX8_join_73 : decode cX8_join 73 = .ok (.getfield 20, 3) := dk_180 0 20 (dk_at dksX8_join_3 1 rfl rfl)
theorem dX8_join_76 : decode cX8_join 76 = .ok (.iload_n 1, 1) := dk_27 (dk_at dksX8_join_3 4 rfl rfl)
theorem dX8_join_77 : decode cX8_join 77 = .ok (.invokevirtual 78, 3) := dk_182 0 78 (dk_at dksX8_join_3 5 rfl rfl)
theorem dX8_join_80 : decode cX8_join 80 = .ok (.checkcast 152, 3) := dk_192 0 152 (dk_at dksX8_join_3 8 rfl rfl)
theorem dX8_join_83 : decode cX8_join 83 = .ok (.astore_n 3, 1) := dk_78 (dk_at dksX8_join_3 11 rfl rfl)
theorem dX8_join_84 : decode cX8_join 84 = .ok (.aload_n 3, 1) := dk_45 (dk_at dksX8_join_3 12 rfl rfl)
theorem dX8_join_85 : decode cX8_join 85 = .ok (.getfield 164, 3) := dk_180 0 164 (dk_at dksX8_join_3 13 rfl rfl)
theorem dX8_join_88 : decode cX8_join 88 = .ok (.iload_n 2, 1) := dk_28 (dk_at dksX8_join_3 16 rfl rfl)
theorem dX8_join_89 : decode cX8_join 89 = .ok (.invokestatic 167, 3) := dk_184 0 167 (dk_at dksX8_join_3 17 rfl rfl)
theorem dX8_join_92 : decode cX8_join 92 = .ok (.invokevirtual 134, 3) := dk_182 0 134 (dk_at dksX8_join_3 20 rfl rfl)
theorem dX8_join_95 : decode cX8_join 95 = .ok (.pop, 1) := dk_87 (dk_at dksX8_join_3 23 rfl rfl)
theorem dX8_join_96 : decode cX8_join 96 = .ok (.aload_n 3, 1) := dk_45 (dk_at dksX8_join_4 0 rfl rfl)
theorem dX8_join_97 : decode cX8_join 97 = .ok (.getfield 173, 3) := dk_180 0 173 (dk_at dksX8_join_4 1 rfl rfl)
theorem dX8_join_100 : decode cX8_join 100 = .ok (.iconst 0, 1) := dk_3 (dk_at dksX8_join_4 4 rfl rfl)
theorem dX8_join_101 : decode cX8_join 101 = .ok (.invokestatic 167, 3) := dk_184 0 167 (dk_at dksX8_join_4 5 rfl rfl)
theorem dX8_join_104 : decode cX8_join 104 = .ok (.invokevirtual 134, 3) := dk_182 0 134 (dk_at dksX8_join_4 8 rfl rfl)
theorem dX8_join_107 : decode cX8_join 107 = .ok (.pop, 1) := dk_87 (dk_at dksX8_join_4 11 rfl rfl)
theorem dX8_join_108 : decode cX8_join 108 = .ok (.aload_n 3, 1) := dk_45 (dk_at dksX8_join_4 12 rfl rfl)
theorem dX8_join_109 : decode cX8_join 109 = .ok (.dup, 1) := dk_89 (dk_at dksX8_join_4 13 rfl rfl)
theorem dX8_join_110 : decode cX8_join 110 = .ok (.getfield 176, 3) := dk_180 0 176 (dk_at dksX8_join_4 14 rfl rfl)
theorem dX8_join_113 : decode cX8_join 113 = .ok (.iconst 4, 1) := dk_7 (dk_at dksX8_join_4 17 rfl rfl)
theorem dX8_join_114 : decode cX8_join 114 = .ok (.iload_n 2, 1) := dk_28 (dk_at dksX8_join_4 18 rfl rfl)
theorem dX8_join_115 : decode cX8_join 115 = .ok (.imul, 1) := dk_104 (dk_at dksX8_join_4 19 rfl rfl)
theorem dX8_join_116 : decode cX8_join 116 = .ok (.iadd, 1) := dk_96 (dk_at dksX8_join_4 20 rfl rfl)
theorem dX8_join_117 : decode cX8_join 117 = .ok (.putfield 176, 3) := dk_181 0 176 (dk_at dksX8_join_4 21 rfl rfl)
theorem dX8_join_120 : decode cX8_join 120 = .ok (.aload_n 0, 1) := dk_42 (dk_at dksX8_join_5 0 rfl rfl)
theorem dX8_join_121 : decode cX8_join 121 = .ok (.dup, 1) := dk_89 (dk_at dksX8_join_5 1 rfl rfl)
theorem dX8_join_122 : decode cX8_join 122 = .ok (.getfield 121, 3) := dk_180 0 121 (dk_at dksX8_join_5 2 rfl rfl)
theorem dX8_join_125 : decode cX8_join 125 = .ok (.iconst 4, 1) := dk_7 (dk_at dksX8_join_5 5 rfl rfl)
theorem dX8_join_126 : decode cX8_join 126 = .ok (.iload_n 2, 1) := dk_28 (dk_at dksX8_join_5 6 rfl rfl)
theorem dX8_join_127 : decode cX8_join 127 = .ok (.imul, 1) := dk_104 (dk_at dksX8_join_5 7 rfl rfl)
theorem dX8_join_128 : decode cX8_join 128 = .ok (.isub, 1) := dk_100 (dk_at dksX8_join_5 8 rfl rfl)
theorem dX8_join_129 : decode cX8_join 129 = .ok (.putfield 121, 3) := dk_181 0 121 (dk_at dksX8_join_5 9 rfl rfl)
theorem dX8_join_132 : decode cX8_join 132 = .ok (.aload_n 3, 1) := dk_45 (dk_at dksX8_join_5 12 rfl rfl)
theorem dX8_join_133 : decode cX8_join 133 = .ok (.getfield 164, 3) := dk_180 0 164 (dk_at dksX8_join_5 13 rfl rfl)
theorem dX8_join_136 : decode cX8_join 136 = .ok (.invokevirtual 56, 3) := dk_182 0 56 (dk_at dksX8_join_5 16 rfl rfl)
theorem dX8_join_139 : decode cX8_join 139 = .ok (.iconst 1, 1) := dk_4 (dk_at dksX8_join_5 19 rfl rfl)
theorem dX8_join_140 : decode cX8_join 140 = .ok (.isub, 1) := dk_100 (dk_at dksX8_join_5 20 rfl rfl)
theorem dX8_join_141 : decode cX8_join 141 = .ok (.ireturn, 1) := dk_172 (dk_at dksX8_join_5 21 rfl rfl)
abbrev cX8_isNoCompany : ByteArray := prog_19_method_8_code
def yX8_isNoCompany : MethodName := ⟨RX8, "isNoCompany", "(I)Z"⟩
def dkwX8_isNoCompany_0 : List UInt8 := [27, 3, 42, 180, 0, 20, 182, 0, 56, 4, 100, 184, 0, 60, 154, 0, 7, 4, 167, 0, 4, 3, 172]
abbrev dktX8_isNoCompany_0 : List UInt8 := dkwX8_isNoCompany_0 ++ []
theorem dksX8_isNoCompany_0 : cX8_isNoCompany.data.toList.drop 0 = dktX8_isNoCompany_0 := by decide +kernel
theorem dX8_isNoCompany_0 : decode cX8_isNoCompany 0 = .ok (.iload_n 1, 1) := dk_27 (dk_at dksX8_isNoCompany_0 0 rfl rfl)
theorem dX8_isNoCompany_1 : decode cX8_isNoCompany 1 = .ok (.iconst 0, 1) := dk_3 (dk_at dksX8_isNoCompany_0 1 rfl rfl)
theorem dX8_isNoCompany_2 : decode cX8_isNoCompany 2 = .ok (.aload_n 0, 1) := dk_42 (dk_at dksX8_isNoCompany_0 2 rfl rfl)
theorem dX8_isNoCompany_3 : decode cX8_isNoCompany 3 = .ok (.getfield 20, 3) := dk_180 0 20 (dk_at dksX8_isNoCompany_0 3 rfl rfl)
theorem dX8_isNoCompany_6 : decode cX8_isNoCompany 6 = .ok (.invokevirtual 56, 3) := dk_182 0 56 (dk_at dksX8_isNoCompany_0 6 rfl rfl)
theorem dX8_isNoCompany_9 : decode cX8_isNoCompany 9 = .ok (.iconst 1, 1) := dk_4 (dk_at dksX8_isNoCompany_0 9 rfl rfl)
theorem dX8_isNoCompany_10 : decode cX8_isNoCompany 10 = .ok (.isub, 1) := dk_100 (dk_at dksX8_isNoCompany_0 10 rfl rfl)
theorem dX8_isNoCompany_11 : decode cX8_isNoCompany 11 = .ok (.invokestatic 60, 3) := dk_184 0 60 (dk_at dksX8_isNoCompany_0 11 rfl rfl)
theorem dX8_isNoCompany_14 : decode cX8_isNoCompany 14 = .ok (.ifCond .ne 7, 3) := dk_154 0 7 (dk_at dksX8_isNoCompany_0 14 rfl rfl)
theorem dX8_isNoCompany_17 : decode cX8_isNoCompany 17 = .ok (.iconst 1, 1) := dk_4 (dk_at dksX8_isNoCompany_0 17 rfl rfl)
theorem dX8_isNoCompany_18 : decode cX8_isNoCompany 18 = .ok (.goto 4, 3) := dk_167 0 4 (dk_at dksX8_isNoCompany_0 18 rfl rfl)
theorem dX8_isNoCompany_21 : decode cX8_isNoCompany 21 = .ok (.iconst 0, 1) := dk_3 (dk_at dksX8_isNoCompany_0 21 rfl rfl)
theorem dX8_isNoCompany_22 : decode cX8_isNoCompany 22 = .ok (.ireturn, 1) := dk_172 (dk_at dksX8_isNoCompany_0 22 rfl rfl)
abbrev cX8_shareOut : ByteArray := prog_19_method_26_code
def yX8_shareOut : MethodName := ⟨RX8, "shareOut", "(II)I"⟩
def dkwX8_shareOut_13 : List UInt8 := [89, 180, 0, 176, 28, 100, 181, 0, 176, 42, 89, 180, 0, 121, 28, 96, 181, 0, 121, 45, 180, 0, 176, 172]
abbrev dktX8_shareOut_13 : List UInt8 := dkwX8_shareOut_13 ++ []
def dkwX8_shareOut_12 : List UInt8 := [4, 96, 184, 0, 167, 182, 0, 189, 87, 25, 6, 21, 7, 20, 0, 193, 80, 132, 5, 255, 167, 255, 172, 45]
abbrev dktX8_shareOut_12 : List UInt8 := dkwX8_shareOut_12 ++ dktX8_shareOut_13
def dkwX8_shareOut_11 : List UInt8 := [167, 255, 227, 45, 180, 0, 173, 21, 7, 45, 180, 0, 173, 21, 7, 182, 0, 78, 192, 0, 168, 182, 0, 186]
abbrev dktX8_shareOut_11 : List UInt8 := dkwX8_shareOut_11 ++ dktX8_shareOut_12
def dkwX8_shareOut_10 : List UInt8 := [162, 0, 27, 25, 6, 21, 8, 47, 25, 6, 21, 7, 47, 148, 158, 0, 7, 21, 8, 54, 7, 132, 8, 1]
abbrev dktX8_shareOut_10 : List UInt8 := dkwX8_shareOut_10 ++ dktX8_shareOut_11
def dkwX8_shareOut_9 : List UInt8 := [132, 7, 1, 167, 255, 165, 21, 5, 158, 0, 85, 3, 54, 7, 4, 54, 8, 21, 8, 25, 6, 190]
abbrev dktX8_shareOut_9 : List UInt8 := dkwX8_shareOut_9 ++ dktX8_shareOut_10
def dkwX8_shareOut_8 : List UInt8 := [133, 109, 136, 96, 184, 0, 167, 182, 0, 189, 87, 21, 5, 22, 8, 21, 4, 133, 109, 136, 100, 54, 5]
abbrev dktX8_shareOut_8 : List UInt8 := dkwX8_shareOut_8 ++ dktX8_shareOut_9
def dkwX8_shareOut_7 : List UInt8 := [180, 0, 173, 21, 7, 45, 180, 0, 173, 21, 7, 182, 0, 78, 192, 0, 168, 182, 0, 186, 22, 8, 21, 4]
abbrev dktX8_shareOut_7 : List UInt8 := dkwX8_shareOut_7 ++ dktX8_shareOut_8
def dkwX8_shareOut_6 : List UInt8 := [192, 0, 168, 182, 0, 186, 133, 105, 55, 8, 25, 6, 21, 7, 22, 8, 21, 4, 133, 113, 80, 45]
abbrev dktX8_shareOut_6 : List UInt8 := dkwX8_shareOut_6 ++ dktX8_shareOut_7
def dkwX8_shareOut_5 : List UInt8 := [3, 54, 7, 21, 7, 25, 6, 190, 162, 0, 89, 28, 133, 45, 180, 0, 164, 21, 7, 182, 0, 78]
abbrev dktX8_shareOut_5 : List UInt8 := dkwX8_shareOut_5 ++ dktX8_shareOut_6
def dkwX8_shareOut_4 : List UInt8 := [192, 0, 152, 78, 45, 182, 0, 183, 54, 4, 28, 54, 5, 45, 180, 0, 164, 182, 0, 56, 188, 11, 58, 6]
abbrev dktX8_shareOut_4 : List UInt8 := dkwX8_shareOut_4 ++ dktX8_shareOut_5
def dkwX8_shareOut_3 : List UInt8 := [4, 167, 0, 4, 3, 6, 182, 0, 52, 153, 0, 5, 3, 172, 42, 180, 0, 20, 27, 182, 0, 78]
abbrev dktX8_shareOut_3 : List UInt8 := dkwX8_shareOut_3 ++ dktX8_shareOut_4
def dkwX8_shareOut_2 : List UInt8 := [182, 0, 179, 154, 0, 21, 42, 180, 0, 20, 27, 182, 0, 78, 192, 0, 152, 180, 0, 176, 28, 162, 0, 7]
abbrev dktX8_shareOut_2 : List UInt8 := dkwX8_shareOut_2 ++ dktX8_shareOut_3
def dkwX8_shareOut_1 : List UInt8 := [5, 182, 0, 52, 154, 0, 54, 42, 42, 180, 0, 20, 27, 182, 0, 78, 192, 0, 152, 180, 0, 164]
abbrev dktX8_shareOut_1 : List UInt8 := dkwX8_shareOut_1 ++ dktX8_shareOut_2
def dkwX8_shareOut_0 : List UInt8 := [42, 42, 27, 182, 0, 161, 4, 182, 0, 124, 154, 0, 72, 42, 28, 4, 162, 0, 7, 4, 167, 0, 4, 3]
abbrev dktX8_shareOut_0 : List UInt8 := dkwX8_shareOut_0 ++ dktX8_shareOut_1
theorem dksX8_shareOut_0 : cX8_shareOut.data.toList.drop 0 = dktX8_shareOut_0 := by decide +kernel
theorem dksX8_shareOut_1 : cX8_shareOut.data.toList.drop 24 = dktX8_shareOut_1 := dk_seg dksX8_shareOut_0 24 rfl rfl
theorem dksX8_shareOut_2 : cX8_shareOut.data.toList.drop 46 = dktX8_shareOut_2 := dk_seg dksX8_shareOut_1 22 rfl rfl
theorem dksX8_shareOut_3 : cX8_shareOut.data.toList.drop 70 = dktX8_shareOut_3 := dk_seg dksX8_shareOut_2 24 rfl rfl
theorem dksX8_shareOut_4 : cX8_shareOut.data.toList.drop 92 = dktX8_shareOut_4 := dk_seg dksX8_shareOut_3 22 rfl rfl
theorem dksX8_shareOut_5 : cX8_shareOut.data.toList.drop 116 = dktX8_shareOut_5 := dk_seg dksX8_shareOut_4 24 rfl rfl
theorem dksX8_shareOut_6 : cX8_shareOut.data.toList.drop 138 = dktX8_shareOut_6 := dk_seg dksX8_shareOut_5 22 rfl rfl
theorem dksX8_shareOut_7 : cX8_shareOut.data.toList.drop 160 = dktX8_shareOut_7 := dk_seg dksX8_shareOut_6 22 rfl rfl
theorem dksX8_shareOut_8 : cX8_shareOut.data.toList.drop 184 = dktX8_shareOut_8 := dk_seg dksX8_shareOut_7 24 rfl rfl
theorem dksX8_shareOut_9 : cX8_shareOut.data.toList.drop 207 = dktX8_shareOut_9 := dk_seg dksX8_shareOut_8 23 rfl rfl
theorem dksX8_shareOut_10 : cX8_shareOut.data.toList.drop 229 = dktX8_shareOut_10 := dk_seg dksX8_shareOut_9 22 rfl rfl
theorem dksX8_shareOut_11 : cX8_shareOut.data.toList.drop 253 = dktX8_shareOut_11 := dk_seg dksX8_shareOut_10 24 rfl rfl
theorem dksX8_shareOut_12 : cX8_shareOut.data.toList.drop 277 = dktX8_shareOut_12 := dk_seg dksX8_shareOut_11 24 rfl rfl
theorem dksX8_shareOut_13 : cX8_shareOut.data.toList.drop 301 = dktX8_shareOut_13 := dk_seg dksX8_shareOut_12 24 rfl rfl
theorem dX8_shareOut_0 : decode cX8_shareOut 0 = .ok (.aload_n 0, 1) := dk_42 (dk_at dksX8_shareOut_0 0 rfl rfl)
theorem dX8_shareOut_1 : decode cX8_shareOut 1 = .ok (.aload_n 0, 1) := dk_42 (dk_at dksX8_shareOut_0 1 rfl rfl)
theorem dX8_shareOut_2 : decode cX8_shareOut 2 = .ok (.iload_n 1, 1) := dk_27 (dk_at dksX8_shareOut_0 2 rfl rfl)
theorem dX8_shareOut_3 : decode cX8_shareOut 3 = .ok (.invokevirtual 161, 3) := dk_182 0 161 (dk_at dksX8_shareOut_0 3 rfl rfl)
theorem dX8_shareOut_6 : decode cX8_shareOut 6 = .ok (.iconst 1, 1) := dk_4 (dk_at dksX8_shareOut_0 6 rfl rfl)
theorem dX8_shareOut_7 : decode cX8_shareOut 7 = .ok (.invokevirtual 124, 3) := dk_182 0 124 (dk_at dksX8_shareOut_0 7 rfl rfl)
theorem dX8_shareOut_10 : decode cX8_shareOut 10 = .ok (.ifCond .ne 72, 3) := dk_154 0 72 (dk_at dksX8_shareOut_0 10 rfl rfl)
theorem dX8_shareOut_13 : decode cX8_shareOut 13 = .ok (.aload_n 0, 1) := dk_42 (dk_at dksX8_shareOut_0 13 rfl rfl)
theorem dX8_shareOut_14 : decode cX8_shareOut 14 = .ok (.iload_n 2, 1) := dk_28 (dk_at dksX8_shareOut_0 14 rfl rfl)
theorem dX8_shareOut_15 : decode cX8_shareOut 15 = .ok (.iconst 1, 1) := dk_4 (dk_at dksX8_shareOut_0 15 rfl rfl)
theorem dX8_shareOut_16 : decode cX8_shareOut 16 = .ok (.if_icmp .ge 7, 3) := dk_162 0 7 (dk_at dksX8_shareOut_0 16 rfl rfl)
theorem dX8_shareOut_19 : decode cX8_shareOut 19 = .ok (.iconst 1, 1) := dk_4 (dk_at dksX8_shareOut_0 19 rfl rfl)
theorem dX8_shareOut_20 : decode cX8_shareOut 20 = .ok (.goto 4, 3) := dk_167 0 4 (dk_at dksX8_shareOut_0 20 rfl rfl)
theorem dX8_shareOut_23 : decode cX8_shareOut 23 = .ok (.iconst 0, 1) := dk_3 (dk_at dksX8_shareOut_0 23 rfl rfl)
theorem dX8_shareOut_24 : decode cX8_shareOut 24 = .ok (.iconst 2, 1) := dk_5 (dk_at dksX8_shareOut_1 0 rfl rfl)
theorem dX8_shareOut_25 : decode cX8_shareOut 25 = .ok (.invokevirtual 52, 3) := dk_182 0 52 (dk_at dksX8_shareOut_1 1 rfl rfl)
theorem dX8_shareOut_28 : decode cX8_shareOut 28 = .ok (.ifCond .ne 54, 3) := dk_154 0 54 (dk_at dksX8_shareOut_1 4 rfl rfl)
theorem dX8_shareOut_31 : decode cX8_shareOut 31 = .ok (.aload_n 0, 1) := dk_42 (dk_at dksX8_shareOut_1 7 rfl rfl)
theorem dX8_shareOut_32 : decode cX8_shareOut 32 = .ok (.aload_n 0, 1) := dk_42 (dk_at dksX8_shareOut_1 8 rfl rfl)
theorem dX8_shareOut_33 : decode cX8_shareOut 33 = .ok (.getfield 20, 3) := dk_180 0 20 (dk_at dksX8_shareOut_1 9 rfl rfl)
theorem dX8_shareOut_36 : decode cX8_shareOut 36 = .ok (.iload_n 1, 1) := dk_27 (dk_at dksX8_shareOut_1 12 rfl rfl)
theorem dX8_shareOut_37 : decode cX8_shareOut 37 = .ok (.invokevirtual 78, 3) := dk_182 0 78 (dk_at dksX8_shareOut_1 13 rfl rfl)
theorem dX8_shareOut_40 : decode cX8_shareOut 40 = .ok (.checkcast 152, 3) := dk_192 0 152 (dk_at dksX8_shareOut_1 16 rfl rfl)
theorem dX8_shareOut_43 : decode cX8_shareOut 43 = .ok (.getfield 164, 3) := dk_180 0 164 (dk_at dksX8_shareOut_1 19 rfl rfl)
theorem dX8_shareOut_46 : decode cX8_shareOut 46 = .ok (.invokevirtual 179, 3) := dk_182 0 179 (dk_at dksX8_shareOut_2 0 rfl rfl)
theorem dX8_shareOut_49 : decode cX8_shareOut 49 = .ok (.ifCond .ne 21, 3) := dk_154 0 21 (dk_at dksX8_shareOut_2 3 rfl rfl)
theorem dX8_shareOut_52 : decode cX8_shareOut 52 = .ok (.aload_n 0, 1) := dk_42 (dk_at dksX8_shareOut_2 6 rfl rfl)
theorem dX8_shareOut_53 : decode cX8_shareOut 53 = .ok (.getfield 20, 3) := dk_180 0 20 (dk_at dksX8_shareOut_2 7 rfl rfl)
theorem dX8_shareOut_56 : decode cX8_shareOut 56 = .ok (.iload_n 1, 1) := dk_27 (dk_at dksX8_shareOut_2 10 rfl rfl)
theorem dX8_shareOut_57 : decode cX8_shareOut 57 = .ok (.invokevirtual 78, 3) := dk_182 0 78 (dk_at dksX8_shareOut_2 11 rfl rfl)
theorem dX8_shareOut_60 : decode cX8_shareOut 60 = .ok (.checkcast 152, 3) := dk_192 0 152 (dk_at dksX8_shareOut_2 14 rfl rfl)
theorem dX8_shareOut_63 : decode cX8_shareOut 63 = .ok (.getfield 176, 3) := dk_180 0 176 (dk_at dksX8_shareOut_2 17 rfl rfl)
theorem dX8_shareOut_66 : decode cX8_shareOut 66 = .ok (.iload_n 2, 1) := dk_28 (dk_at dksX8_shareOut_2 20 rfl rfl)
theorem dX8_shareOut_67 : decode cX8_shareOut 67 = .ok (.if_icmp .ge 7, 3) := dk_162 0 7 (dk_at dksX8_shareOut_2 21 rfl rfl)
theorem dX8_shareOut_70 : decode cX8_shareOut 70 = .ok (.iconst 1, 1) := dk_4 (dk_at dksX8_shareOut_3 0 rfl rfl)
theorem dX8_shareOut_71 : decode cX8_shareOut 71 = .ok (.goto 4, 3) := dk_167 0 4 (dk_at dksX8_shareOut_3 1 rfl rfl)
theorem dX8_shareOut_74 : decode cX8_shareOut 74 = .ok (.iconst 0, 1) := dk_3 (dk_at dksX8_shareOut_3 4 rfl rfl)
theorem dX8_shareOut_75 : decode cX8_shareOut 75 = .ok (.iconst 3, 1) := dk_6 (dk_at dksX8_shareOut_3 5 rfl rfl)
theorem dX8_shareOut_76 : decode cX8_shareOut 76 = .ok (.invokevirtual 52, 3) := dk_182 0 52 (dk_at dksX8_shareOut_3 6 rfl rfl)
theorem dX8_shareOut_79 : decode cX8_shareOut 79 = .ok (.ifCond .eq 5, 3) := dk_153 0 5 (dk_at dksX8_shareOut_3 9 rfl rfl)
theorem dX8_shareOut_82 : decode cX8_shareOut 82 = .ok (.iconst 0, 1) := dk_3 (dk_at dksX8_shareOut_3 12 rfl rfl)
theorem dX8_shareOut_83 : decode cX8_shareOut 83 = .ok (.ireturn, 1) := dk_172 (dk_at dksX8_shareOut_3 13 rfl rfl)
theorem dX8_shareOut_84 : decode cX8_shareOut 84 = .ok (.aload_n 0, 1) := dk_42 (dk_at dksX8_shareOut_3 14 rfl rfl)
theorem dX8_shareOut_85 : decode cX8_shareOut 85 = .ok (.getfield 20, 3) := dk_180 0 20 (dk_at dksX8_shareOut_3 15 rfl rfl)
theorem dX8_shareOut_88 : decode cX8_shareOut 88 = .ok (.iload_n 1, 1) := dk_27 (dk_at dksX8_shareOut_3 18 rfl rfl)
theorem dX8_shareOut_89 : decode cX8_shareOut 89 = .ok (.invokevirtual 78, 3) := dk_182 0 78 (dk_at dksX8_shareOut_3 19 rfl rfl)
theorem dX8_shareOut_92 : decode cX8_shareOut 92 = .ok (.checkcast 152, 3) := dk_192 0 152 (dk_at dksX8_shareOut_4 0 rfl rfl)
theorem dX8_shareOut_95 : decode cX8_shareOut 95 = .ok (.astore_n 3, 1) := dk_78 (dk_at dksX8_shareOut_4 3 rfl rfl)
theorem dX8_shareOut_96 : decode cX8_shareOut 96 = .ok (.aload_n 3, 1) := dk_45 (dk_at dksX8_shareOut_4 4 rfl rfl)
theorem dX8_shareOut_97 : decode cX8_shareOut 97 = .ok (.invokevirtual 183, 3) := dk_182 0 183 (dk_at dksX8_shareOut_4 5 rfl rfl)
theorem dX8_shareOut_100 : decode cX8_shareOut 100 = .ok (.istore 4, 2) := dk_54 4 (dk_at dksX8_shareOut_4 8 rfl rfl)
theorem dX8_shareOut_102 : decode cX8_shareOut 102 = .ok (.iload_n 2, 1) := dk_28 (dk_at dksX8_shareOut_4 10 rfl rfl)
theorem dX8_shareOut_103 : decode cX8_shareOut 103 = .ok (.istore 5, 2) := dk_54 5 (dk_at dksX8_shareOut_4 11 rfl rfl)
theorem dX8_shareOut_105 : decode cX8_shareOut 105 = .ok (.aload_n 3, 1) := dk_45 (dk_at dksX8_shareOut_4 13 rfl rfl)
theorem dX8_shareOut_106 : decode cX8_shareOut 106 = .ok (.getfield 164, 3) := dk_180 0 164 (dk_at dksX8_shareOut_4 14 rfl rfl)
theorem dX8_shareOut_109 : decode cX8_shareOut 109 = .ok (.invokevirtual 56, 3) := dk_182 0 56 (dk_at dksX8_shareOut_4 17 rfl rfl)
theorem dX8_shareOut_112 : decode cX8_shareOut 112 = .ok (.newarray .long, 2) := dk_188_11 (dk_at dksX8_shareOut_4 20 rfl rfl)
theorem dX8_shareOut_114 : decode cX8_shareOut 114 = .ok (.astore 6, 2) := dk_58 6 (dk_at dksX8_shareOut_4 22 rfl rfl)
theorem dX8_shareOut_116 : decode cX8_shareOut 116 = .ok (.iconst 0, 1) := dk_3 (dk_at dksX8_shareOut_5 0 rfl rfl)
theorem dX8_shareOut_117 : decode cX8_shareOut 117 = .ok (.istore 7, 2) := dk_54 7 (dk_at dksX8_shareOut_5 1 rfl rfl)
theorem dX8_shareOut_119 : decode cX8_shareOut 119 = .ok (.iload 7, 2) := dk_21 7 (dk_at dksX8_shareOut_5 3 rfl rfl)
theorem dX8_shareOut_121 : decode cX8_shareOut 121 = .ok (.aload 6, 2) := dk_25 6 (dk_at dksX8_shareOut_5 5 rfl rfl)
theorem dX8_shareOut_123 : decode cX8_shareOut 123 = .ok (.arraylength, 1) := dk_190 (dk_at dksX8_shareOut_5 7 rfl rfl)
theorem dX8_shareOut_124 : decode cX8_shareOut 124 = .ok (.if_icmp .ge 89, 3) := dk_162 0 89 (dk_at dksX8_shareOut_5 8 rfl rfl)
theorem dX8_shareOut_127 : decode cX8_shareOut 127 = .ok (.iload_n 2, 1) := dk_28 (dk_at dksX8_shareOut_5 11 rfl rfl)
theorem dX8_shareOut_128 : decode cX8_shareOut 128 = .ok (.i2l, 1) := dk_133 (dk_at dksX8_shareOut_5 12 rfl rfl)
theorem dX8_shareOut_129 : decode cX8_shareOut 129 = .ok (.aload_n 3, 1) := dk_45 (dk_at dksX8_shareOut_5 13 rfl rfl)
theorem dX8_shareOut_130 : decode cX8_shareOut 130 = .ok (.getfield 164, 3) := dk_180 0 164 (dk_at dksX8_shareOut_5 14 rfl rfl)
theorem dX8_shareOut_133 : decode cX8_shareOut 133 = .ok (.iload 7, 2) := dk_21 7 (dk_at dksX8_shareOut_5 17 rfl rfl)
theorem dX8_shareOut_135 : decode cX8_shareOut 135 = .ok (.invokevirtual 78, 3) := dk_182 0 78 (dk_at dksX8_shareOut_5 19 rfl rfl)
theorem dX8_shareOut_138 : decode cX8_shareOut 138 = .ok (.checkcast 168, 3) := dk_192 0 168 (dk_at dksX8_shareOut_6 0 rfl rfl)
theorem dX8_shareOut_141 : decode cX8_shareOut 141 = .ok (.invokevirtual 186, 3) := dk_182 0 186 (dk_at dksX8_shareOut_6 3 rfl rfl)
theorem dX8_shareOut_144 : decode cX8_shareOut 144 = .ok (.i2l, 1) := dk_133 (dk_at dksX8_shareOut_6 6 rfl rfl)
theorem dX8_shareOut_145 : decode cX8_shareOut 145 = .ok (.lmul, 1) := dk_105 (dk_at dksX8_shareOut_6 7 rfl rfl)
theorem dX8_shareOut_146 : decode cX8_shareOut 146 = .ok (.lstore 8, 2) := dk_55 8 (dk_at dksX8_shareOut_6 8 rfl rfl)
theorem dX8_shareOut_148 : decode cX8_shareOut 148 = .ok (.aload 6, 2) := dk_25 6 (dk_at dksX8_shareOut_6 10 rfl rfl)
theorem dX8_shareOut_150 : decode cX8_shareOut 150 = .ok (.iload 7, 2) := dk_21 7 (dk_at dksX8_shareOut_6 12 rfl rfl)
theorem dX8_shareOut_152 : decode cX8_shareOut 152 = .ok (.lload 8, 2) := dk_22 8 (dk_at dksX8_shareOut_6 14 rfl rfl)
theorem dX8_shareOut_154 : decode cX8_shareOut 154 = .ok (.iload 4, 2) := dk_21 4 (dk_at dksX8_shareOut_6 16 rfl rfl)
theorem dX8_shareOut_156 : decode cX8_shareOut 156 = .ok (.i2l, 1) := dk_133 (dk_at dksX8_shareOut_6 18 rfl rfl)
theorem dX8_shareOut_157 : decode cX8_shareOut 157 = .ok (.lrem, 1) := dk_113 (dk_at dksX8_shareOut_6 19 rfl rfl)
theorem dX8_shareOut_158 : decode cX8_shareOut 158 = .ok (.lastore, 1) := dk_80 (dk_at dksX8_shareOut_6 20 rfl rfl)
theorem dX8_shareOut_159 : decode cX8_shareOut 159 = .ok (.aload_n 3, 1) := dk_45 (dk_at dksX8_shareOut_6 21 rfl rfl)
theorem dX8_shareOut_160 : decode cX8_shareOut 160 = .ok (.getfield 173, 3) := dk_180 0 173 (dk_at dksX8_shareOut_7 0 rfl rfl)
theorem dX8_shareOut_163 : decode cX8_shareOut 163 = .ok (.iload 7, 2) := dk_21 7 (dk_at dksX8_shareOut_7 3 rfl rfl)
theorem dX8_shareOut_165 : decode cX8_shareOut 165 = .ok (.aload_n 3, 1) := dk_45 (dk_at dksX8_shareOut_7 5 rfl rfl)
theorem dX8_shareOut_166 : decode cX8_shareOut 166 = .ok (.getfield 173, 3) := dk_180 0 173 (dk_at dksX8_shareOut_7 6 rfl rfl)
theorem dX8_shareOut_169 : decode cX8_shareOut 169 = .ok (.iload 7, 2) := dk_21 7 (dk_at dksX8_shareOut_7 9 rfl rfl)
theorem dX8_shareOut_171 : decode cX8_shareOut 171 = .ok (.invokevirtual 78, 3) := dk_182 0 78 (dk_at dksX8_shareOut_7 11 rfl rfl)
theorem dX8_shareOut_174 : decode cX8_shareOut 174 = .ok (.checkcast 168, 3) := dk_192 0 168 (dk_at dksX8_shareOut_7 14 rfl rfl)
theorem dX8_shareOut_177 : decode cX8_shareOut 177 = .ok (.invokevirtual 186, 3) := dk_182 0 186 (dk_at dksX8_shareOut_7 17 rfl rfl)
theorem dX8_shareOut_180 : decode cX8_shareOut 180 = .ok (.lload 8, 2) := dk_22 8 (dk_at dksX8_shareOut_7 20 rfl rfl)
theorem dX8_shareOut_182 : decode cX8_shareOut 182 = .ok (.iload 4, 2) := dk_21 4 (dk_at dksX8_shareOut_7 22 rfl rfl)
theorem dX8_shareOut_184 : decode cX8_shareOut 184 = .ok (.i2l, 1) := dk_133 (dk_at dksX8_shareOut_8 0 rfl rfl)
theorem dX8_shareOut_185 : decode cX8_shareOut 185 = .ok (.ldiv, 1) := dk_109 (dk_at dksX8_shareOut_8 1 rfl rfl)
theorem dX8_shareOut_186 : decode cX8_shareOut 186 = .ok (.l2i, 1) := dk_136 (dk_at dksX8_shareOut_8 2 rfl rfl)
theorem dX8_shareOut_187 : decode cX8_shareOut 187 = .ok (.iadd, 1) := dk_96 (dk_at dksX8_shareOut_8 3 rfl rfl)
theorem dX8_shareOut_188 : decode cX8_shareOut 188 = .ok (.invokestatic 167, 3) := dk_184 0 167 (dk_at dksX8_shareOut_8 4 rfl rfl)
theorem dX8_shareOut_191 : decode cX8_shareOut 191 = .ok (.invokevirtual 189, 3) := dk_182 0 189 (dk_at dksX8_shareOut_8 7 rfl rfl)
theorem dX8_shareOut_194 : decode cX8_shareOut 194 = .ok (.pop, 1) := dk_87 (dk_at dksX8_shareOut_8 10 rfl rfl)
theorem dX8_shareOut_195 : decode cX8_shareOut 195 = .ok (.iload 5, 2) := dk_21 5 (dk_at dksX8_shareOut_8 11 rfl rfl)
theorem dX8_shareOut_197 : decode cX8_shareOut 197 = .ok (.lload 8, 2) := dk_22 8 (dk_at dksX8_shareOut_8 13 rfl rfl)
theorem dX8_shareOut_199 : decode cX8_shareOut 199 = .ok (.iload 4, 2) := dk_21 4 (dk_at dksX8_shareOut_8 15 rfl rfl)
theorem dX8_shareOut_201 : decode cX8_shareOut 201 = .ok (.i2l, 1) := dk_133 (dk_at dksX8_shareOut_8 17 rfl rfl)
theorem dX8_shareOut_202 : decode cX8_shareOut 202 = .ok (.ldiv, 1) := dk_109 (dk_at dksX8_shareOut_8 18 rfl rfl)
theorem dX8_shareOut_203 : decode cX8_shareOut 203 = .ok (.l2i, 1) := dk_136 (dk_at dksX8_shareOut_8 19 rfl rfl)
theorem dX8_shareOut_204 : decode cX8_shareOut 204 = .ok (.isub, 1) := dk_100 (dk_at dksX8_shareOut_8 20 rfl rfl)
theorem dX8_shareOut_205 : decode cX8_shareOut 205 = .ok (.istore 5, 2) := dk_54 5 (dk_at dksX8_shareOut_8 21 rfl rfl)
theorem dX8_shareOut_207 : decode cX8_shareOut 207 = .ok (.iinc 7 1, 3) := dk_132 7 1 (dk_at dksX8_shareOut_9 0 rfl rfl)
theorem dX8_shareOut_210 : decode cX8_shareOut 210 = .ok (.goto (-91), 3) := dk_167 255 165 (dk_at dksX8_shareOut_9 3 rfl rfl)
theorem dX8_shareOut_213 : decode cX8_shareOut 213 = .ok (.iload 5, 2) := dk_21 5 (dk_at dksX8_shareOut_9 6 rfl rfl)
theorem dX8_shareOut_215 : decode cX8_shareOut 215 = .ok (.ifCond .le 85, 3) := dk_158 0 85 (dk_at dksX8_shareOut_9 8 rfl rfl)
theorem dX8_shareOut_218 : decode cX8_shareOut 218 = .ok (.iconst 0, 1) := dk_3 (dk_at dksX8_shareOut_9 11 rfl rfl)
theorem dX8_shareOut_219 : decode cX8_shareOut 219 = .ok (.istore 7, 2) := dk_54 7 (dk_at dksX8_shareOut_9 12 rfl rfl)
theorem dX8_shareOut_221 : decode cX8_shareOut 221 = .ok (.iconst 1, 1) := dk_4 (dk_at dksX8_shareOut_9 14 rfl rfl)
theorem dX8_shareOut_222 : decode cX8_shareOut 222 = .ok (.istore 8, 2) := dk_54 8 (dk_at dksX8_shareOut_9 15 rfl rfl)
theorem dX8_shareOut_224 : decode cX8_shareOut 224 = .ok (.iload 8, 2) := dk_21 8 (dk_at dksX8_shareOut_9 17 rfl rfl)
theorem dX8_shareOut_226 : decode cX8_shareOut 226 = .ok (.aload 6, 2) := dk_25 6 (dk_at dksX8_shareOut_9 19 rfl rfl)
theorem dX8_shareOut_228 : decode cX8_shareOut 228 = .ok (.arraylength, 1) := dk_190 (dk_at dksX8_shareOut_9 21 rfl rfl)
theorem dX8_shareOut_229 : decode cX8_shareOut 229 = .ok (.if_icmp .ge 27, 3) := dk_162 0 27 (dk_at dksX8_shareOut_10 0 rfl rfl)
theorem dX8_shareOut_232 : decode cX8_shareOut 232 = .ok (.aload 6, 2) := dk_25 6 (dk_at dksX8_shareOut_10 3 rfl rfl)
theorem dX8_shareOut_234 : decode cX8_shareOut 234 = .ok (.iload 8, 2) := dk_21 8 (dk_at dksX8_shareOut_10 5 rfl rfl)
theorem dX8_shareOut_236 : decode cX8_shareOut 236 = .ok (.laload, 1) := dk_47 (dk_at dksX8_shareOut_10 7 rfl rfl)
theorem dX8_shareOut_237 : decode cX8_shareOut 237 = .ok (.aload 6, 2) := dk_25 6 (dk_at dksX8_shareOut_10 8 rfl rfl)
theorem dX8_shareOut_239 : decode cX8_shareOut 239 = .ok (.iload 7, 2) := dk_21 7 (dk_at dksX8_shareOut_10 10 rfl rfl)
theorem dX8_shareOut_241 : decode cX8_shareOut 241 = .ok (.laload, 1) := dk_47 (dk_at dksX8_shareOut_10 12 rfl rfl)
theorem dX8_shareOut_242 : decode cX8_shareOut 242 = .ok (.lcmp, 1) := dk_148 (dk_at dksX8_shareOut_10 13 rfl rfl)
theorem dX8_shareOut_243 : decode cX8_shareOut 243 = .ok (.ifCond .le 7, 3) := dk_158 0 7 (dk_at dksX8_shareOut_10 14 rfl rfl)
theorem dX8_shareOut_246 : decode cX8_shareOut 246 = .ok (.iload 8, 2) := dk_21 8 (dk_at dksX8_shareOut_10 17 rfl rfl)
theorem dX8_shareOut_248 : decode cX8_shareOut 248 = .ok (.istore 7, 2) := dk_54 7 (dk_at dksX8_shareOut_10 19 rfl rfl)
theorem dX8_shareOut_250 : decode cX8_shareOut 250 = .ok (.iinc 8 1, 3) := dk_132 8 1 (dk_at dksX8_shareOut_10 21 rfl rfl)
theorem dX8_shareOut_253 : decode cX8_shareOut 253 = .ok (.goto (-29), 3) := dk_167 255 227 (dk_at dksX8_shareOut_11 0 rfl rfl)
theorem dX8_shareOut_256 : decode cX8_shareOut 256 = .ok (.aload_n 3, 1) := dk_45 (dk_at dksX8_shareOut_11 3 rfl rfl)
theorem dX8_shareOut_257 : decode cX8_shareOut 257 = .ok (.getfield 173, 3) := dk_180 0 173 (dk_at dksX8_shareOut_11 4 rfl rfl)
theorem dX8_shareOut_260 : decode cX8_shareOut 260 = .ok (.iload 7, 2) := dk_21 7 (dk_at dksX8_shareOut_11 7 rfl rfl)
theorem dX8_shareOut_262 : decode cX8_shareOut 262 = .ok (.aload_n 3, 1) := dk_45 (dk_at dksX8_shareOut_11 9 rfl rfl)
theorem dX8_shareOut_263 : decode cX8_shareOut 263 = .ok (.getfield 173, 3) := dk_180 0 173 (dk_at dksX8_shareOut_11 10 rfl rfl)
theorem dX8_shareOut_266 : decode cX8_shareOut 266 = .ok (.iload 7, 2) := dk_21 7 (dk_at dksX8_shareOut_11 13 rfl rfl)
theorem dX8_shareOut_268 : decode cX8_shareOut 268 = .ok (.invokevirtual 78, 3) := dk_182 0 78 (dk_at dksX8_shareOut_11 15 rfl rfl)
theorem dX8_shareOut_271 : decode cX8_shareOut 271 = .ok (.checkcast 168, 3) := dk_192 0 168 (dk_at dksX8_shareOut_11 18 rfl rfl)
theorem dX8_shareOut_274 : decode cX8_shareOut 274 = .ok (.invokevirtual 186, 3) := dk_182 0 186 (dk_at dksX8_shareOut_11 21 rfl rfl)
theorem dX8_shareOut_277 : decode cX8_shareOut 277 = .ok (.iconst 1, 1) := dk_4 (dk_at dksX8_shareOut_12 0 rfl rfl)
theorem dX8_shareOut_278 : decode cX8_shareOut 278 = .ok (.iadd, 1) := dk_96 (dk_at dksX8_shareOut_12 1 rfl rfl)
theorem dX8_shareOut_279 : decode cX8_shareOut 279 = .ok (.invokestatic 167, 3) := dk_184 0 167 (dk_at dksX8_shareOut_12 2 rfl rfl)
theorem dX8_shareOut_282 : decode cX8_shareOut 282 = .ok (.invokevirtual 189, 3) := dk_182 0 189 (dk_at dksX8_shareOut_12 5 rfl rfl)
theorem dX8_shareOut_285 : decode cX8_shareOut 285 = .ok (.pop, 1) := dk_87 (dk_at dksX8_shareOut_12 8 rfl rfl)
theorem dX8_shareOut_286 : decode cX8_shareOut 286 = .ok (.aload 6, 2) := dk_25 6 (dk_at dksX8_shareOut_12 9 rfl rfl)
theorem dX8_shareOut_288 : decode cX8_shareOut 288 = .ok (.iload 7, 2) := dk_21 7 (dk_at dksX8_shareOut_12 11 rfl rfl)
theorem dX8_shareOut_290 : decode cX8_shareOut 290 = .ok (.ldc2_w 193, 3) := dk_20 0 193 (dk_at dksX8_shareOut_12 13 rfl rfl)
theorem dX8_shareOut_293 : decode cX8_shareOut 293 = .ok (.lastore, 1) := dk_80 (dk_at dksX8_shareOut_12 16 rfl rfl)
theorem dX8_shareOut_294 : decode cX8_shareOut 294 = .ok (.iinc 5 (-1), 3) := dk_132 5 255 (dk_at dksX8_shareOut_12 17 rfl rfl)
theorem dX8_shareOut_297 : decode cX8_shareOut 297 = .ok (.goto (-84), 3) := dk_167 255 172 (dk_at dksX8_shareOut_12 20 rfl rfl)
theorem dX8_shareOut_300 : decode cX8_shareOut 300 = .ok (.aload_n 3, 1) := dk_45 (dk_at dksX8_shareOut_12 23 rfl rfl)
theorem dX8_shareOut_301 : decode cX8_shareOut 301 = .ok (.dup, 1) := dk_89 (dk_at dksX8_shareOut_13 0 rfl rfl)
theorem dX8_shareOut_302 : decode cX8_shareOut 302 = .ok (.getfield 176, 3) := dk_180 0 176 (dk_at dksX8_shareOut_13 1 rfl rfl)
theorem dX8_shareOut_305 : decode cX8_shareOut 305 = .ok (.iload_n 2, 1) := dk_28 (dk_at dksX8_shareOut_13 4 rfl rfl)
theorem dX8_shareOut_306 : decode cX8_shareOut 306 = .ok (.isub, 1) := dk_100 (dk_at dksX8_shareOut_13 5 rfl rfl)
theorem dX8_shareOut_307 : decode cX8_shareOut 307 = .ok (.putfield 176, 3) := dk_181 0 176 (dk_at dksX8_shareOut_13 6 rfl rfl)
theorem dX8_shareOut_310 : decode cX8_shareOut 310 = .ok (.aload_n 0, 1) := dk_42 (dk_at dksX8_shareOut_13 9 rfl rfl)
theorem dX8_shareOut_311 : decode cX8_shareOut 311 = .ok (.dup, 1) := dk_89 (dk_at dksX8_shareOut_13 10 rfl rfl)
theorem dX8_shareOut_312 : decode cX8_shareOut 312 = .ok (.getfield 121, 3) := dk_180 0 121 (dk_at dksX8_shareOut_13 11 rfl rfl)
theorem dX8_shareOut_315 : decode cX8_shareOut 315 = .ok (.iload_n 2, 1) := dk_28 (dk_at dksX8_shareOut_13 14 rfl rfl)
theorem dX8_shareOut_316 : decode cX8_shareOut 316 = .ok (.iadd, 1) := dk_96 (dk_at dksX8_shareOut_13 15 rfl rfl)
theorem dX8_shareOut_317 : decode cX8_shareOut 317 = .ok (.putfield 121, 3) := dk_181 0 121 (dk_at dksX8_shareOut_13 16 rfl rfl)
theorem dX8_shareOut_320 : decode cX8_shareOut 320 = .ok (.aload_n 3, 1) := dk_45 (dk_at dksX8_shareOut_13 19 rfl rfl)
theorem dX8_shareOut_321 : decode cX8_shareOut 321 = .ok (.getfield 176, 3) := dk_180 0 176 (dk_at dksX8_shareOut_13 20 rfl rfl)
theorem dX8_shareOut_324 : decode cX8_shareOut 324 = .ok (.ireturn, 1) := dk_172 (dk_at dksX8_shareOut_13 23 rfl rfl)
abbrev cX8_ring : ByteArray := prog_19_method_27_code
def yX8_ring : MethodName := ⟨RX8, "ring", "(II)I"⟩
def dkwX8_ring_2 : List UInt8 := [180, 0, 158, 62, 42, 180, 0, 20, 27, 182, 0, 78, 192, 0, 152, 28, 181, 0, 158, 29, 172]
abbrev dktX8_ring_2 : List UInt8 := dkwX8_ring_2 ++ []
def dkwX8_ring_1 : List UInt8 := [167, 0, 4, 3, 5, 182, 0, 52, 153, 0, 5, 3, 172, 42, 180, 0, 20, 27, 182, 0, 78, 192, 0, 152]
abbrev dktX8_ring_1 : List UInt8 := dkwX8_ring_1 ++ dktX8_ring_2
def dkwX8_ring_0 : List UInt8 := [42, 42, 27, 182, 0, 161, 4, 182, 0, 124, 154, 0, 25, 42, 28, 3, 6, 184, 0, 60, 154, 0, 7, 4]
abbrev dktX8_ring_0 : List UInt8 := dkwX8_ring_0 ++ dktX8_ring_1
theorem dksX8_ring_0 : cX8_ring.data.toList.drop 0 = dktX8_ring_0 := by decide +kernel
theorem dksX8_ring_1 : cX8_ring.data.toList.drop 24 = dktX8_ring_1 := dk_seg dksX8_ring_0 24 rfl rfl
theorem dksX8_ring_2 : cX8_ring.data.toList.drop 48 = dktX8_ring_2 := dk_seg dksX8_ring_1 24 rfl rfl
theorem dX8_ring_0 : decode cX8_ring 0 = .ok (.aload_n 0, 1) := dk_42 (dk_at dksX8_ring_0 0 rfl rfl)
theorem dX8_ring_1 : decode cX8_ring 1 = .ok (.aload_n 0, 1) := dk_42 (dk_at dksX8_ring_0 1 rfl rfl)
theorem dX8_ring_2 : decode cX8_ring 2 = .ok (.iload_n 1, 1) := dk_27 (dk_at dksX8_ring_0 2 rfl rfl)
theorem dX8_ring_3 : decode cX8_ring 3 = .ok (.invokevirtual 161, 3) := dk_182 0 161 (dk_at dksX8_ring_0 3 rfl rfl)
theorem dX8_ring_6 : decode cX8_ring 6 = .ok (.iconst 1, 1) := dk_4 (dk_at dksX8_ring_0 6 rfl rfl)
theorem dX8_ring_7 : decode cX8_ring 7 = .ok (.invokevirtual 124, 3) := dk_182 0 124 (dk_at dksX8_ring_0 7 rfl rfl)
theorem dX8_ring_10 : decode cX8_ring 10 = .ok (.ifCond .ne 25, 3) := dk_154 0 25 (dk_at dksX8_ring_0 10 rfl rfl)
theorem dX8_ring_13 : decode cX8_ring 13 = .ok (.aload_n 0, 1) := dk_42 (dk_at dksX8_ring_0 13 rfl rfl)
theorem dX8_ring_14 : decode cX8_ring 14 = .ok (.iload_n 2, 1) := dk_28 (dk_at dksX8_ring_0 14 rfl rfl)
theorem dX8_ring_15 : decode cX8_ring 15 = .ok (.iconst 0, 1) := dk_3 (dk_at dksX8_ring_0 15 rfl rfl)
theorem dX8_ring_16 : decode cX8_ring 16 = .ok (.iconst 3, 1) := dk_6 (dk_at dksX8_ring_0 16 rfl rfl)
theorem dX8_ring_17 : decode cX8_ring 17 = .ok (.invokestatic 60, 3) := dk_184 0 60 (dk_at dksX8_ring_0 17 rfl rfl)
theorem dX8_ring_20 : decode cX8_ring 20 = .ok (.ifCond .ne 7, 3) := dk_154 0 7 (dk_at dksX8_ring_0 20 rfl rfl)
theorem dX8_ring_23 : decode cX8_ring 23 = .ok (.iconst 1, 1) := dk_4 (dk_at dksX8_ring_0 23 rfl rfl)
theorem dX8_ring_24 : decode cX8_ring 24 = .ok (.goto 4, 3) := dk_167 0 4 (dk_at dksX8_ring_1 0 rfl rfl)
theorem dX8_ring_27 : decode cX8_ring 27 = .ok (.iconst 0, 1) := dk_3 (dk_at dksX8_ring_1 3 rfl rfl)
theorem dX8_ring_28 : decode cX8_ring 28 = .ok (.iconst 2, 1) := dk_5 (dk_at dksX8_ring_1 4 rfl rfl)
theorem dX8_ring_29 : decode cX8_ring 29 = .ok (.invokevirtual 52, 3) := dk_182 0 52 (dk_at dksX8_ring_1 5 rfl rfl)
theorem dX8_ring_32 : decode cX8_ring 32 = .ok (.ifCond .eq 5, 3) := dk_153 0 5 (dk_at dksX8_ring_1 8 rfl rfl)
theorem dX8_ring_35 : decode cX8_ring 35 = .ok (.iconst 0, 1) := dk_3 (dk_at dksX8_ring_1 11 rfl rfl)
theorem dX8_ring_36 : decode cX8_ring 36 = .ok (.ireturn, 1) := dk_172 (dk_at dksX8_ring_1 12 rfl rfl)
theorem dX8_ring_37 : decode cX8_ring 37 = .ok (.aload_n 0, 1) := dk_42 (dk_at dksX8_ring_1 13 rfl rfl)
theorem dX8_ring_38 : decode cX8_ring 38 = .ok (.getfield 20, 3) := dk_180 0 20 (dk_at dksX8_ring_1 14 rfl rfl)
theorem dX8_ring_41 : decode cX8_ring 41 = .ok (.iload_n 1, 1) := dk_27 (dk_at dksX8_ring_1 17 rfl rfl)
theorem dX8_ring_42 : decode cX8_ring 42 = .ok (.invokevirtual 78, 3) := dk_182 0 78 (dk_at dksX8_ring_1 18 rfl rfl)
theorem dX8_ring_45 : decode cX8_ring 45 = .ok (.checkcast 152, 3) := dk_192 0 152 (dk_at dksX8_ring_1 21 rfl rfl)
theorem dX8_ring_48 : decode cX8_ring 48 = .ok (.getfield 158, 3) := dk_180 0 158 (dk_at dksX8_ring_2 0 rfl rfl)
theorem dX8_ring_51 : decode cX8_ring 51 = .ok (.istore_n 3, 1) := dk_62 (dk_at dksX8_ring_2 3 rfl rfl)
theorem dX8_ring_52 : decode cX8_ring 52 = .ok (.aload_n 0, 1) := dk_42 (dk_at dksX8_ring_2 4 rfl rfl)
theorem dX8_ring_53 : decode cX8_ring 53 = .ok (.getfield 20, 3) := dk_180 0 20 (dk_at dksX8_ring_2 5 rfl rfl)
theorem dX8_ring_56 : decode cX8_ring 56 = .ok (.iload_n 1, 1) := dk_27 (dk_at dksX8_ring_2 8 rfl rfl)
theorem dX8_ring_57 : decode cX8_ring 57 = .ok (.invokevirtual 78, 3) := dk_182 0 78 (dk_at dksX8_ring_2 9 rfl rfl)
theorem dX8_ring_60 : decode cX8_ring 60 = .ok (.checkcast 152, 3) := dk_192 0 152 (dk_at dksX8_ring_2 12 rfl rfl)
theorem dX8_ring_63 : decode cX8_ring 63 = .ok (.iload_n 2, 1) := dk_28 (dk_at dksX8_ring_2 15 rfl rfl)
theorem dX8_ring_64 : decode cX8_ring 64 = .ok (.putfield 158, 3) := dk_181 0 158 (dk_at dksX8_ring_2 16 rfl rfl)
theorem dX8_ring_67 : decode cX8_ring 67 = .ok (.iload_n 3, 1) := dk_29 (dk_at dksX8_ring_2 19 rfl rfl)
theorem dX8_ring_68 : decode cX8_ring 68 = .ok (.ireturn, 1) := dk_172 (dk_at dksX8_ring_2 20 rfl rfl)
abbrev cX8_lot : ByteArray := prog_19_method_29_code
def yX8_lot : MethodName := ⟨RX8, "lot", "(IIII)I"⟩
def dkwX8_lot_6 : List UInt8 := [180, 0, 23, 25, 6, 182, 0, 134, 87, 42, 180, 0, 23, 182, 0, 56, 4, 100, 172]
abbrev dktX8_lot_6 : List UInt8 := dkwX8_lot_6 ++ []
def dkwX8_lot_5 : List UInt8 := [181, 0, 213, 25, 6, 28, 181, 0, 216, 25, 6, 29, 181, 0, 222, 25, 6, 21, 4, 181, 0, 225, 42]
abbrev dktX8_lot_5 : List UInt8 := dkwX8_lot_5 ++ dktX8_lot_6
def dkwX8_lot_4 : List UInt8 := [3, 6, 182, 0, 52, 153, 0, 5, 3, 172, 187, 0, 208, 89, 183, 0, 221, 58, 6, 25, 6, 27]
abbrev dktX8_lot_4 : List UInt8 := dkwX8_lot_4 ++ dktX8_lot_5
def dkwX8_lot_3 : List UInt8 := [180, 0, 23, 182, 0, 56, 16, 8, 159, 0, 12, 42, 27, 28, 182, 0, 218, 153, 0, 7, 4, 167, 0, 4]
abbrev dktX8_lot_3 : List UInt8 := dkwX8_lot_3 ++ dktX8_lot_4
def dkwX8_lot_2 : List UInt8 := [184, 0, 149, 4, 182, 0, 124, 154, 0, 47, 42, 21, 5, 5, 182, 0, 52, 154, 0, 37, 42, 42]
abbrev dktX8_lot_2 : List UInt8 := dkwX8_lot_2 ++ dktX8_lot_3
def dkwX8_lot_1 : List UInt8 := [153, 0, 15, 21, 4, 3, 17, 19, 136, 184, 0, 60, 154, 0, 7, 4, 167, 0, 4, 3, 54, 5, 42, 27]
abbrev dktX8_lot_1 : List UInt8 := dkwX8_lot_1 ++ dktX8_lot_2
def dkwX8_lot_0 : List UInt8 := [28, 4, 161, 0, 36, 28, 42, 180, 0, 16, 182, 0, 56, 122, 154, 0, 24, 29, 4, 8, 184, 0, 60]
abbrev dktX8_lot_0 : List UInt8 := dkwX8_lot_0 ++ dktX8_lot_1
theorem dksX8_lot_0 : cX8_lot.data.toList.drop 0 = dktX8_lot_0 := by decide +kernel
theorem dksX8_lot_1 : cX8_lot.data.toList.drop 23 = dktX8_lot_1 := dk_seg dksX8_lot_0 23 rfl rfl
theorem dksX8_lot_2 : cX8_lot.data.toList.drop 47 = dktX8_lot_2 := dk_seg dksX8_lot_1 24 rfl rfl
theorem dksX8_lot_3 : cX8_lot.data.toList.drop 69 = dktX8_lot_3 := dk_seg dksX8_lot_2 22 rfl rfl
theorem dksX8_lot_4 : cX8_lot.data.toList.drop 93 = dktX8_lot_4 := dk_seg dksX8_lot_3 24 rfl rfl
theorem dksX8_lot_5 : cX8_lot.data.toList.drop 115 = dktX8_lot_5 := dk_seg dksX8_lot_4 22 rfl rfl
theorem dksX8_lot_6 : cX8_lot.data.toList.drop 138 = dktX8_lot_6 := dk_seg dksX8_lot_5 23 rfl rfl
theorem dX8_lot_0 : decode cX8_lot 0 = .ok (.iload_n 2, 1) := dk_28 (dk_at dksX8_lot_0 0 rfl rfl)
theorem dX8_lot_1 : decode cX8_lot 1 = .ok (.iconst 1, 1) := dk_4 (dk_at dksX8_lot_0 1 rfl rfl)
theorem dX8_lot_2 : decode cX8_lot 2 = .ok (.if_icmp .lt 36, 3) := dk_161 0 36 (dk_at dksX8_lot_0 2 rfl rfl)
theorem dX8_lot_5 : decode cX8_lot 5 = .ok (.iload_n 2, 1) := dk_28 (dk_at dksX8_lot_0 5 rfl rfl)
theorem dX8_lot_6 : decode cX8_lot 6 = .ok (.aload_n 0, 1) := dk_42 (dk_at dksX8_lot_0 6 rfl rfl)
theorem dX8_lot_7 : decode cX8_lot 7 = .ok (.getfield 16, 3) := dk_180 0 16 (dk_at dksX8_lot_0 7 rfl rfl)
theorem dX8_lot_10 : decode cX8_lot 10 = .ok (.invokevirtual 56, 3) := dk_182 0 56 (dk_at dksX8_lot_0 10 rfl rfl)
theorem dX8_lot_13 : decode cX8_lot 13 = .ok (.ishr, 1) := dk_122 (dk_at dksX8_lot_0 13 rfl rfl)
theorem dX8_lot_14 : decode cX8_lot 14 = .ok (.ifCond .ne 24, 3) := dk_154 0 24 (dk_at dksX8_lot_0 14 rfl rfl)
theorem dX8_lot_17 : decode cX8_lot 17 = .ok (.iload_n 3, 1) := dk_29 (dk_at dksX8_lot_0 17 rfl rfl)
theorem dX8_lot_18 : decode cX8_lot 18 = .ok (.iconst 1, 1) := dk_4 (dk_at dksX8_lot_0 18 rfl rfl)
theorem dX8_lot_19 : decode cX8_lot 19 = .ok (.iconst 5, 1) := dk_8 (dk_at dksX8_lot_0 19 rfl rfl)
theorem dX8_lot_20 : decode cX8_lot 20 = .ok (.invokestatic 60, 3) := dk_184 0 60 (dk_at dksX8_lot_0 20 rfl rfl)
theorem dX8_lot_23 : decode cX8_lot 23 = .ok (.ifCond .eq 15, 3) := dk_153 0 15 (dk_at dksX8_lot_1 0 rfl rfl)
theorem dX8_lot_26 : decode cX8_lot 26 = .ok (.iload 4, 2) := dk_21 4 (dk_at dksX8_lot_1 3 rfl rfl)
theorem dX8_lot_28 : decode cX8_lot 28 = .ok (.iconst 0, 1) := dk_3 (dk_at dksX8_lot_1 5 rfl rfl)
theorem dX8_lot_29 : decode cX8_lot 29 = .ok (.sipush 5000, 3) := dk_17 19 136 (dk_at dksX8_lot_1 6 rfl rfl)
theorem dX8_lot_32 : decode cX8_lot 32 = .ok (.invokestatic 60, 3) := dk_184 0 60 (dk_at dksX8_lot_1 9 rfl rfl)
theorem dX8_lot_35 : decode cX8_lot 35 = .ok (.ifCond .ne 7, 3) := dk_154 0 7 (dk_at dksX8_lot_1 12 rfl rfl)
theorem dX8_lot_38 : decode cX8_lot 38 = .ok (.iconst 1, 1) := dk_4 (dk_at dksX8_lot_1 15 rfl rfl)
theorem dX8_lot_39 : decode cX8_lot 39 = .ok (.goto 4, 3) := dk_167 0 4 (dk_at dksX8_lot_1 16 rfl rfl)
theorem dX8_lot_42 : decode cX8_lot 42 = .ok (.iconst 0, 1) := dk_3 (dk_at dksX8_lot_1 19 rfl rfl)
theorem dX8_lot_43 : decode cX8_lot 43 = .ok (.istore 5, 2) := dk_54 5 (dk_at dksX8_lot_1 20 rfl rfl)
theorem dX8_lot_45 : decode cX8_lot 45 = .ok (.aload_n 0, 1) := dk_42 (dk_at dksX8_lot_1 22 rfl rfl)
theorem dX8_lot_46 : decode cX8_lot 46 = .ok (.iload_n 1, 1) := dk_27 (dk_at dksX8_lot_1 23 rfl rfl)
theorem dX8_lot_47 : decode cX8_lot 47 = .ok (.invokestatic 149, 3) := dk_184 0 149 (dk_at dksX8_lot_2 0 rfl rfl)
theorem dX8_lot_50 : decode cX8_lot 50 = .ok (.iconst 1, 1) := dk_4 (dk_at dksX8_lot_2 3 rfl rfl)
theorem dX8_lot_51 : decode cX8_lot 51 = .ok (.invokevirtual 124, 3) := dk_182 0 124 (dk_at dksX8_lot_2 4 rfl rfl)
theorem dX8_lot_54 : decode cX8_lot 54 = .ok (.ifCond .ne 47, 3) := dk_154 0 47 (dk_at dksX8_lot_2 7 rfl rfl)
theorem dX8_lot_57 : decode cX8_lot 57 = .ok (.aload_n 0, 1) := dk_42 (dk_at dksX8_lot_2 10 rfl rfl)
theorem dX8_lot_58 : decode cX8_lot 58 = .ok (.iload 5, 2) := dk_21 5 (dk_at dksX8_lot_2 11 rfl rfl)
theorem dX8_lot_60 : decode cX8_lot 60 = .ok (.iconst 2, 1) := dk_5 (dk_at dksX8_lot_2 13 rfl rfl)
theorem dX8_lot_61 : decode cX8_lot 61 = .ok (.invokevirtual 52, 3) := dk_182 0 52 (dk_at dksX8_lot_2 14 rfl rfl)
theorem dX8_lot_64 : decode cX8_lot 64 = .ok (.ifCond .ne 37, 3) := dk_154 0 37 (dk_at dksX8_lot_2 17 rfl rfl)
theorem dX8_lot_67 : decode cX8_lot 67 = .ok (.aload_n 0, 1) := dk_42 (dk_at dksX8_lot_2 20 rfl rfl)
theorem dX8_lot_68 : decode cX8_lot 68 = .ok (.aload_n 0, 1) := dk_42 (dk_at dksX8_lot_2 21 rfl rfl)
theorem dX8_lot_69 : decode cX8_lot 69 = .ok (.getfield 23, 3) := dk_180 0 23 (dk_at dksX8_lot_3 0 rfl rfl)
theorem dX8_lot_72 : decode cX8_lot 72 = .ok (.invokevirtual 56, 3) := dk_182 0 56 (dk_at dksX8_lot_3 3 rfl rfl)
theorem dX8_lot_75 : decode cX8_lot 75 = .ok (.bipush 8, 2) := dk_16 8 (dk_at dksX8_lot_3 6 rfl rfl)
theorem dX8_lot_77 : decode cX8_lot 77 = .ok (.if_icmp .eq 12, 3) := dk_159 0 12 (dk_at dksX8_lot_3 8 rfl rfl)
theorem dX8_lot_80 : decode cX8_lot 80 = .ok (.aload_n 0, 1) := dk_42 (dk_at dksX8_lot_3 11 rfl rfl)
theorem dX8_lot_81 : decode cX8_lot 81 = .ok (.iload_n 1, 1) := dk_27 (dk_at dksX8_lot_3 12 rfl rfl)
theorem dX8_lot_82 : decode cX8_lot 82 = .ok (.iload_n 2, 1) := dk_28 (dk_at dksX8_lot_3 13 rfl rfl)
theorem dX8_lot_83 : decode cX8_lot 83 = .ok (.invokevirtual 218, 3) := dk_182 0 218 (dk_at dksX8_lot_3 14 rfl rfl)
theorem dX8_lot_86 : decode cX8_lot 86 = .ok (.ifCond .eq 7, 3) := dk_153 0 7 (dk_at dksX8_lot_3 17 rfl rfl)
theorem dX8_lot_89 : decode cX8_lot 89 = .ok (.iconst 1, 1) := dk_4 (dk_at dksX8_lot_3 20 rfl rfl)
theorem dX8_lot_90 : decode cX8_lot 90 = .ok (.goto 4, 3) := dk_167 0 4 (dk_at dksX8_lot_3 21 rfl rfl)
theorem dX8_lot_93 : decode cX8_lot 93 = .ok (.iconst 0, 1) := dk_3 (dk_at dksX8_lot_4 0 rfl rfl)
theorem dX8_lot_94 : decode cX8_lot 94 = .ok (.iconst 3, 1) := dk_6 (dk_at dksX8_lot_4 1 rfl rfl)
theorem dX8_lot_95 : decode cX8_lot 95 = .ok (.invokevirtual 52, 3) := dk_182 0 52 (dk_at dksX8_lot_4 2 rfl rfl)
theorem dX8_lot_98 : decode cX8_lot 98 = .ok (.ifCond .eq 5, 3) := dk_153 0 5 (dk_at dksX8_lot_4 5 rfl rfl)
theorem dX8_lot_101 : decode cX8_lot 101 = .ok (.iconst 0, 1) := dk_3 (dk_at dksX8_lot_4 8 rfl rfl)
theorem dX8_lot_102 : decode cX8_lot 102 = .ok (.ireturn, 1) := dk_172 (dk_at dksX8_lot_4 9 rfl rfl)
theorem dX8_lot_103 : decode cX8_lot 103 = .ok (.new 208, 3) := dk_187 0 208 (dk_at dksX8_lot_4 10 rfl rfl)
theorem dX8_lot_106 : decode cX8_lot 106 = .ok (.dup, 1) := dk_89 (dk_at dksX8_lot_4 13 rfl rfl)
theorem dX8_lot_107 : decode cX8_lot 107 = .ok (.invokespecial 221, 3) := dk_183 0 221 (dk_at dksX8_lot_4 14 rfl rfl)
theorem dX8_lot_110 : decode cX8_lot 110 = .ok (.astore 6, 2) := dk_58 6 (dk_at dksX8_lot_4 17 rfl rfl)
theorem dX8_lot_112 : decode cX8_lot 112 = .ok (.aload 6, 2) := dk_25 6 (dk_at dksX8_lot_4 19 rfl rfl)
theorem dX8_lot_114 : decode cX8_lot 114 = .ok (.iload_n 1, 1) := dk_27 (dk_at dksX8_lot_4 21 rfl rfl)
theorem dX8_lot_115 : decode cX8_lot 115 = .ok (.putfield 213, 3) := dk_181 0 213 (dk_at dksX8_lot_5 0 rfl rfl)
theorem dX8_lot_118 : decode cX8_lot 118 = .ok (.aload 6, 2) := dk_25 6 (dk_at dksX8_lot_5 3 rfl rfl)
theorem dX8_lot_120 : decode cX8_lot 120 = .ok (.iload_n 2, 1) := dk_28 (dk_at dksX8_lot_5 5 rfl rfl)
theorem dX8_lot_121 : decode cX8_lot 121 = .ok (.putfield 216, 3) := dk_181 0 216 (dk_at dksX8_lot_5 6 rfl rfl)
theorem dX8_lot_124 : decode cX8_lot 124 = .ok (.aload 6, 2) := dk_25 6 (dk_at dksX8_lot_5 9 rfl rfl)
theorem dX8_lot_126 : decode cX8_lot 126 = .ok (.iload_n 3, 1) := dk_29 (dk_at dksX8_lot_5 11 rfl rfl)
theorem dX8_lot_127 : decode cX8_lot 127 = .ok (.putfield 222, 3) := dk_181 0 222 (dk_at dksX8_lot_5 12 rfl rfl)
theorem dX8_lot_130 : decode cX8_lot 130 = .ok (.aload 6, 2) := dk_25 6 (dk_at dksX8_lot_5 15 rfl rfl)
theorem dX8_lot_132 : decode cX8_lot 132 = .ok (.iload 4, 2) := dk_21 4 (dk_at dksX8_lot_5 17 rfl rfl)
theorem dX8_lot_134 : decode cX8_lot 134 = .ok (.putfield 225, 3) := dk_181 0 225 (dk_at dksX8_lot_5 19 rfl rfl)
theorem dX8_lot_137 : decode cX8_lot 137 = .ok (.aload_n 0, 1) := dk_42 (dk_at dksX8_lot_5 22 rfl rfl)
theorem dX8_lot_138 : decode cX8_lot 138 = .ok (.getfield 23, 3) := dk_180 0 23 (dk_at dksX8_lot_6 0 rfl rfl)
theorem dX8_lot_141 : decode cX8_lot 141 = .ok (.aload 6, 2) := dk_25 6 (dk_at dksX8_lot_6 3 rfl rfl)
theorem dX8_lot_143 : decode cX8_lot 143 = .ok (.invokevirtual 134, 3) := dk_182 0 134 (dk_at dksX8_lot_6 5 rfl rfl)
theorem dX8_lot_146 : decode cX8_lot 146 = .ok (.pop, 1) := dk_87 (dk_at dksX8_lot_6 8 rfl rfl)
theorem dX8_lot_147 : decode cX8_lot 147 = .ok (.aload_n 0, 1) := dk_42 (dk_at dksX8_lot_6 9 rfl rfl)
theorem dX8_lot_148 : decode cX8_lot 148 = .ok (.getfield 23, 3) := dk_180 0 23 (dk_at dksX8_lot_6 10 rfl rfl)
theorem dX8_lot_151 : decode cX8_lot 151 = .ok (.invokevirtual 56, 3) := dk_182 0 56 (dk_at dksX8_lot_6 13 rfl rfl)
theorem dX8_lot_154 : decode cX8_lot 154 = .ok (.iconst 1, 1) := dk_4 (dk_at dksX8_lot_6 16 rfl rfl)
theorem dX8_lot_155 : decode cX8_lot 155 = .ok (.isub, 1) := dk_100 (dk_at dksX8_lot_6 17 rfl rfl)
theorem dX8_lot_156 : decode cX8_lot 156 = .ok (.ireturn, 1) := dk_172 (dk_at dksX8_lot_6 18 rfl rfl)
abbrev cX8_isTaken : ByteArray := prog_19_method_28_code
def yX8_isTaken : MethodName := ⟨RX8, "isTaken", "(II)Z"⟩
def dkwX8_isTaken_2 : List UInt8 := [25, 4, 180, 0, 216, 28, 126, 153, 0, 5, 4, 172, 167, 255, 206, 3, 172]
abbrev dktX8_isTaken_2 : List UInt8 := dkwX8_isTaken_2 ++ []
def dkwX8_isTaken_1 : List UInt8 := [192, 0, 208, 58, 4, 25, 4, 180, 0, 210, 5, 162, 0, 24, 25, 4, 180, 0, 213, 27, 160, 0, 15]
abbrev dktX8_isTaken_1 : List UInt8 := dkwX8_isTaken_1 ++ dktX8_isTaken_2
def dkwX8_isTaken_0 : List UInt8 := [42, 180, 0, 23, 182, 0, 195, 78, 45, 185, 0, 199, 1, 0, 153, 0, 47, 45, 185, 0, 204, 1, 0]
abbrev dktX8_isTaken_0 : List UInt8 := dkwX8_isTaken_0 ++ dktX8_isTaken_1
theorem dksX8_isTaken_0 : cX8_isTaken.data.toList.drop 0 = dktX8_isTaken_0 := by decide +kernel
theorem dksX8_isTaken_1 : cX8_isTaken.data.toList.drop 23 = dktX8_isTaken_1 := dk_seg dksX8_isTaken_0 23 rfl rfl
theorem dksX8_isTaken_2 : cX8_isTaken.data.toList.drop 46 = dktX8_isTaken_2 := dk_seg dksX8_isTaken_1 23 rfl rfl
theorem dX8_isTaken_0 : decode cX8_isTaken 0 = .ok (.aload_n 0, 1) := dk_42 (dk_at dksX8_isTaken_0 0 rfl rfl)
theorem dX8_isTaken_1 : decode cX8_isTaken 1 = .ok (.getfield 23, 3) := dk_180 0 23 (dk_at dksX8_isTaken_0 1 rfl rfl)
theorem dX8_isTaken_4 : decode cX8_isTaken 4 = .ok (.invokevirtual 195, 3) := dk_182 0 195 (dk_at dksX8_isTaken_0 4 rfl rfl)
theorem dX8_isTaken_7 : decode cX8_isTaken 7 = .ok (.astore_n 3, 1) := dk_78 (dk_at dksX8_isTaken_0 7 rfl rfl)
theorem dX8_isTaken_8 : decode cX8_isTaken 8 = .ok (.aload_n 3, 1) := dk_45 (dk_at dksX8_isTaken_0 8 rfl rfl)
theorem dX8_isTaken_9 : decode cX8_isTaken 9 = .ok (.invokeinterface 199 1, 5) := by decide +kernel
theorem dX8_isTaken_14 : decode cX8_isTaken 14 = .ok (.ifCond .eq 47, 3) := dk_153 0 47 (dk_at dksX8_isTaken_0 14 rfl rfl)
theorem dX8_isTaken_17 : decode cX8_isTaken 17 = .ok (.aload_n 3, 1) := dk_45 (dk_at dksX8_isTaken_0 17 rfl rfl)
theorem dX8_isTaken_18 : decode cX8_isTaken 18 = .ok (.invokeinterface 204 1, 5) := by decide +kernel
theorem dX8_isTaken_23 : decode cX8_isTaken 23 = .ok (.checkcast 208, 3) := dk_192 0 208 (dk_at dksX8_isTaken_1 0 rfl rfl)
theorem dX8_isTaken_26 : decode cX8_isTaken 26 = .ok (.astore 4, 2) := dk_58 4 (dk_at dksX8_isTaken_1 3 rfl rfl)
theorem dX8_isTaken_28 : decode cX8_isTaken 28 = .ok (.aload 4, 2) := dk_25 4 (dk_at dksX8_isTaken_1 5 rfl rfl)
theorem dX8_isTaken_30 : decode cX8_isTaken 30 = .ok (.getfield 210, 3) := dk_180 0 210 (dk_at dksX8_isTaken_1 7 rfl rfl)
theorem dX8_isTaken_33 : decode cX8_isTaken 33 = .ok (.iconst 2, 1) := dk_5 (dk_at dksX8_isTaken_1 10 rfl rfl)
theorem dX8_isTaken_34 : decode cX8_isTaken 34 = .ok (.if_icmp .ge 24, 3) := dk_162 0 24 (dk_at dksX8_isTaken_1 11 rfl rfl)
theorem dX8_isTaken_37 : decode cX8_isTaken 37 = .ok (.aload 4, 2) := dk_25 4 (dk_at dksX8_isTaken_1 14 rfl rfl)
theorem dX8_isTaken_39 : decode cX8_isTaken 39 = .ok (.getfield 213, 3) := dk_180 0 213 (dk_at dksX8_isTaken_1 16 rfl rfl)
theorem dX8_isTaken_42 : decode cX8_isTaken 42 = .ok (.iload_n 1, 1) := dk_27 (dk_at dksX8_isTaken_1 19 rfl rfl)
theorem dX8_isTaken_43 : decode cX8_isTaken 43 = .ok (.if_icmp .ne 15, 3) := dk_160 0 15 (dk_at dksX8_isTaken_1 20 rfl rfl)
theorem dX8_isTaken_46 : decode cX8_isTaken 46 = .ok (.aload 4, 2) := dk_25 4 (dk_at dksX8_isTaken_2 0 rfl rfl)
theorem dX8_isTaken_48 : decode cX8_isTaken 48 = .ok (.getfield 216, 3) := dk_180 0 216 (dk_at dksX8_isTaken_2 2 rfl rfl)
theorem dX8_isTaken_51 : decode cX8_isTaken 51 = .ok (.iload_n 2, 1) := dk_28 (dk_at dksX8_isTaken_2 5 rfl rfl)
theorem dX8_isTaken_52 : decode cX8_isTaken 52 = .ok (.iand, 1) := dk_126 (dk_at dksX8_isTaken_2 6 rfl rfl)
theorem dX8_isTaken_53 : decode cX8_isTaken 53 = .ok (.ifCond .eq 5, 3) := dk_153 0 5 (dk_at dksX8_isTaken_2 7 rfl rfl)
theorem dX8_isTaken_56 : decode cX8_isTaken 56 = .ok (.iconst 1, 1) := dk_4 (dk_at dksX8_isTaken_2 10 rfl rfl)
theorem dX8_isTaken_57 : decode cX8_isTaken 57 = .ok (.ireturn, 1) := dk_172 (dk_at dksX8_isTaken_2 11 rfl rfl)
theorem dX8_isTaken_58 : decode cX8_isTaken 58 = .ok (.goto (-50), 3) := dk_167 255 206 (dk_at dksX8_isTaken_2 12 rfl rfl)
theorem dX8_isTaken_61 : decode cX8_isTaken 61 = .ok (.iconst 0, 1) := dk_3 (dk_at dksX8_isTaken_2 15 rfl rfl)
theorem dX8_isTaken_62 : decode cX8_isTaken 62 = .ok (.ireturn, 1) := dk_172 (dk_at dksX8_isTaken_2 16 rfl rfl)
abbrev cX8_bid : ByteArray := prog_19_method_33_code
def yX8_bid : MethodName := ⟨RX8, "bid", "(III)I"⟩
def dkwX8_bid_5 : List UInt8 := [25, 4, 180, 0, 238, 27, 29, 79, 25, 4, 184, 0, 250, 172]
abbrev dktX8_bid_5 : List UInt8 := dkwX8_bid_5 ++ []
def dkwX8_bid_4 : List UInt8 := [27, 182, 0, 247, 29, 7, 108, 162, 0, 7, 4, 167, 0, 4, 3, 6, 182, 0, 52, 153, 0, 5, 3, 172]
abbrev dktX8_bid_4 : List UInt8 := dkwX8_bid_4 ++ dktX8_bid_5
def dkwX8_bid_3 : List UInt8 := [180, 0, 210, 154, 0, 31, 42, 180, 0, 20, 27, 182, 0, 78, 192, 0, 152, 180, 0, 244, 154, 0, 14, 42]
abbrev dktX8_bid_3 : List UInt8 := dkwX8_bid_3 ++ dktX8_bid_4
def dkwX8_bid_2 : List UInt8 := [182, 0, 52, 153, 0, 5, 3, 172, 42, 180, 0, 23, 28, 182, 0, 78, 192, 0, 208, 58, 4, 42, 25, 4]
abbrev dktX8_bid_2 : List UInt8 := dkwX8_bid_2 ++ dktX8_bid_3
def dkwX8_bid_1 : List UInt8 := [182, 0, 124, 154, 0, 27, 42, 29, 4, 17, 35, 40, 184, 0, 60, 154, 0, 7, 4, 167, 0, 4, 3, 5]
abbrev dktX8_bid_1 : List UInt8 := dkwX8_bid_1 ++ dktX8_bid_2
def dkwX8_bid_0 : List UInt8 := [42, 42, 27, 182, 0, 161, 154, 0, 11, 42, 28, 182, 0, 241, 153, 0, 7, 4, 167, 0, 4, 3, 4]
abbrev dktX8_bid_0 : List UInt8 := dkwX8_bid_0 ++ dktX8_bid_1
theorem dksX8_bid_0 : cX8_bid.data.toList.drop 0 = dktX8_bid_0 := by decide +kernel
theorem dksX8_bid_1 : cX8_bid.data.toList.drop 23 = dktX8_bid_1 := dk_seg dksX8_bid_0 23 rfl rfl
theorem dksX8_bid_2 : cX8_bid.data.toList.drop 47 = dktX8_bid_2 := dk_seg dksX8_bid_1 24 rfl rfl
theorem dksX8_bid_3 : cX8_bid.data.toList.drop 71 = dktX8_bid_3 := dk_seg dksX8_bid_2 24 rfl rfl
theorem dksX8_bid_4 : cX8_bid.data.toList.drop 95 = dktX8_bid_4 := dk_seg dksX8_bid_3 24 rfl rfl
theorem dksX8_bid_5 : cX8_bid.data.toList.drop 119 = dktX8_bid_5 := dk_seg dksX8_bid_4 24 rfl rfl
theorem dX8_bid_0 : decode cX8_bid 0 = .ok (.aload_n 0, 1) := dk_42 (dk_at dksX8_bid_0 0 rfl rfl)
theorem dX8_bid_1 : decode cX8_bid 1 = .ok (.aload_n 0, 1) := dk_42 (dk_at dksX8_bid_0 1 rfl rfl)
theorem dX8_bid_2 : decode cX8_bid 2 = .ok (.iload_n 1, 1) := dk_27 (dk_at dksX8_bid_0 2 rfl rfl)
theorem dX8_bid_3 : decode cX8_bid 3 = .ok (.invokevirtual 161, 3) := dk_182 0 161 (dk_at dksX8_bid_0 3 rfl rfl)
theorem dX8_bid_6 : decode cX8_bid 6 = .ok (.ifCond .ne 11, 3) := dk_154 0 11 (dk_at dksX8_bid_0 6 rfl rfl)
theorem dX8_bid_9 : decode cX8_bid 9 = .ok (.aload_n 0, 1) := dk_42 (dk_at dksX8_bid_0 9 rfl rfl)
theorem dX8_bid_10 : decode cX8_bid 10 = .ok (.iload_n 2, 1) := dk_28 (dk_at dksX8_bid_0 10 rfl rfl)
theorem dX8_bid_11 : decode cX8_bid 11 = .ok (.invokevirtual 241, 3) := dk_182 0 241 (dk_at dksX8_bid_0 11 rfl rfl)
theorem dX8_bid_14 : decode cX8_bid 14 = .ok (.ifCond .eq 7, 3) := dk_153 0 7 (dk_at dksX8_bid_0 14 rfl rfl)
theorem dX8_bid_17 : decode cX8_bid 17 = .ok (.iconst 1, 1) := dk_4 (dk_at dksX8_bid_0 17 rfl rfl)
theorem dX8_bid_18 : decode cX8_bid 18 = .ok (.goto 4, 3) := dk_167 0 4 (dk_at dksX8_bid_0 18 rfl rfl)
theorem dX8_bid_21 : decode cX8_bid 21 = .ok (.iconst 0, 1) := dk_3 (dk_at dksX8_bid_0 21 rfl rfl)
theorem dX8_bid_22 : decode cX8_bid 22 = .ok (.iconst 1, 1) := dk_4 (dk_at dksX8_bid_0 22 rfl rfl)
theorem dX8_bid_23 : decode cX8_bid 23 = .ok (.invokevirtual 124, 3) := dk_182 0 124 (dk_at dksX8_bid_1 0 rfl rfl)
theorem dX8_bid_26 : decode cX8_bid 26 = .ok (.ifCond .ne 27, 3) := dk_154 0 27 (dk_at dksX8_bid_1 3 rfl rfl)
theorem dX8_bid_29 : decode cX8_bid 29 = .ok (.aload_n 0, 1) := dk_42 (dk_at dksX8_bid_1 6 rfl rfl)
theorem dX8_bid_30 : decode cX8_bid 30 = .ok (.iload_n 3, 1) := dk_29 (dk_at dksX8_bid_1 7 rfl rfl)
theorem dX8_bid_31 : decode cX8_bid 31 = .ok (.iconst 1, 1) := dk_4 (dk_at dksX8_bid_1 8 rfl rfl)
theorem dX8_bid_32 : decode cX8_bid 32 = .ok (.sipush 9000, 3) := dk_17 35 40 (dk_at dksX8_bid_1 9 rfl rfl)
theorem dX8_bid_35 : decode cX8_bid 35 = .ok (.invokestatic 60, 3) := dk_184 0 60 (dk_at dksX8_bid_1 12 rfl rfl)
theorem dX8_bid_38 : decode cX8_bid 38 = .ok (.ifCond .ne 7, 3) := dk_154 0 7 (dk_at dksX8_bid_1 15 rfl rfl)
theorem dX8_bid_41 : decode cX8_bid 41 = .ok (.iconst 1, 1) := dk_4 (dk_at dksX8_bid_1 18 rfl rfl)
theorem dX8_bid_42 : decode cX8_bid 42 = .ok (.goto 4, 3) := dk_167 0 4 (dk_at dksX8_bid_1 19 rfl rfl)
theorem dX8_bid_45 : decode cX8_bid 45 = .ok (.iconst 0, 1) := dk_3 (dk_at dksX8_bid_1 22 rfl rfl)
theorem dX8_bid_46 : decode cX8_bid 46 = .ok (.iconst 2, 1) := dk_5 (dk_at dksX8_bid_1 23 rfl rfl)
theorem dX8_bid_47 : decode cX8_bid 47 = .ok (.invokevirtual 52, 3) := dk_182 0 52 (dk_at dksX8_bid_2 0 rfl rfl)
theorem dX8_bid_50 : decode cX8_bid 50 = .ok (.ifCond .eq 5, 3) := dk_153 0 5 (dk_at dksX8_bid_2 3 rfl rfl)
theorem dX8_bid_53 : decode cX8_bid 53 = .ok (.iconst 0, 1) := dk_3 (dk_at dksX8_bid_2 6 rfl rfl)
theorem dX8_bid_54 : decode cX8_bid 54 = .ok (.ireturn, 1) := dk_172 (dk_at dksX8_bid_2 7 rfl rfl)
theorem dX8_bid_55 : decode cX8_bid 55 = .ok (.aload_n 0, 1) := dk_42 (dk_at dksX8_bid_2 8 rfl rfl)
theorem dX8_bid_56 : decode cX8_bid 56 = .ok (.getfield 23, 3) := dk_180 0 23 (dk_at dksX8_bid_2 9 rfl rfl)
theorem dX8_bid_59 : decode cX8_bid 59 = .ok (.iload_n 2, 1) := dk_28 (dk_at dksX8_bid_2 12 rfl rfl)
theorem dX8_bid_60 : decode cX8_bid 60 = .ok (.invokevirtual 78, 3) := dk_182 0 78 (dk_at dksX8_bid_2 13 rfl rfl)
theorem dX8_bid_63 : decode cX8_bid 63 = .ok (.checkcast 208, 3) := dk_192 0 208 (dk_at dksX8_bid_2 16 rfl rfl)
theorem dX8_bid_66 : decode cX8_bid 66 = .ok (.astore 4, 2) := dk_58 4 (dk_at dksX8_bid_2 19 rfl rfl)
theorem dX8_bid_68 : decode cX8_bid 68 = .ok (.aload_n 0, 1) := dk_42 (dk_at dksX8_bid_2 21 rfl rfl)
theorem dX8_bid_69 : decode cX8_bid 69 = .ok (.aload 4, 2) := dk_25 4 (dk_at dksX8_bid_2 22 rfl rfl)
theorem dX8_bid_71 : decode cX8_bid 71 = .ok (.getfield 210, 3) := dk_180 0 210 (dk_at dksX8_bid_3 0 rfl rfl)
theorem dX8_bid_74 : decode cX8_bid 74 = .ok (.ifCond .ne 31, 3) := dk_154 0 31 (dk_at dksX8_bid_3 3 rfl rfl)
theorem dX8_bid_77 : decode cX8_bid 77 = .ok (.aload_n 0, 1) := dk_42 (dk_at dksX8_bid_3 6 rfl rfl)
theorem dX8_bid_78 : decode cX8_bid 78 = .ok (.getfield 20, 3) := dk_180 0 20 (dk_at dksX8_bid_3 7 rfl rfl)
theorem dX8_bid_81 : decode cX8_bid 81 = .ok (.iload_n 1, 1) := dk_27 (dk_at dksX8_bid_3 10 rfl rfl)
theorem dX8_bid_82 : decode cX8_bid 82 = .ok (.invokevirtual 78, 3) := dk_182 0 78 (dk_at dksX8_bid_3 11 rfl rfl)
theorem dX8_bid_85 : decode cX8_bid 85 = .ok (.checkcast 152, 3) := dk_192 0 152 (dk_at dksX8_bid_3 14 rfl rfl)
theorem dX8_bid_88 : decode cX8_bid 88 = .ok (.getfield 244, 3) := dk_180 0 244 (dk_at dksX8_bid_3 17 rfl rfl)
theorem dX8_bid_91 : decode cX8_bid 91 = .ok (.ifCond .ne 14, 3) := dk_154 0 14 (dk_at dksX8_bid_3 20 rfl rfl)
theorem dX8_bid_94 : decode cX8_bid 94 = .ok (.aload_n 0, 1) := dk_42 (dk_at dksX8_bid_3 23 rfl rfl)
theorem dX8_bid_95 : decode cX8_bid 95 = .ok (.iload_n 1, 1) := dk_27 (dk_at dksX8_bid_4 0 rfl rfl)
theorem dX8_bid_96 : decode cX8_bid 96 = .ok (.invokevirtual 247, 3) := dk_182 0 247 (dk_at dksX8_bid_4 1 rfl rfl)
theorem dX8_bid_99 : decode cX8_bid 99 = .ok (.iload_n 3, 1) := dk_29 (dk_at dksX8_bid_4 4 rfl rfl)
theorem dX8_bid_100 : decode cX8_bid 100 = .ok (.iconst 4, 1) := dk_7 (dk_at dksX8_bid_4 5 rfl rfl)
theorem dX8_bid_101 : decode cX8_bid 101 = .ok (.idiv, 1) := dk_108 (dk_at dksX8_bid_4 6 rfl rfl)
theorem dX8_bid_102 : decode cX8_bid 102 = .ok (.if_icmp .ge 7, 3) := dk_162 0 7 (dk_at dksX8_bid_4 7 rfl rfl)
theorem dX8_bid_105 : decode cX8_bid 105 = .ok (.iconst 1, 1) := dk_4 (dk_at dksX8_bid_4 10 rfl rfl)
theorem dX8_bid_106 : decode cX8_bid 106 = .ok (.goto 4, 3) := dk_167 0 4 (dk_at dksX8_bid_4 11 rfl rfl)
theorem dX8_bid_109 : decode cX8_bid 109 = .ok (.iconst 0, 1) := dk_3 (dk_at dksX8_bid_4 14 rfl rfl)
theorem dX8_bid_110 : decode cX8_bid 110 = .ok (.iconst 3, 1) := dk_6 (dk_at dksX8_bid_4 15 rfl rfl)
theorem dX8_bid_111 : decode cX8_bid 111 = .ok (.invokevirtual 52, 3) := dk_182 0 52 (dk_at dksX8_bid_4 16 rfl rfl)
theorem dX8_bid_114 : decode cX8_bid 114 = .ok (.ifCond .eq 5, 3) := dk_153 0 5 (dk_at dksX8_bid_4 19 rfl rfl)
theorem dX8_bid_117 : decode cX8_bid 117 = .ok (.iconst 0, 1) := dk_3 (dk_at dksX8_bid_4 22 rfl rfl)
theorem dX8_bid_118 : decode cX8_bid 118 = .ok (.ireturn, 1) := dk_172 (dk_at dksX8_bid_4 23 rfl rfl)
theorem dX8_bid_119 : decode cX8_bid 119 = .ok (.aload 4, 2) := dk_25 4 (dk_at dksX8_bid_5 0 rfl rfl)
theorem dX8_bid_121 : decode cX8_bid 121 = .ok (.getfield 238, 3) := dk_180 0 238 (dk_at dksX8_bid_5 2 rfl rfl)
theorem dX8_bid_124 : decode cX8_bid 124 = .ok (.iload_n 1, 1) := dk_27 (dk_at dksX8_bid_5 5 rfl rfl)
theorem dX8_bid_125 : decode cX8_bid 125 = .ok (.iload_n 3, 1) := dk_29 (dk_at dksX8_bid_5 6 rfl rfl)
theorem dX8_bid_126 : decode cX8_bid 126 = .ok (.iastore, 1) := dk_79 (dk_at dksX8_bid_5 7 rfl rfl)
theorem dX8_bid_127 : decode cX8_bid 127 = .ok (.aload 4, 2) := dk_25 4 (dk_at dksX8_bid_5 8 rfl rfl)
theorem dX8_bid_129 : decode cX8_bid 129 = .ok (.invokestatic 250, 3) := dk_184 0 250 (dk_at dksX8_bid_5 10 rfl rfl)
theorem dX8_bid_132 : decode cX8_bid 132 = .ok (.ireturn, 1) := dk_172 (dk_at dksX8_bid_5 13 rfl rfl)
abbrev cX8_isNoLot : ByteArray := prog_19_method_9_code
def yX8_isNoLot : MethodName := ⟨RX8, "isNoLot", "(I)Z"⟩
def dkwX8_isNoLot_0 : List UInt8 := [27, 3, 42, 180, 0, 23, 182, 0, 56, 4, 100, 184, 0, 60, 154, 0, 7, 4, 167, 0, 4, 3, 172]
abbrev dktX8_isNoLot_0 : List UInt8 := dkwX8_isNoLot_0 ++ []
theorem dksX8_isNoLot_0 : cX8_isNoLot.data.toList.drop 0 = dktX8_isNoLot_0 := by decide +kernel
theorem dX8_isNoLot_0 : decode cX8_isNoLot 0 = .ok (.iload_n 1, 1) := dk_27 (dk_at dksX8_isNoLot_0 0 rfl rfl)
theorem dX8_isNoLot_1 : decode cX8_isNoLot 1 = .ok (.iconst 0, 1) := dk_3 (dk_at dksX8_isNoLot_0 1 rfl rfl)
theorem dX8_isNoLot_2 : decode cX8_isNoLot 2 = .ok (.aload_n 0, 1) := dk_42 (dk_at dksX8_isNoLot_0 2 rfl rfl)
theorem dX8_isNoLot_3 : decode cX8_isNoLot 3 = .ok (.getfield 23, 3) := dk_180 0 23 (dk_at dksX8_isNoLot_0 3 rfl rfl)
theorem dX8_isNoLot_6 : decode cX8_isNoLot 6 = .ok (.invokevirtual 56, 3) := dk_182 0 56 (dk_at dksX8_isNoLot_0 6 rfl rfl)
theorem dX8_isNoLot_9 : decode cX8_isNoLot 9 = .ok (.iconst 1, 1) := dk_4 (dk_at dksX8_isNoLot_0 9 rfl rfl)
theorem dX8_isNoLot_10 : decode cX8_isNoLot 10 = .ok (.isub, 1) := dk_100 (dk_at dksX8_isNoLot_0 10 rfl rfl)
theorem dX8_isNoLot_11 : decode cX8_isNoLot 11 = .ok (.invokestatic 60, 3) := dk_184 0 60 (dk_at dksX8_isNoLot_0 11 rfl rfl)
theorem dX8_isNoLot_14 : decode cX8_isNoLot 14 = .ok (.ifCond .ne 7, 3) := dk_154 0 7 (dk_at dksX8_isNoLot_0 14 rfl rfl)
theorem dX8_isNoLot_17 : decode cX8_isNoLot 17 = .ok (.iconst 1, 1) := dk_4 (dk_at dksX8_isNoLot_0 17 rfl rfl)
theorem dX8_isNoLot_18 : decode cX8_isNoLot 18 = .ok (.goto 4, 3) := dk_167 0 4 (dk_at dksX8_isNoLot_0 18 rfl rfl)
theorem dX8_isNoLot_21 : decode cX8_isNoLot 21 = .ok (.iconst 0, 1) := dk_3 (dk_at dksX8_isNoLot_0 21 rfl rfl)
theorem dX8_isNoLot_22 : decode cX8_isNoLot 22 = .ok (.ireturn, 1) := dk_172 (dk_at dksX8_isNoLot_0 22 rfl rfl)
abbrev cX8_free : ByteArray := prog_19_method_31_code
def yX8_free : MethodName := ⟨RX8, "free", "(I)I"⟩
def dkwX8_free_0 : List UInt8 := [42, 180, 0, 20, 27, 182, 0, 78, 192, 0, 152, 180, 0, 155, 42, 27, 182, 0, 234, 100, 172]
abbrev dktX8_free_0 : List UInt8 := dkwX8_free_0 ++ []
theorem dksX8_free_0 : cX8_free.data.toList.drop 0 = dktX8_free_0 := by decide +kernel
theorem dX8_free_0 : decode cX8_free 0 = .ok (.aload_n 0, 1) := dk_42 (dk_at dksX8_free_0 0 rfl rfl)
theorem dX8_free_1 : decode cX8_free 1 = .ok (.getfield 20, 3) := dk_180 0 20 (dk_at dksX8_free_0 1 rfl rfl)
theorem dX8_free_4 : decode cX8_free 4 = .ok (.iload_n 1, 1) := dk_27 (dk_at dksX8_free_0 4 rfl rfl)
theorem dX8_free_5 : decode cX8_free 5 = .ok (.invokevirtual 78, 3) := dk_182 0 78 (dk_at dksX8_free_0 5 rfl rfl)
theorem dX8_free_8 : decode cX8_free 8 = .ok (.checkcast 152, 3) := dk_192 0 152 (dk_at dksX8_free_0 8 rfl rfl)
theorem dX8_free_11 : decode cX8_free 11 = .ok (.getfield 155, 3) := dk_180 0 155 (dk_at dksX8_free_0 11 rfl rfl)
theorem dX8_free_14 : decode cX8_free 14 = .ok (.aload_n 0, 1) := dk_42 (dk_at dksX8_free_0 14 rfl rfl)
theorem dX8_free_15 : decode cX8_free 15 = .ok (.iload_n 1, 1) := dk_27 (dk_at dksX8_free_0 15 rfl rfl)
theorem dX8_free_16 : decode cX8_free 16 = .ok (.invokevirtual 234, 3) := dk_182 0 234 (dk_at dksX8_free_0 16 rfl rfl)
theorem dX8_free_19 : decode cX8_free 19 = .ok (.isub, 1) := dk_100 (dk_at dksX8_free_0 19 rfl rfl)
theorem dX8_free_20 : decode cX8_free 20 = .ok (.ireturn, 1) := dk_172 (dk_at dksX8_free_0 20 rfl rfl)
abbrev cX8_pledged : ByteArray := prog_19_method_30_code
def yX8_pledged : MethodName := ⟨RX8, "pledged", "(I)I"⟩
def dkwX8_pledged_3 : List UInt8 := [172]
abbrev dktX8_pledged_3 : List UInt8 := dkwX8_pledged_3 ++ []
def dkwX8_pledged_2 : List UInt8 := [180, 0, 228, 27, 160, 0, 13, 25, 4, 180, 0, 231, 7, 108, 167, 0, 4, 3, 96, 61, 167, 255, 204, 28]
abbrev dktX8_pledged_2 : List UInt8 := dkwX8_pledged_2 ++ dktX8_pledged_3
def dkwX8_pledged_1 : List UInt8 := [185, 0, 204, 1, 0, 192, 0, 208, 58, 4, 28, 25, 4, 180, 0, 210, 4, 160, 0, 22, 25, 4]
abbrev dktX8_pledged_1 : List UInt8 := dkwX8_pledged_1 ++ dktX8_pledged_2
def dkwX8_pledged_0 : List UInt8 := [3, 61, 42, 180, 0, 23, 182, 0, 195, 78, 45, 185, 0, 199, 1, 0, 153, 0, 49, 45]
abbrev dktX8_pledged_0 : List UInt8 := dkwX8_pledged_0 ++ dktX8_pledged_1
theorem dksX8_pledged_0 : cX8_pledged.data.toList.drop 0 = dktX8_pledged_0 := by decide +kernel
theorem dksX8_pledged_1 : cX8_pledged.data.toList.drop 20 = dktX8_pledged_1 := dk_seg dksX8_pledged_0 20 rfl rfl
theorem dksX8_pledged_2 : cX8_pledged.data.toList.drop 42 = dktX8_pledged_2 := dk_seg dksX8_pledged_1 22 rfl rfl
theorem dksX8_pledged_3 : cX8_pledged.data.toList.drop 66 = dktX8_pledged_3 := dk_seg dksX8_pledged_2 24 rfl rfl
theorem dX8_pledged_0 : decode cX8_pledged 0 = .ok (.iconst 0, 1) := dk_3 (dk_at dksX8_pledged_0 0 rfl rfl)
theorem dX8_pledged_1 : decode cX8_pledged 1 = .ok (.istore_n 2, 1) := dk_61 (dk_at dksX8_pledged_0 1 rfl rfl)
theorem dX8_pledged_2 : decode cX8_pledged 2 = .ok (.aload_n 0, 1) := dk_42 (dk_at dksX8_pledged_0 2 rfl rfl)
theorem dX8_pledged_3 : decode cX8_pledged 3 = .ok (.getfield 23, 3) := dk_180 0 23 (dk_at dksX8_pledged_0 3 rfl rfl)
theorem dX8_pledged_6 : decode cX8_pledged 6 = .ok (.invokevirtual 195, 3) := dk_182 0 195 (dk_at dksX8_pledged_0 6 rfl rfl)
theorem dX8_pledged_9 : decode cX8_pledged 9 = .ok (.astore_n 3, 1) := dk_78 (dk_at dksX8_pledged_0 9 rfl rfl)
theorem dX8_pledged_10 : decode cX8_pledged 10 = .ok (.aload_n 3, 1) := dk_45 (dk_at dksX8_pledged_0 10 rfl rfl)
theorem dX8_pledged_11 : decode cX8_pledged 11 = .ok (.invokeinterface 199 1, 5) := by decide +kernel
theorem dX8_pledged_16 : decode cX8_pledged 16 = .ok (.ifCond .eq 49, 3) := dk_153 0 49 (dk_at dksX8_pledged_0 16 rfl rfl)
theorem dX8_pledged_19 : decode cX8_pledged 19 = .ok (.aload_n 3, 1) := dk_45 (dk_at dksX8_pledged_0 19 rfl rfl)
theorem dX8_pledged_20 : decode cX8_pledged 20 = .ok (.invokeinterface 204 1, 5) := by decide +kernel
theorem dX8_pledged_25 : decode cX8_pledged 25 = .ok (.checkcast 208, 3) := dk_192 0 208 (dk_at dksX8_pledged_1 5 rfl rfl)
theorem dX8_pledged_28 : decode cX8_pledged 28 = .ok (.astore 4, 2) := dk_58 4 (dk_at dksX8_pledged_1 8 rfl rfl)
theorem dX8_pledged_30 : decode cX8_pledged 30 = .ok (.iload_n 2, 1) := dk_28 (dk_at dksX8_pledged_1 10 rfl rfl)
theorem dX8_pledged_31 : decode cX8_pledged 31 = .ok (.aload 4, 2) := dk_25 4 (dk_at dksX8_pledged_1 11 rfl rfl)
theorem dX8_pledged_33 : decode cX8_pledged 33 = .ok (.getfield 210, 3) := dk_180 0 210 (dk_at dksX8_pledged_1 13 rfl rfl)
theorem dX8_pledged_36 : decode cX8_pledged 36 = .ok (.iconst 1, 1) := dk_4 (dk_at dksX8_pledged_1 16 rfl rfl)
theorem dX8_pledged_37 : decode cX8_pledged 37 = .ok (.if_icmp .ne 22, 3) := dk_160 0 22 (dk_at dksX8_pledged_1 17 rfl rfl)
theorem dX8_pledged_40 : decode cX8_pledged 40 = .ok (.aload 4, 2) := dk_25 4 (dk_at dksX8_pledged_1 20 rfl rfl)
theorem dX8_pledged_42 : decode cX8_pledged 42 = .ok (.getfield 228, 3) := dk_180 0 228 (dk_at dksX8_pledged_2 0 rfl rfl)
theorem dX8_pledged_45 : decode cX8_pledged 45 = .ok (.iload_n 1, 1) := dk_27 (dk_at dksX8_pledged_2 3 rfl rfl)
theorem dX8_pledged_46 : decode cX8_pledged 46 = .ok (.if_icmp .ne 13, 3) := dk_160 0 13 (dk_at dksX8_pledged_2 4 rfl rfl)
theorem dX8_pledged_49 : decode cX8_pledged 49 = .ok (.aload 4, 2) := dk_25 4 (dk_at dksX8_pledged_2 7 rfl rfl)
theorem dX8_pledged_51 : decode cX8_pledged 51 = .ok (.getfield 231, 3) := dk_180 0 231 (dk_at dksX8_pledged_2 9 rfl rfl)
theorem dX8_pledged_54 : decode cX8_pledged 54 = .ok (.iconst 4, 1) := dk_7 (dk_at dksX8_pledged_2 12 rfl rfl)
theorem dX8_pledged_55 : decode cX8_pledged 55 = .ok (.idiv, 1) := dk_108 (dk_at dksX8_pledged_2 13 rfl rfl)
theorem dX8_pledged_56 : decode cX8_pledged 56 = .ok (.goto 4, 3) := dk_167 0 4 (dk_at dksX8_pledged_2 14 rfl rfl)
theorem dX8_pledged_59 : decode cX8_pledged 59 = .ok (.iconst 0, 1) := dk_3 (dk_at dksX8_pledged_2 17 rfl rfl)
theorem dX8_pledged_60 : decode cX8_pledged 60 = .ok (.iadd, 1) := dk_96 (dk_at dksX8_pledged_2 18 rfl rfl)
theorem dX8_pledged_61 : decode cX8_pledged 61 = .ok (.istore_n 2, 1) := dk_61 (dk_at dksX8_pledged_2 19 rfl rfl)
theorem dX8_pledged_62 : decode cX8_pledged 62 = .ok (.goto (-52), 3) := dk_167 255 204 (dk_at dksX8_pledged_2 20 rfl rfl)
theorem dX8_pledged_65 : decode cX8_pledged 65 = .ok (.iload_n 2, 1) := dk_28 (dk_at dksX8_pledged_2 23 rfl rfl)
theorem dX8_pledged_66 : decode cX8_pledged 66 = .ok (.ireturn, 1) := dk_172 (dk_at dksX8_pledged_3 0 rfl rfl)
abbrev cX8_highest : ByteArray := prog_19_method_32_code
def yX8_highest : MethodName := ⟨RX8, "highest", "(LPublicanryModel$Lot;)I"⟩
def dkwX8_highest_1 : List UInt8 := [54, 5, 27, 21, 5, 184, 0, 99, 60, 132, 4, 1, 167, 255, 234, 27, 172]
abbrev dktX8_highest_1 : List UInt8 := dkwX8_highest_1 ++ []
def dkwX8_highest_0 : List UInt8 := [3, 60, 42, 180, 0, 238, 77, 44, 190, 62, 3, 54, 4, 21, 4, 29, 162, 0, 22, 44, 21, 4, 46]
abbrev dktX8_highest_0 : List UInt8 := dkwX8_highest_0 ++ dktX8_highest_1
theorem dksX8_highest_0 : cX8_highest.data.toList.drop 0 = dktX8_highest_0 := by decide +kernel
theorem dksX8_highest_1 : cX8_highest.data.toList.drop 23 = dktX8_highest_1 := dk_seg dksX8_highest_0 23 rfl rfl
theorem dX8_highest_0 : decode cX8_highest 0 = .ok (.iconst 0, 1) := dk_3 (dk_at dksX8_highest_0 0 rfl rfl)
theorem dX8_highest_1 : decode cX8_highest 1 = .ok (.istore_n 1, 1) := dk_60 (dk_at dksX8_highest_0 1 rfl rfl)
theorem dX8_highest_2 : decode cX8_highest 2 = .ok (.aload_n 0, 1) := dk_42 (dk_at dksX8_highest_0 2 rfl rfl)
theorem dX8_highest_3 : decode cX8_highest 3 = .ok (.getfield 238, 3) := dk_180 0 238 (dk_at dksX8_highest_0 3 rfl rfl)
theorem dX8_highest_6 : decode cX8_highest 6 = .ok (.astore_n 2, 1) := dk_77 (dk_at dksX8_highest_0 6 rfl rfl)
theorem dX8_highest_7 : decode cX8_highest 7 = .ok (.aload_n 2, 1) := dk_44 (dk_at dksX8_highest_0 7 rfl rfl)
theorem dX8_highest_8 : decode cX8_highest 8 = .ok (.arraylength, 1) := dk_190 (dk_at dksX8_highest_0 8 rfl rfl)
theorem dX8_highest_9 : decode cX8_highest 9 = .ok (.istore_n 3, 1) := dk_62 (dk_at dksX8_highest_0 9 rfl rfl)
theorem dX8_highest_10 : decode cX8_highest 10 = .ok (.iconst 0, 1) := dk_3 (dk_at dksX8_highest_0 10 rfl rfl)
theorem dX8_highest_11 : decode cX8_highest 11 = .ok (.istore 4, 2) := dk_54 4 (dk_at dksX8_highest_0 11 rfl rfl)
theorem dX8_highest_13 : decode cX8_highest 13 = .ok (.iload 4, 2) := dk_21 4 (dk_at dksX8_highest_0 13 rfl rfl)
theorem dX8_highest_15 : decode cX8_highest 15 = .ok (.iload_n 3, 1) := dk_29 (dk_at dksX8_highest_0 15 rfl rfl)
theorem dX8_highest_16 : decode cX8_highest 16 = .ok (.if_icmp .ge 22, 3) := dk_162 0 22 (dk_at dksX8_highest_0 16 rfl rfl)
theorem dX8_highest_19 : decode cX8_highest 19 = .ok (.aload_n 2, 1) := dk_44 (dk_at dksX8_highest_0 19 rfl rfl)
theorem dX8_highest_20 : decode cX8_highest 20 = .ok (.iload 4, 2) := dk_21 4 (dk_at dksX8_highest_0 20 rfl rfl)
theorem dX8_highest_22 : decode cX8_highest 22 = .ok (.iaload, 1) := dk_46 (dk_at dksX8_highest_0 22 rfl rfl)
theorem dX8_highest_23 : decode cX8_highest 23 = .ok (.istore 5, 2) := dk_54 5 (dk_at dksX8_highest_1 0 rfl rfl)
theorem dX8_highest_25 : decode cX8_highest 25 = .ok (.iload_n 1, 1) := dk_27 (dk_at dksX8_highest_1 2 rfl rfl)
theorem dX8_highest_26 : decode cX8_highest 26 = .ok (.iload 5, 2) := dk_21 5 (dk_at dksX8_highest_1 3 rfl rfl)
theorem dX8_highest_28 : decode cX8_highest 28 = .ok (.invokestatic 99, 3) := dk_184 0 99 (dk_at dksX8_highest_1 5 rfl rfl)
theorem dX8_highest_31 : decode cX8_highest 31 = .ok (.istore_n 1, 1) := dk_60 (dk_at dksX8_highest_1 8 rfl rfl)
theorem dX8_highest_32 : decode cX8_highest 32 = .ok (.iinc 4 1, 3) := dk_132 4 1 (dk_at dksX8_highest_1 9 rfl rfl)
theorem dX8_highest_35 : decode cX8_highest 35 = .ok (.goto (-22), 3) := dk_167 255 234 (dk_at dksX8_highest_1 12 rfl rfl)
theorem dX8_highest_38 : decode cX8_highest 38 = .ok (.iload_n 1, 1) := dk_27 (dk_at dksX8_highest_1 15 rfl rfl)
theorem dX8_highest_39 : decode cX8_highest 39 = .ok (.ireturn, 1) := dk_172 (dk_at dksX8_highest_1 16 rfl rfl)
abbrev cX8_award : ByteArray := prog_19_method_36_code
def yX8_award : MethodName := ⟨RX8, "award", "(I)I"⟩
def dkwX8_award_13 : List UInt8 := [180, 0, 222, 181, 1, 6, 42, 44, 182, 1, 9, 29, 172]
abbrev dktX8_award_13 : List UInt8 := dkwX8_award_13 ++ []
def dkwX8_award_12 : List UInt8 := [96, 181, 0, 176, 132, 7, 1, 167, 255, 136, 44, 4, 181, 0, 210, 44, 29, 181, 0, 228, 44, 44]
abbrev dktX8_award_12 : List UInt8 := dkwX8_award_12 ++ dktX8_award_13
def dkwX8_award_11 : List UInt8 := [21, 8, 100, 181, 0, 176, 42, 180, 0, 20, 21, 7, 182, 0, 78, 192, 0, 152, 89, 180, 0, 176, 21, 8]
abbrev dktX8_award_11 : List UInt8 := dkwX8_award_11 ++ dktX8_award_12
def dkwX8_award_10 : List UInt8 := [180, 0, 238, 29, 46, 44, 180, 0, 225, 100, 16, 10, 108, 184, 0, 93, 54, 8, 25, 4, 89, 180, 0, 176]
abbrev dktX8_award_10 : List UInt8 := dkwX8_award_10 ++ dktX8_award_11
def dkwX8_award_9 : List UInt8 := [160, 0, 74, 42, 44, 21, 7, 182, 0, 254, 154, 0, 6, 167, 0, 61, 25, 4, 180, 0, 176, 44]
abbrev dktX8_award_9 : List UInt8 := dkwX8_award_9 ++ dktX8_award_10
def dkwX8_award_8 : List UInt8 := [159, 0, 97, 42, 180, 0, 20, 21, 7, 182, 0, 78, 192, 0, 152, 180, 0, 158, 25, 4, 180, 0, 158]
abbrev dktX8_award_8 : List UInt8 := dkwX8_award_8 ++ dktX8_award_9
def dkwX8_award_7 : List UInt8 := [3, 54, 7, 21, 6, 153, 0, 121, 21, 7, 42, 180, 0, 20, 182, 0, 56, 162, 0, 109, 21, 7, 29]
abbrev dktX8_award_7 : List UInt8 := dkwX8_award_7 ++ dktX8_award_8
def dkwX8_award_6 : List UInt8 := [54, 6, 44, 21, 6, 153, 0, 10, 44, 180, 0, 225, 167, 0, 9, 44, 180, 0, 238, 29, 46, 181, 0, 231]
abbrev dktX8_award_6 : List UInt8 := dkwX8_award_6 ++ dktX8_award_7
def dkwX8_award_5 : List UInt8 := [21, 5, 182, 0, 78, 192, 0, 152, 180, 0, 158, 25, 4, 180, 0, 158, 160, 0, 7, 4, 167, 0, 4, 3]
abbrev dktX8_award_5 : List UInt8 := dkwX8_award_5 ++ dktX8_award_6
def dkwX8_award_4 : List UInt8 := [182, 1, 2, 54, 5, 21, 5, 2, 159, 0, 38, 25, 4, 180, 0, 158, 158, 0, 30, 42, 180, 0, 20]
abbrev dktX8_award_4 : List UInt8 := dkwX8_award_4 ++ dktX8_award_5
def dkwX8_award_3 : List UInt8 := [6, 181, 0, 210, 2, 172, 42, 180, 0, 20, 29, 182, 0, 78, 192, 0, 152, 58, 4, 42, 44, 29]
abbrev dktX8_award_3 : List UInt8 := dkwX8_award_3 ++ dktX8_award_4
def dkwX8_award_2 : List UInt8 := [180, 0, 23, 27, 182, 0, 78, 192, 0, 208, 77, 42, 44, 2, 182, 1, 2, 62, 29, 2, 160, 0, 10, 44]
abbrev dktX8_award_2 : List UInt8 := dkwX8_award_2 ++ dktX8_award_3
def dkwX8_award_1 : List UInt8 := [192, 0, 208, 180, 0, 210, 153, 0, 7, 4, 167, 0, 4, 3, 5, 182, 0, 52, 153, 0, 5, 3, 172, 42]
abbrev dktX8_award_1 : List UInt8 := dkwX8_award_1 ++ dktX8_award_2
def dkwX8_award_0 : List UInt8 := [42, 42, 27, 182, 0, 241, 4, 182, 0, 124, 154, 0, 33, 42, 42, 180, 0, 23, 27, 182, 0, 78]
abbrev dktX8_award_0 : List UInt8 := dkwX8_award_0 ++ dktX8_award_1
theorem dksX8_award_0 : cX8_award.data.toList.drop 0 = dktX8_award_0 := by decide +kernel
theorem dksX8_award_1 : cX8_award.data.toList.drop 22 = dktX8_award_1 := dk_seg dksX8_award_0 22 rfl rfl
theorem dksX8_award_2 : cX8_award.data.toList.drop 46 = dktX8_award_2 := dk_seg dksX8_award_1 24 rfl rfl
theorem dksX8_award_3 : cX8_award.data.toList.drop 70 = dktX8_award_3 := dk_seg dksX8_award_2 24 rfl rfl
theorem dksX8_award_4 : cX8_award.data.toList.drop 92 = dktX8_award_4 := dk_seg dksX8_award_3 22 rfl rfl
theorem dksX8_award_5 : cX8_award.data.toList.drop 115 = dktX8_award_5 := dk_seg dksX8_award_4 23 rfl rfl
theorem dksX8_award_6 : cX8_award.data.toList.drop 139 = dktX8_award_6 := dk_seg dksX8_award_5 24 rfl rfl
theorem dksX8_award_7 : cX8_award.data.toList.drop 163 = dktX8_award_7 := dk_seg dksX8_award_6 24 rfl rfl
theorem dksX8_award_8 : cX8_award.data.toList.drop 186 = dktX8_award_8 := dk_seg dksX8_award_7 23 rfl rfl
theorem dksX8_award_9 : cX8_award.data.toList.drop 209 = dktX8_award_9 := dk_seg dksX8_award_8 23 rfl rfl
theorem dksX8_award_10 : cX8_award.data.toList.drop 231 = dktX8_award_10 := dk_seg dksX8_award_9 22 rfl rfl
theorem dksX8_award_11 : cX8_award.data.toList.drop 255 = dktX8_award_11 := dk_seg dksX8_award_10 24 rfl rfl
theorem dksX8_award_12 : cX8_award.data.toList.drop 279 = dktX8_award_12 := dk_seg dksX8_award_11 24 rfl rfl
theorem dksX8_award_13 : cX8_award.data.toList.drop 301 = dktX8_award_13 := dk_seg dksX8_award_12 22 rfl rfl
theorem dX8_award_0 : decode cX8_award 0 = .ok (.aload_n 0, 1) := dk_42 (dk_at dksX8_award_0 0 rfl rfl)
theorem dX8_award_1 : decode cX8_award 1 = .ok (.aload_n 0, 1) := dk_42 (dk_at dksX8_award_0 1 rfl rfl)
theorem dX8_award_2 : decode cX8_award 2 = .ok (.iload_n 1, 1) := dk_27 (dk_at dksX8_award_0 2 rfl rfl)
theorem dX8_award_3 : decode cX8_award 3 = .ok (.invokevirtual 241, 3) := dk_182 0 241 (dk_at dksX8_award_0 3 rfl rfl)
theorem dX8_award_6 : decode cX8_award 6 = .ok (.iconst 1, 1) := dk_4 (dk_at dksX8_award_0 6 rfl rfl)
theorem dX8_award_7 : decode cX8_award 7 = .ok (.invokevirtual 124, 3) := dk_182 0 124 (dk_at dksX8_award_0 7 rfl rfl)
theorem dX8_award_10 : decode cX8_award 10 = .ok (.ifCond .ne 33, 3) := dk_154 0 33 (dk_at dksX8_award_0 10 rfl rfl)
theorem dX8_award_13 : decode cX8_award 13 = .ok (.aload_n 0, 1) := dk_42 (dk_at dksX8_award_0 13 rfl rfl)
theorem dX8_award_14 : decode cX8_award 14 = .ok (.aload_n 0, 1) := dk_42 (dk_at dksX8_award_0 14 rfl rfl)
theorem dX8_award_15 : decode cX8_award 15 = .ok (.getfield 23, 3) := dk_180 0 23 (dk_at dksX8_award_0 15 rfl rfl)
theorem dX8_award_18 : decode cX8_award 18 = .ok (.iload_n 1, 1) := dk_27 (dk_at dksX8_award_0 18 rfl rfl)
theorem dX8_award_19 : decode cX8_award 19 = .ok (.invokevirtual 78, 3) := dk_182 0 78 (dk_at dksX8_award_0 19 rfl rfl)
theorem dX8_award_22 : decode cX8_award 22 = .ok (.checkcast 208, 3) := dk_192 0 208 (dk_at dksX8_award_1 0 rfl rfl)
theorem dX8_award_25 : decode cX8_award 25 = .ok (.getfield 210, 3) := dk_180 0 210 (dk_at dksX8_award_1 3 rfl rfl)
theorem dX8_award_28 : decode cX8_award 28 = .ok (.ifCond .eq 7, 3) := dk_153 0 7 (dk_at dksX8_award_1 6 rfl rfl)
theorem dX8_award_31 : decode cX8_award 31 = .ok (.iconst 1, 1) := dk_4 (dk_at dksX8_award_1 9 rfl rfl)
theorem dX8_award_32 : decode cX8_award 32 = .ok (.goto 4, 3) := dk_167 0 4 (dk_at dksX8_award_1 10 rfl rfl)
theorem dX8_award_35 : decode cX8_award 35 = .ok (.iconst 0, 1) := dk_3 (dk_at dksX8_award_1 13 rfl rfl)
theorem dX8_award_36 : decode cX8_award 36 = .ok (.iconst 2, 1) := dk_5 (dk_at dksX8_award_1 14 rfl rfl)
theorem dX8_award_37 : decode cX8_award 37 = .ok (.invokevirtual 52, 3) := dk_182 0 52 (dk_at dksX8_award_1 15 rfl rfl)
theorem dX8_award_40 : decode cX8_award 40 = .ok (.ifCond .eq 5, 3) := dk_153 0 5 (dk_at dksX8_award_1 18 rfl rfl)
theorem dX8_award_43 : decode cX8_award 43 = .ok (.iconst 0, 1) := dk_3 (dk_at dksX8_award_1 21 rfl rfl)
theorem dX8_award_44 : decode cX8_award 44 = .ok (.ireturn, 1) := dk_172 (dk_at dksX8_award_1 22 rfl rfl)
theorem dX8_award_45 : decode cX8_award 45 = .ok (.aload_n 0, 1) := dk_42 (dk_at dksX8_award_1 23 rfl rfl)
theorem dX8_award_46 : decode cX8_award 46 = .ok (.getfield 23, 3) := dk_180 0 23 (dk_at dksX8_award_2 0 rfl rfl)
theorem dX8_award_49 : decode cX8_award 49 = .ok (.iload_n 1, 1) := dk_27 (dk_at dksX8_award_2 3 rfl rfl)
theorem dX8_award_50 : decode cX8_award 50 = .ok (.invokevirtual 78, 3) := dk_182 0 78 (dk_at dksX8_award_2 4 rfl rfl)
theorem dX8_award_53 : decode cX8_award 53 = .ok (.checkcast 208, 3) := dk_192 0 208 (dk_at dksX8_award_2 7 rfl rfl)
theorem dX8_award_56 : decode cX8_award 56 = .ok (.astore_n 2, 1) := dk_77 (dk_at dksX8_award_2 10 rfl rfl)
theorem dX8_award_57 : decode cX8_award 57 = .ok (.aload_n 0, 1) := dk_42 (dk_at dksX8_award_2 11 rfl rfl)
theorem dX8_award_58 : decode cX8_award 58 = .ok (.aload_n 2, 1) := dk_44 (dk_at dksX8_award_2 12 rfl rfl)
theorem dX8_award_59 : decode cX8_award 59 = .ok (.iconst (-1), 1) := dk_2 (dk_at dksX8_award_2 13 rfl rfl)
theorem dX8_award_60 : decode cX8_award 60 = .ok (.invokevirtual 258, 3) := dk_182 1 2 (dk_at dksX8_award_2 14 rfl rfl)
theorem dX8_award_63 : decode cX8_award 63 = .ok (.istore_n 3, 1) := dk_62 (dk_at dksX8_award_2 17 rfl rfl)
theorem dX8_award_64 : decode cX8_award 64 = .ok (.iload_n 3, 1) := dk_29 (dk_at dksX8_award_2 18 rfl rfl)
theorem dX8_award_65 : decode cX8_award 65 = .ok (.iconst (-1), 1) := dk_2 (dk_at dksX8_award_2 19 rfl rfl)
theorem dX8_award_66 : decode cX8_award 66 = .ok (.if_icmp .ne 10, 3) := dk_160 0 10 (dk_at dksX8_award_2 20 rfl rfl)
theorem dX8_award_69 : decode cX8_award 69 = .ok (.aload_n 2, 1) := dk_44 (dk_at dksX8_award_2 23 rfl rfl)
theorem dX8_award_70 : decode cX8_award 70 = .ok (.iconst 3, 1) := dk_6 (dk_at dksX8_award_3 0 rfl rfl)
theorem dX8_award_71 : decode cX8_award 71 = .ok (.putfield 210, 3) := dk_181 0 210 (dk_at dksX8_award_3 1 rfl rfl)
theorem dX8_award_74 : decode cX8_award 74 = .ok (.iconst (-1), 1) := dk_2 (dk_at dksX8_award_3 4 rfl rfl)
theorem dX8_award_75 : decode cX8_award 75 = .ok (.ireturn, 1) := dk_172 (dk_at dksX8_award_3 5 rfl rfl)
theorem dX8_award_76 : decode cX8_award 76 = .ok (.aload_n 0, 1) := dk_42 (dk_at dksX8_award_3 6 rfl rfl)
theorem dX8_award_77 : decode cX8_award 77 = .ok (.getfield 20, 3) := dk_180 0 20 (dk_at dksX8_award_3 7 rfl rfl)
theorem dX8_award_80 : decode cX8_award 80 = .ok (.iload_n 3, 1) := dk_29 (dk_at dksX8_award_3 10 rfl rfl)
theorem dX8_award_81 : decode cX8_award 81 = .ok (.invokevirtual 78, 3) := dk_182 0 78 (dk_at dksX8_award_3 11 rfl rfl)
theorem dX8_award_84 : decode cX8_award 84 = .ok (.checkcast 152, 3) := dk_192 0 152 (dk_at dksX8_award_3 14 rfl rfl)
theorem dX8_award_87 : decode cX8_award 87 = .ok (.astore 4, 2) := dk_58 4 (dk_at dksX8_award_3 17 rfl rfl)
theorem dX8_award_89 : decode cX8_award 89 = .ok (.aload_n 0, 1) := dk_42 (dk_at dksX8_award_3 19 rfl rfl)
theorem dX8_award_90 : decode cX8_award 90 = .ok (.aload_n 2, 1) := dk_44 (dk_at dksX8_award_3 20 rfl rfl)
theorem dX8_award_91 : decode cX8_award 91 = .ok (.iload_n 3, 1) := dk_29 (dk_at dksX8_award_3 21 rfl rfl)
theorem dX8_award_92 : decode cX8_award 92 = .ok (.invokevirtual 258, 3) := dk_182 1 2 (dk_at dksX8_award_4 0 rfl rfl)
theorem dX8_award_95 : decode cX8_award 95 = .ok (.istore 5, 2) := dk_54 5 (dk_at dksX8_award_4 3 rfl rfl)
theorem dX8_award_97 : decode cX8_award 97 = .ok (.iload 5, 2) := dk_21 5 (dk_at dksX8_award_4 5 rfl rfl)
theorem dX8_award_99 : decode cX8_award 99 = .ok (.iconst (-1), 1) := dk_2 (dk_at dksX8_award_4 7 rfl rfl)
theorem dX8_award_100 : decode cX8_award 100 = .ok (.if_icmp .eq 38, 3) := dk_159 0 38 (dk_at dksX8_award_4 8 rfl rfl)
theorem dX8_award_103 : decode cX8_award 103 = .ok (.aload 4, 2) := dk_25 4 (dk_at dksX8_award_4 11 rfl rfl)
theorem dX8_award_105 : decode cX8_award 105 = .ok (.getfield 158, 3) := dk_180 0 158 (dk_at dksX8_award_4 13 rfl rfl)
theorem dX8_award_108 : decode cX8_award 108 = .ok (.ifCond .le 30, 3) := dk_158 0 30 (dk_at dksX8_award_4 16 rfl rfl)
theorem dX8_award_111 : decode cX8_award 111 = .ok (.aload_n 0, 1) := dk_42 (dk_at dksX8_award_4 19 rfl rfl)
theorem dX8_award_112 : decode cX8_award 112 = .ok (.getfield 20, 3) := dk_180 0 20 (dk_at dksX8_award_4 20 rfl rfl)
theorem dX8_award_115 : decode cX8_award 115 = .ok (.iload 5, 2) := dk_21 5 (dk_at dksX8_award_5 0 rfl rfl)
theorem dX8_award_117 : decode cX8_award 117 = .ok (.invokevirtual 78, 3) := dk_182 0 78 (dk_at dksX8_award_5 2 rfl rfl)
theorem dX8_award_120 : decode cX8_award 120 = .ok (.checkcast 152, 3) := dk_192 0 152 (dk_at dksX8_award_5 5 rfl rfl)
theorem dX8_award_123 : decode cX8_award 123 = .ok (.getfield 158, 3) := dk_180 0 158 (dk_at dksX8_award_5 8 rfl rfl)
theorem dX8_award_126 : decode cX8_award 126 = .ok (.aload 4, 2) := dk_25 4 (dk_at dksX8_award_5 11 rfl rfl)
theorem dX8_award_128 : decode cX8_award 128 = .ok (.getfield 158, 3) := dk_180 0 158 (dk_at dksX8_award_5 13 rfl rfl)
theorem dX8_award_131 : decode cX8_award 131 = .ok (.if_icmp .ne 7, 3) := dk_160 0 7 (dk_at dksX8_award_5 16 rfl rfl)
theorem dX8_award_134 : decode cX8_award 134 = .ok (.iconst 1, 1) := dk_4 (dk_at dksX8_award_5 19 rfl rfl)
theorem dX8_award_135 : decode cX8_award 135 = .ok (.goto 4, 3) := dk_167 0 4 (dk_at dksX8_award_5 20 rfl rfl)
theorem dX8_award_138 : decode cX8_award 138 = .ok (.iconst 0, 1) := dk_3 (dk_at dksX8_award_5 23 rfl rfl)
theorem dX8_award_139 : decode cX8_award 139 = .ok (.istore 6, 2) := dk_54 6 (dk_at dksX8_award_6 0 rfl rfl)
theorem dX8_award_141 : decode cX8_award 141 = .ok (.aload_n 2, 1) := dk_44 (dk_at dksX8_award_6 2 rfl rfl)
theorem dX8_award_142 : decode cX8_award 142 = .ok (.iload 6, 2) := dk_21 6 (dk_at dksX8_award_6 3 rfl rfl)
theorem dX8_award_144 : decode cX8_award 144 = .ok (.ifCond .eq 10, 3) := dk_153 0 10 (dk_at dksX8_award_6 5 rfl rfl)
theorem dX8_award_147 : decode cX8_award 147 = .ok (.aload_n 2, 1) := dk_44 (dk_at dksX8_award_6 8 rfl rfl)
theorem dX8_award_148 : decode cX8_award 148 = .ok (.getfield 225, 3) := dk_180 0 225 (dk_at dksX8_award_6 9 rfl rfl)
theorem dX8_award_151 : decode cX8_award 151 = .ok (.goto 9, 3) := dk_167 0 9 (dk_at dksX8_award_6 12 rfl rfl)
theorem dX8_award_154 : decode cX8_award 154 = .ok (.aload_n 2, 1) := dk_44 (dk_at dksX8_award_6 15 rfl rfl)
theorem dX8_award_155 : decode cX8_award 155 = .ok (.getfield 238, 3) := dk_180 0 238 (dk_at dksX8_award_6 16 rfl rfl)
theorem dX8_award_158 : decode cX8_award 158 = .ok (.iload_n 3, 1) := dk_29 (dk_at dksX8_award_6 19 rfl rfl)
theorem dX8_award_159 : decode cX8_award 159 = .ok (.iaload, 1) := dk_46 (dk_at dksX8_award_6 20 rfl rfl)
theorem dX8_award_160 : decode cX8_award 160 = .ok (.putfield 231, 3) := dk_181 0 231 (dk_at dksX8_award_6 21 rfl rfl)
theorem dX8_award_163 : decode cX8_award 163 = .ok (.iconst 0, 1) := dk_3 (dk_at dksX8_award_7 0 rfl rfl)
theorem dX8_award_164 : decode cX8_award 164 = .ok (.istore 7, 2) := dk_54 7 (dk_at dksX8_award_7 1 rfl rfl)
theorem dX8_award_166 : decode cX8_award 166 = .ok (.iload 6, 2) := dk_21 6 (dk_at dksX8_award_7 3 rfl rfl)
theorem dX8_award_168 : decode cX8_award 168 = .ok (.ifCond .eq 121, 3) := dk_153 0 121 (dk_at dksX8_award_7 5 rfl rfl)
theorem dX8_award_171 : decode cX8_award 171 = .ok (.iload 7, 2) := dk_21 7 (dk_at dksX8_award_7 8 rfl rfl)
theorem dX8_award_173 : decode cX8_award 173 = .ok (.aload_n 0, 1) := dk_42 (dk_at dksX8_award_7 10 rfl rfl)
theorem dX8_award_174 : decode cX8_award 174 = .ok (.getfield 20, 3) := dk_180 0 20 (dk_at dksX8_award_7 11 rfl rfl)
theorem dX8_award_177 : decode cX8_award 177 = .ok (.invokevirtual 56, 3) := dk_182 0 56 (dk_at dksX8_award_7 14 rfl rfl)
theorem dX8_award_180 : decode cX8_award 180 = .ok (.if_icmp .ge 109, 3) := dk_162 0 109 (dk_at dksX8_award_7 17 rfl rfl)
theorem dX8_award_183 : decode cX8_award 183 = .ok (.iload 7, 2) := dk_21 7 (dk_at dksX8_award_7 20 rfl rfl)
theorem dX8_award_185 : decode cX8_award 185 = .ok (.iload_n 3, 1) := dk_29 (dk_at dksX8_award_7 22 rfl rfl)
theorem dX8_award_186 : decode cX8_award 186 = .ok (.if_icmp .eq 97, 3) := dk_159 0 97 (dk_at dksX8_award_8 0 rfl rfl)
theorem dX8_award_189 : decode cX8_award 189 = .ok (.aload_n 0, 1) := dk_42 (dk_at dksX8_award_8 3 rfl rfl)
theorem dX8_award_190 : decode cX8_award 190 = .ok (.getfield 20, 3) := dk_180 0 20 (dk_at dksX8_award_8 4 rfl rfl)
theorem dX8_award_193 : decode cX8_award 193 = .ok (.iload 7, 2) := dk_21 7 (dk_at dksX8_award_8 7 rfl rfl)
theorem dX8_award_195 : decode cX8_award 195 = .ok (.invokevirtual 78, 3) := dk_182 0 78 (dk_at dksX8_award_8 9 rfl rfl)
theorem dX8_award_198 : decode cX8_award 198 = .ok (.checkcast 152, 3) := dk_192 0 152 (dk_at dksX8_award_8 12 rfl rfl)
theorem dX8_award_201 : decode cX8_award 201 = .ok (.getfield 158, 3) := dk_180 0 158 (dk_at dksX8_award_8 15 rfl rfl)
theorem dX8_award_204 : decode cX8_award 204 = .ok (.aload 4, 2) := dk_25 4 (dk_at dksX8_award_8 18 rfl rfl)
theorem dX8_award_206 : decode cX8_award 206 = .ok (.getfield 158, 3) := dk_180 0 158 (dk_at dksX8_award_8 20 rfl rfl)
theorem dX8_award_209 : decode cX8_award 209 = .ok (.if_icmp .ne 74, 3) := dk_160 0 74 (dk_at dksX8_award_9 0 rfl rfl)
theorem dX8_award_212 : decode cX8_award 212 = .ok (.aload_n 0, 1) := dk_42 (dk_at dksX8_award_9 3 rfl rfl)
theorem dX8_award_213 : decode cX8_award 213 = .ok (.aload_n 2, 1) := dk_44 (dk_at dksX8_award_9 4 rfl rfl)
theorem dX8_award_214 : decode cX8_award 214 = .ok (.iload 7, 2) := dk_21 7 (dk_at dksX8_award_9 5 rfl rfl)
theorem dX8_award_216 : decode cX8_award 216 = .ok (.invokevirtual 254, 3) := dk_182 0 254 (dk_at dksX8_award_9 7 rfl rfl)
theorem dX8_award_219 : decode cX8_award 219 = .ok (.ifCond .ne 6, 3) := dk_154 0 6 (dk_at dksX8_award_9 10 rfl rfl)
theorem dX8_award_222 : decode cX8_award 222 = .ok (.goto 61, 3) := dk_167 0 61 (dk_at dksX8_award_9 13 rfl rfl)
theorem dX8_award_225 : decode cX8_award 225 = .ok (.aload 4, 2) := dk_25 4 (dk_at dksX8_award_9 16 rfl rfl)
theorem dX8_award_227 : decode cX8_award 227 = .ok (.getfield 176, 3) := dk_180 0 176 (dk_at dksX8_award_9 18 rfl rfl)
theorem dX8_award_230 : decode cX8_award 230 = .ok (.aload_n 2, 1) := dk_44 (dk_at dksX8_award_9 21 rfl rfl)
theorem dX8_award_231 : decode cX8_award 231 = .ok (.getfield 238, 3) := dk_180 0 238 (dk_at dksX8_award_10 0 rfl rfl)
theorem dX8_award_234 : decode cX8_award 234 = .ok (.iload_n 3, 1) := dk_29 (dk_at dksX8_award_10 3 rfl rfl)
theorem dX8_award_235 : decode cX8_award 235 = .ok (.iaload, 1) := dk_46 (dk_at dksX8_award_10 4 rfl rfl)
theorem dX8_award_236 : decode cX8_award 236 = .ok (.aload_n 2, 1) := dk_44 (dk_at dksX8_award_10 5 rfl rfl)
theorem dX8_award_237 : decode cX8_award 237 = .ok (.getfield 225, 3) := dk_180 0 225 (dk_at dksX8_award_10 6 rfl rfl)
theorem dX8_award_240 : decode cX8_award 240 = .ok (.isub, 1) := dk_100 (dk_at dksX8_award_10 9 rfl rfl)
theorem dX8_award_241 : decode cX8_award 241 = .ok (.bipush 10, 2) := dk_16 10 (dk_at dksX8_award_10 10 rfl rfl)
theorem dX8_award_243 : decode cX8_award 243 = .ok (.idiv, 1) := dk_108 (dk_at dksX8_award_10 12 rfl rfl)
theorem dX8_award_244 : decode cX8_award 244 = .ok (.invokestatic 93, 3) := dk_184 0 93 (dk_at dksX8_award_10 13 rfl rfl)
theorem dX8_award_247 : decode cX8_award 247 = .ok (.istore 8, 2) := dk_54 8 (dk_at dksX8_award_10 16 rfl rfl)
theorem dX8_award_249 : decode cX8_award 249 = .ok (.aload 4, 2) := dk_25 4 (dk_at dksX8_award_10 18 rfl rfl)
theorem dX8_award_251 : decode cX8_award 251 = .ok (.dup, 1) := dk_89 (dk_at dksX8_award_10 20 rfl rfl)
theorem dX8_award_252 : decode cX8_award 252 = .ok (.getfield 176, 3) := dk_180 0 176 (dk_at dksX8_award_10 21 rfl rfl)
theorem dX8_award_255 : decode cX8_award 255 = .ok (.iload 8, 2) := dk_21 8 (dk_at dksX8_award_11 0 rfl rfl)
theorem dX8_award_257 : decode cX8_award 257 = .ok (.isub, 1) := dk_100 (dk_at dksX8_award_11 2 rfl rfl)
theorem dX8_award_258 : decode cX8_award 258 = .ok (.putfield 176, 3) := dk_181 0 176 (dk_at dksX8_award_11 3 rfl rfl)
theorem dX8_award_261 : decode cX8_award 261 = .ok (.aload_n 0, 1) := dk_42 (dk_at dksX8_award_11 6 rfl rfl)
theorem dX8_award_262 : decode cX8_award 262 = .ok (.getfield 20, 3) := dk_180 0 20 (dk_at dksX8_award_11 7 rfl rfl)
theorem dX8_award_265 : decode cX8_award 265 = .ok (.iload 7, 2) := dk_21 7 (dk_at dksX8_award_11 10 rfl rfl)
theorem dX8_award_267 : decode cX8_award 267 = .ok (.invokevirtual 78, 3) := dk_182 0 78 (dk_at dksX8_award_11 12 rfl rfl)
theorem dX8_award_270 : decode cX8_award 270 = .ok (.checkcast 152, 3) := dk_192 0 152 (dk_at dksX8_award_11 15 rfl rfl)
theorem dX8_award_273 : decode cX8_award 273 = .ok (.dup, 1) := dk_89 (dk_at dksX8_award_11 18 rfl rfl)
theorem dX8_award_274 : decode cX8_award 274 = .ok (.getfield 176, 3) := dk_180 0 176 (dk_at dksX8_award_11 19 rfl rfl)
theorem dX8_award_277 : decode cX8_award 277 = .ok (.iload 8, 2) := dk_21 8 (dk_at dksX8_award_11 22 rfl rfl)
theorem dX8_award_279 : decode cX8_award 279 = .ok (.iadd, 1) := dk_96 (dk_at dksX8_award_12 0 rfl rfl)
theorem dX8_award_280 : decode cX8_award 280 = .ok (.putfield 176, 3) := dk_181 0 176 (dk_at dksX8_award_12 1 rfl rfl)
theorem dX8_award_283 : decode cX8_award 283 = .ok (.iinc 7 1, 3) := dk_132 7 1 (dk_at dksX8_award_12 4 rfl rfl)
theorem dX8_award_286 : decode cX8_award 286 = .ok (.goto (-120), 3) := dk_167 255 136 (dk_at dksX8_award_12 7 rfl rfl)
theorem dX8_award_289 : decode cX8_award 289 = .ok (.aload_n 2, 1) := dk_44 (dk_at dksX8_award_12 10 rfl rfl)
theorem dX8_award_290 : decode cX8_award 290 = .ok (.iconst 1, 1) := dk_4 (dk_at dksX8_award_12 11 rfl rfl)
theorem dX8_award_291 : decode cX8_award 291 = .ok (.putfield 210, 3) := dk_181 0 210 (dk_at dksX8_award_12 12 rfl rfl)
theorem dX8_award_294 : decode cX8_award 294 = .ok (.aload_n 2, 1) := dk_44 (dk_at dksX8_award_12 15 rfl rfl)
theorem dX8_award_295 : decode cX8_award 295 = .ok (.iload_n 3, 1) := dk_29 (dk_at dksX8_award_12 16 rfl rfl)
theorem dX8_award_296 : decode cX8_award 296 = .ok (.putfield 228, 3) := dk_181 0 228 (dk_at dksX8_award_12 17 rfl rfl)
theorem dX8_award_299 : decode cX8_award 299 = .ok (.aload_n 2, 1) := dk_44 (dk_at dksX8_award_12 20 rfl rfl)
theorem dX8_award_300 : decode cX8_award 300 = .ok (.aload_n 2, 1) := dk_44 (dk_at dksX8_award_12 21 rfl rfl)
theorem dX8_award_301 : decode cX8_award 301 = .ok (.getfield 222, 3) := dk_180 0 222 (dk_at dksX8_award_13 0 rfl rfl)
theorem dX8_award_304 : decode cX8_award 304 = .ok (.putfield 262, 3) := dk_181 1 6 (dk_at dksX8_award_13 3 rfl rfl)
theorem dX8_award_307 : decode cX8_award 307 = .ok (.aload_n 0, 1) := dk_42 (dk_at dksX8_award_13 6 rfl rfl)
theorem dX8_award_308 : decode cX8_award 308 = .ok (.aload_n 2, 1) := dk_44 (dk_at dksX8_award_13 7 rfl rfl)
theorem dX8_award_309 : decode cX8_award 309 = .ok (.invokevirtual 265, 3) := dk_182 1 9 (dk_at dksX8_award_13 8 rfl rfl)
theorem dX8_award_312 : decode cX8_award 312 = .ok (.iload_n 3, 1) := dk_29 (dk_at dksX8_award_13 11 rfl rfl)
theorem dX8_award_313 : decode cX8_award 313 = .ok (.ireturn, 1) := dk_172 (dk_at dksX8_award_13 12 rfl rfl)
abbrev cX8_best : ByteArray := prog_19_method_35_code
def yX8_best : MethodName := ⟨RX8, "best", "(LPublicanryModel$Lot;I)I"⟩
def dkwX8_best_2 : List UInt8 := [180, 0, 238, 29, 46, 164, 0, 6, 21, 4, 62, 132, 4, 1, 167, 255, 201, 29, 172]
abbrev dktX8_best_2 : List UInt8 := dkwX8_best_2 ++ []
def dkwX8_best_1 : List UInt8 := [43, 21, 4, 182, 0, 254, 153, 0, 27, 29, 2, 159, 0, 19, 43, 180, 0, 238, 21, 4, 46, 43]
abbrev dktX8_best_1 : List UInt8 := dkwX8_best_1 ++ dktX8_best_2
def dkwX8_best_0 : List UInt8 := [2, 62, 3, 54, 4, 21, 4, 42, 180, 0, 20, 182, 0, 56, 162, 0, 49, 21, 4, 28, 159, 0, 37, 42]
abbrev dktX8_best_0 : List UInt8 := dkwX8_best_0 ++ dktX8_best_1
theorem dksX8_best_0 : cX8_best.data.toList.drop 0 = dktX8_best_0 := by decide +kernel
theorem dksX8_best_1 : cX8_best.data.toList.drop 24 = dktX8_best_1 := dk_seg dksX8_best_0 24 rfl rfl
theorem dksX8_best_2 : cX8_best.data.toList.drop 46 = dktX8_best_2 := dk_seg dksX8_best_1 22 rfl rfl
theorem dX8_best_0 : decode cX8_best 0 = .ok (.iconst (-1), 1) := dk_2 (dk_at dksX8_best_0 0 rfl rfl)
theorem dX8_best_1 : decode cX8_best 1 = .ok (.istore_n 3, 1) := dk_62 (dk_at dksX8_best_0 1 rfl rfl)
theorem dX8_best_2 : decode cX8_best 2 = .ok (.iconst 0, 1) := dk_3 (dk_at dksX8_best_0 2 rfl rfl)
theorem dX8_best_3 : decode cX8_best 3 = .ok (.istore 4, 2) := dk_54 4 (dk_at dksX8_best_0 3 rfl rfl)
theorem dX8_best_5 : decode cX8_best 5 = .ok (.iload 4, 2) := dk_21 4 (dk_at dksX8_best_0 5 rfl rfl)
theorem dX8_best_7 : decode cX8_best 7 = .ok (.aload_n 0, 1) := dk_42 (dk_at dksX8_best_0 7 rfl rfl)
theorem dX8_best_8 : decode cX8_best 8 = .ok (.getfield 20, 3) := dk_180 0 20 (dk_at dksX8_best_0 8 rfl rfl)
theorem dX8_best_11 : decode cX8_best 11 = .ok (.invokevirtual 56, 3) := dk_182 0 56 (dk_at dksX8_best_0 11 rfl rfl)
theorem dX8_best_14 : decode cX8_best 14 = .ok (.if_icmp .ge 49, 3) := dk_162 0 49 (dk_at dksX8_best_0 14 rfl rfl)
theorem dX8_best_17 : decode cX8_best 17 = .ok (.iload 4, 2) := dk_21 4 (dk_at dksX8_best_0 17 rfl rfl)
theorem dX8_best_19 : decode cX8_best 19 = .ok (.iload_n 2, 1) := dk_28 (dk_at dksX8_best_0 19 rfl rfl)
theorem dX8_best_20 : decode cX8_best 20 = .ok (.if_icmp .eq 37, 3) := dk_159 0 37 (dk_at dksX8_best_0 20 rfl rfl)
theorem dX8_best_23 : decode cX8_best 23 = .ok (.aload_n 0, 1) := dk_42 (dk_at dksX8_best_0 23 rfl rfl)
theorem dX8_best_24 : decode cX8_best 24 = .ok (.aload_n 1, 1) := dk_43 (dk_at dksX8_best_1 0 rfl rfl)
theorem dX8_best_25 : decode cX8_best 25 = .ok (.iload 4, 2) := dk_21 4 (dk_at dksX8_best_1 1 rfl rfl)
theorem dX8_best_27 : decode cX8_best 27 = .ok (.invokevirtual 254, 3) := dk_182 0 254 (dk_at dksX8_best_1 3 rfl rfl)
theorem dX8_best_30 : decode cX8_best 30 = .ok (.ifCond .eq 27, 3) := dk_153 0 27 (dk_at dksX8_best_1 6 rfl rfl)
theorem dX8_best_33 : decode cX8_best 33 = .ok (.iload_n 3, 1) := dk_29 (dk_at dksX8_best_1 9 rfl rfl)
theorem dX8_best_34 : decode cX8_best 34 = .ok (.iconst (-1), 1) := dk_2 (dk_at dksX8_best_1 10 rfl rfl)
theorem dX8_best_35 : decode cX8_best 35 = .ok (.if_icmp .eq 19, 3) := dk_159 0 19 (dk_at dksX8_best_1 11 rfl rfl)
theorem dX8_best_38 : decode cX8_best 38 = .ok (.aload_n 1, 1) := dk_43 (dk_at dksX8_best_1 14 rfl rfl)
theorem dX8_best_39 : decode cX8_best 39 = .ok (.getfield 238, 3) := dk_180 0 238 (dk_at dksX8_best_1 15 rfl rfl)
theorem dX8_best_42 : decode cX8_best 42 = .ok (.iload 4, 2) := dk_21 4 (dk_at dksX8_best_1 18 rfl rfl)
theorem dX8_best_44 : decode cX8_best 44 = .ok (.iaload, 1) := dk_46 (dk_at dksX8_best_1 20 rfl rfl)
theorem dX8_best_45 : decode cX8_best 45 = .ok (.aload_n 1, 1) := dk_43 (dk_at dksX8_best_1 21 rfl rfl)
theorem dX8_best_46 : decode cX8_best 46 = .ok (.getfield 238, 3) := dk_180 0 238 (dk_at dksX8_best_2 0 rfl rfl)
theorem dX8_best_49 : decode cX8_best 49 = .ok (.iload_n 3, 1) := dk_29 (dk_at dksX8_best_2 3 rfl rfl)
theorem dX8_best_50 : decode cX8_best 50 = .ok (.iaload, 1) := dk_46 (dk_at dksX8_best_2 4 rfl rfl)
theorem dX8_best_51 : decode cX8_best 51 = .ok (.if_icmp .le 6, 3) := dk_164 0 6 (dk_at dksX8_best_2 5 rfl rfl)
theorem dX8_best_54 : decode cX8_best 54 = .ok (.iload 4, 2) := dk_21 4 (dk_at dksX8_best_2 8 rfl rfl)
theorem dX8_best_56 : decode cX8_best 56 = .ok (.istore_n 3, 1) := dk_62 (dk_at dksX8_best_2 10 rfl rfl)
theorem dX8_best_57 : decode cX8_best 57 = .ok (.iinc 4 1, 3) := dk_132 4 1 (dk_at dksX8_best_2 11 rfl rfl)
theorem dX8_best_60 : decode cX8_best 60 = .ok (.goto (-55), 3) := dk_167 255 201 (dk_at dksX8_best_2 14 rfl rfl)
theorem dX8_best_63 : decode cX8_best 63 = .ok (.iload_n 3, 1) := dk_29 (dk_at dksX8_best_2 17 rfl rfl)
theorem dX8_best_64 : decode cX8_best 64 = .ok (.ireturn, 1) := dk_172 (dk_at dksX8_best_2 18 rfl rfl)
abbrev cX8_counts : ByteArray := prog_19_method_34_code
def yX8_counts : MethodName := ⟨RX8, "counts", "(LPublicanryModel$Lot;I)Z"⟩
def dkwX8_counts_2 : List UInt8 := [167, 0, 4, 3, 172]
abbrev dktX8_counts_2 : List UInt8 := dkwX8_counts_2 ++ []
def dkwX8_counts_1 : List UInt8 := [182, 0, 78, 192, 0, 152, 180, 0, 244, 154, 0, 18, 42, 28, 182, 0, 247, 29, 7, 108, 161, 0, 7, 4]
abbrev dktX8_counts_1 : List UInt8 := dkwX8_counts_1 ++ dktX8_counts_2
def dkwX8_counts_0 : List UInt8 := [43, 180, 0, 238, 28, 46, 62, 29, 158, 0, 43, 29, 43, 180, 0, 225, 161, 0, 35, 42, 180, 0, 20, 28]
abbrev dktX8_counts_0 : List UInt8 := dkwX8_counts_0 ++ dktX8_counts_1
theorem dksX8_counts_0 : cX8_counts.data.toList.drop 0 = dktX8_counts_0 := by decide +kernel
theorem dksX8_counts_1 : cX8_counts.data.toList.drop 24 = dktX8_counts_1 := dk_seg dksX8_counts_0 24 rfl rfl
theorem dksX8_counts_2 : cX8_counts.data.toList.drop 48 = dktX8_counts_2 := dk_seg dksX8_counts_1 24 rfl rfl
theorem dX8_counts_0 : decode cX8_counts 0 = .ok (.aload_n 1, 1) := dk_43 (dk_at dksX8_counts_0 0 rfl rfl)
theorem dX8_counts_1 : decode cX8_counts 1 = .ok (.getfield 238, 3) := dk_180 0 238 (dk_at dksX8_counts_0 1 rfl rfl)
theorem dX8_counts_4 : decode cX8_counts 4 = .ok (.iload_n 2, 1) := dk_28 (dk_at dksX8_counts_0 4 rfl rfl)
theorem dX8_counts_5 : decode cX8_counts 5 = .ok (.iaload, 1) := dk_46 (dk_at dksX8_counts_0 5 rfl rfl)
theorem dX8_counts_6 : decode cX8_counts 6 = .ok (.istore_n 3, 1) := dk_62 (dk_at dksX8_counts_0 6 rfl rfl)
theorem dX8_counts_7 : decode cX8_counts 7 = .ok (.iload_n 3, 1) := dk_29 (dk_at dksX8_counts_0 7 rfl rfl)
theorem dX8_counts_8 : decode cX8_counts 8 = .ok (.ifCond .le 43, 3) := dk_158 0 43 (dk_at dksX8_counts_0 8 rfl rfl)
theorem dX8_counts_11 : decode cX8_counts 11 = .ok (.iload_n 3, 1) := dk_29 (dk_at dksX8_counts_0 11 rfl rfl)
theorem dX8_counts_12 : decode cX8_counts 12 = .ok (.aload_n 1, 1) := dk_43 (dk_at dksX8_counts_0 12 rfl rfl)
theorem dX8_counts_13 : decode cX8_counts 13 = .ok (.getfield 225, 3) := dk_180 0 225 (dk_at dksX8_counts_0 13 rfl rfl)
theorem dX8_counts_16 : decode cX8_counts 16 = .ok (.if_icmp .lt 35, 3) := dk_161 0 35 (dk_at dksX8_counts_0 16 rfl rfl)
theorem dX8_counts_19 : decode cX8_counts 19 = .ok (.aload_n 0, 1) := dk_42 (dk_at dksX8_counts_0 19 rfl rfl)
theorem dX8_counts_20 : decode cX8_counts 20 = .ok (.getfield 20, 3) := dk_180 0 20 (dk_at dksX8_counts_0 20 rfl rfl)
theorem dX8_counts_23 : decode cX8_counts 23 = .ok (.iload_n 2, 1) := dk_28 (dk_at dksX8_counts_0 23 rfl rfl)
theorem dX8_counts_24 : decode cX8_counts 24 = .ok (.invokevirtual 78, 3) := dk_182 0 78 (dk_at dksX8_counts_1 0 rfl rfl)
theorem dX8_counts_27 : decode cX8_counts 27 = .ok (.checkcast 152, 3) := dk_192 0 152 (dk_at dksX8_counts_1 3 rfl rfl)
theorem dX8_counts_30 : decode cX8_counts 30 = .ok (.getfield 244, 3) := dk_180 0 244 (dk_at dksX8_counts_1 6 rfl rfl)
theorem dX8_counts_33 : decode cX8_counts 33 = .ok (.ifCond .ne 18, 3) := dk_154 0 18 (dk_at dksX8_counts_1 9 rfl rfl)
theorem dX8_counts_36 : decode cX8_counts 36 = .ok (.aload_n 0, 1) := dk_42 (dk_at dksX8_counts_1 12 rfl rfl)
theorem dX8_counts_37 : decode cX8_counts 37 = .ok (.iload_n 2, 1) := dk_28 (dk_at dksX8_counts_1 13 rfl rfl)
theorem dX8_counts_38 : decode cX8_counts 38 = .ok (.invokevirtual 247, 3) := dk_182 0 247 (dk_at dksX8_counts_1 14 rfl rfl)
theorem dX8_counts_41 : decode cX8_counts 41 = .ok (.iload_n 3, 1) := dk_29 (dk_at dksX8_counts_1 17 rfl rfl)
theorem dX8_counts_42 : decode cX8_counts 42 = .ok (.iconst 4, 1) := dk_7 (dk_at dksX8_counts_1 18 rfl rfl)
theorem dX8_counts_43 : decode cX8_counts 43 = .ok (.idiv, 1) := dk_108 (dk_at dksX8_counts_1 19 rfl rfl)
theorem dX8_counts_44 : decode cX8_counts 44 = .ok (.if_icmp .lt 7, 3) := dk_161 0 7 (dk_at dksX8_counts_1 20 rfl rfl)
theorem dX8_counts_47 : decode cX8_counts 47 = .ok (.iconst 1, 1) := dk_4 (dk_at dksX8_counts_1 23 rfl rfl)
theorem dX8_counts_48 : decode cX8_counts 48 = .ok (.goto 4, 3) := dk_167 0 4 (dk_at dksX8_counts_2 0 rfl rfl)
theorem dX8_counts_51 : decode cX8_counts 51 = .ok (.iconst 0, 1) := dk_3 (dk_at dksX8_counts_2 3 rfl rfl)
theorem dX8_counts_52 : decode cX8_counts 52 = .ok (.ireturn, 1) := dk_172 (dk_at dksX8_counts_2 4 rfl rfl)
abbrev cX8_fallDue : ByteArray := prog_19_method_37_code
def yX8_fallDue : MethodName := ⟨RX8, "fallDue", "(LPublicanryModel$Lot;)V"⟩
def dkwX8_fallDue_11 : List UInt8 := [43, 180, 0, 228, 160, 0, 9, 25, 8, 5, 181, 0, 210, 167, 255, 207, 177]
abbrev dktX8_fallDue_11 : List UInt8 := dkwX8_fallDue_11 ++ []
def dkwX8_fallDue_10 : List UInt8 := [185, 0, 204, 1, 0, 192, 0, 208, 58, 8, 25, 8, 180, 0, 210, 4, 160, 0, 21, 25, 8, 180, 0, 228]
abbrev dktX8_fallDue_10 : List UInt8 := dkwX8_fallDue_10 ++ dktX8_fallDue_11
def dkwX8_fallDue_9 : List UInt8 := [180, 0, 23, 182, 0, 195, 58, 7, 25, 7, 185, 0, 199, 1, 0, 153, 0, 45, 25, 7]
abbrev dktX8_fallDue_9 : List UInt8 := dkwX8_fallDue_9 ++ dktX8_fallDue_10
def dkwX8_fallDue_8 : List UInt8 := [21, 6, 96, 181, 0, 118, 42, 89, 180, 0, 121, 21, 6, 100, 181, 0, 121, 44, 4, 181, 0, 244, 42]
abbrev dktX8_fallDue_8 : List UInt8 := dkwX8_fallDue_8 ++ dktX8_fallDue_9
def dkwX8_fallDue_7 : List UInt8 := [7, 108, 184, 0, 93, 54, 6, 44, 89, 180, 0, 155, 21, 6, 100, 181, 0, 155, 42, 89, 180, 0, 118]
abbrev dktX8_fallDue_7 : List UInt8 := dkwX8_fallDue_7 ++ dktX8_fallDue_8
def dkwX8_fallDue_6 : List UInt8 := [180, 0, 118, 21, 5, 96, 181, 0, 118, 21, 5, 29, 160, 0, 4, 177, 29, 21, 5, 100, 43, 180, 0, 231]
abbrev dktX8_fallDue_6 : List UInt8 := dkwX8_fallDue_6 ++ dktX8_fallDue_7
def dkwX8_fallDue_5 : List UInt8 := [44, 89, 180, 0, 176, 21, 5, 100, 181, 0, 176, 44, 89, 180, 1, 21, 21, 5, 96, 181, 1, 21, 42, 89]
abbrev dktX8_fallDue_5 : List UInt8 := dkwX8_fallDue_5 ++ dktX8_fallDue_6
def dkwX8_fallDue_4 : List UInt8 := [180, 1, 18, 21, 4, 100, 181, 1, 18, 29, 21, 4, 100, 62, 29, 44, 180, 0, 176, 184, 0, 93, 54, 5]
abbrev dktX8_fallDue_4 : List UInt8 := dkwX8_fallDue_4 ++ dktX8_fallDue_5
def dkwX8_fallDue_3 : List UInt8 := [21, 4, 100, 181, 1, 15, 29, 21, 4, 100, 62, 29, 44, 180, 1, 18, 184, 0, 93, 54, 4, 44, 89]
abbrev dktX8_fallDue_3 : List UInt8 := dkwX8_fallDue_3 ++ dktX8_fallDue_4
def dkwX8_fallDue_2 : List UInt8 := [180, 1, 13, 4, 96, 181, 1, 13, 29, 43, 180, 1, 15, 184, 0, 93, 54, 4, 43, 89, 180, 1, 15]
abbrev dktX8_fallDue_2 : List UInt8 := dkwX8_fallDue_2 ++ dktX8_fallDue_3
def dkwX8_fallDue_1 : List UInt8 := [43, 180, 1, 13, 154, 0, 15, 43, 180, 0, 231, 43, 180, 0, 222, 112, 167, 0, 4, 3, 96, 62, 43, 89]
abbrev dktX8_fallDue_1 : List UInt8 := dkwX8_fallDue_1 ++ dktX8_fallDue_2
def dkwX8_fallDue_0 : List UInt8 := [42, 180, 0, 20, 43, 180, 0, 228, 182, 0, 78, 192, 0, 152, 77, 43, 180, 0, 231, 43, 180, 0, 222, 108]
abbrev dktX8_fallDue_0 : List UInt8 := dkwX8_fallDue_0 ++ dktX8_fallDue_1
theorem dksX8_fallDue_0 : cX8_fallDue.data.toList.drop 0 = dktX8_fallDue_0 := by decide +kernel
theorem dksX8_fallDue_1 : cX8_fallDue.data.toList.drop 24 = dktX8_fallDue_1 := dk_seg dksX8_fallDue_0 24 rfl rfl
theorem dksX8_fallDue_2 : cX8_fallDue.data.toList.drop 48 = dktX8_fallDue_2 := dk_seg dksX8_fallDue_1 24 rfl rfl
theorem dksX8_fallDue_3 : cX8_fallDue.data.toList.drop 71 = dktX8_fallDue_3 := dk_seg dksX8_fallDue_2 23 rfl rfl
theorem dksX8_fallDue_4 : cX8_fallDue.data.toList.drop 94 = dktX8_fallDue_4 := dk_seg dksX8_fallDue_3 23 rfl rfl
theorem dksX8_fallDue_5 : cX8_fallDue.data.toList.drop 118 = dktX8_fallDue_5 := dk_seg dksX8_fallDue_4 24 rfl rfl
theorem dksX8_fallDue_6 : cX8_fallDue.data.toList.drop 142 = dktX8_fallDue_6 := dk_seg dksX8_fallDue_5 24 rfl rfl
theorem dksX8_fallDue_7 : cX8_fallDue.data.toList.drop 166 = dktX8_fallDue_7 := dk_seg dksX8_fallDue_6 24 rfl rfl
theorem dksX8_fallDue_8 : cX8_fallDue.data.toList.drop 189 = dktX8_fallDue_8 := dk_seg dksX8_fallDue_7 23 rfl rfl
theorem dksX8_fallDue_9 : cX8_fallDue.data.toList.drop 212 = dktX8_fallDue_9 := dk_seg dksX8_fallDue_8 23 rfl rfl
theorem dksX8_fallDue_10 : cX8_fallDue.data.toList.drop 232 = dktX8_fallDue_10 := dk_seg dksX8_fallDue_9 20 rfl rfl
theorem dksX8_fallDue_11 : cX8_fallDue.data.toList.drop 256 = dktX8_fallDue_11 := dk_seg dksX8_fallDue_10 24 rfl rfl
theorem dX8_fallDue_0 : decode cX8_fallDue 0 = .ok (.aload_n 0, 1) := dk_42 (dk_at dksX8_fallDue_0 0 rfl rfl)
theorem dX8_fallDue_1 : decode cX8_fallDue 1 = .ok (.getfield 20, 3) := dk_180 0 20 (dk_at dksX8_fallDue_0 1 rfl rfl)
theorem dX8_fallDue_4 : decode cX8_fallDue 4 = .ok (.aload_n 1, 1) := dk_43 (dk_at dksX8_fallDue_0 4 rfl rfl)
theorem dX8_fallDue_5 : decode cX8_fallDue 5 = .ok (.getfield 228, 3) := dk_180 0 228 (dk_at dksX8_fallDue_0 5 rfl rfl)
theorem dX8_fallDue_8 : decode cX8_fallDue 8 = .ok (.invokevirtual 78, 3) := dk_182 0 78 (dk_at dksX8_fallDue_0 8 rfl rfl)
theorem dX8_fallDue_11 : decode cX8_fallDue 11 = .ok (.checkcast 152, 3) := dk_192 0 152 (dk_at dksX8_fallDue_0 11 rfl rfl)
theorem dX8_fallDue_14 : decode cX8_fallDue 14 = .ok (.astore_n 2, 1) := dk_77 (dk_at dksX8_fallDue_0 14 rfl rfl)
theorem dX8_fallDue_15 : decode cX8_fallDue 15 = .ok (.aload_n 1, 1) := dk_43 (dk_at dksX8_fallDue_0 15 rfl rfl)
theorem dX8_fallDue_16 : decode cX8_fallDue 16 = .ok (.getfield 231, 3) := dk_180 0 231 (dk_at dksX8_fallDue_0 16 rfl rfl)
theorem dX8_fallDue_19 : decode cX8_fallDue 19 = .ok (.aload_n 1, 1) := dk_43 (dk_at dksX8_fallDue_0 19 rfl rfl)
theorem dX8_fallDue_20 : decode cX8_fallDue 20 = .ok (.getfield 222, 3) := dk_180 0 222 (dk_at dksX8_fallDue_0 20 rfl rfl)
theorem dX8_fallDue_23 : decode cX8_fallDue 23 = .ok (.idiv, 1) := dk_108 (dk_at dksX8_fallDue_0 23 rfl rfl)
theorem dX8_fallDue_24 : decode cX8_fallDue 24 = .ok (.aload_n 1, 1) := dk_43 (dk_at dksX8_fallDue_1 0 rfl rfl)
theorem dX8_fallDue_25 : decode cX8_fallDue 25 = .ok (.getfield 269, 3) := dk_180 1 13 (dk_at dksX8_fallDue_1 1 rfl rfl)
theorem dX8_fallDue_28 : decode cX8_fallDue 28 = .ok (.ifCond .ne 15, 3) := dk_154 0 15 (dk_at dksX8_fallDue_1 4 rfl rfl)
theorem dX8_fallDue_31 : decode cX8_fallDue 31 = .ok (.aload_n 1, 1) := dk_43 (dk_at dksX8_fallDue_1 7 rfl rfl)
theorem dX8_fallDue_32 : decode cX8_fallDue 32 = .ok (.getfield 231, 3) := dk_180 0 231 (dk_at dksX8_fallDue_1 8 rfl rfl)
theorem dX8_fallDue_35 : decode cX8_fallDue 35 = .ok (.aload_n 1, 1) := dk_43 (dk_at dksX8_fallDue_1 11 rfl rfl)
theorem dX8_fallDue_36 : decode cX8_fallDue 36 = .ok (.getfield 222, 3) := dk_180 0 222 (dk_at dksX8_fallDue_1 12 rfl rfl)
theorem dX8_fallDue_39 : decode cX8_fallDue 39 = .ok (.irem, 1) := dk_112 (dk_at dksX8_fallDue_1 15 rfl rfl)
theorem dX8_fallDue_40 : decode cX8_fallDue 40 = .ok (.goto 4, 3) := dk_167 0 4 (dk_at dksX8_fallDue_1 16 rfl rfl)
theorem dX8_fallDue_43 : decode cX8_fallDue 43 = .ok (.iconst 0, 1) := dk_3 (dk_at dksX8_fallDue_1 19 rfl rfl)
theorem dX8_fallDue_44 : decode cX8_fallDue 44 = .ok (.iadd, 1) := dk_96 (dk_at dksX8_fallDue_1 20 rfl rfl)
theorem dX8_fallDue_45 : decode cX8_fallDue 45 = .ok (.istore_n 3, 1) := dk_62 (dk_at dksX8_fallDue_1 21 rfl rfl)
theorem dX8_fallDue_46 : decode cX8_fallDue 46 = .ok (.aload_n 1, 1) := dk_43 (dk_at dksX8_fallDue_1 22 rfl rfl)
theorem dX8_fallDue_47 : decode cX8_fallDue 47 = .ok (.dup, 1) := dk_89 (dk_at dksX8_fallDue_1 23 rfl rfl)
theorem dX8_fallDue_48 : decode cX8_fallDue 48 = .ok (.getfield 269, 3) := dk_180 1 13 (dk_at dksX8_fallDue_2 0 rfl rfl)
theorem dX8_fallDue_51 : decode cX8_fallDue 51 = .ok (.iconst 1, 1) := dk_4 (dk_at dksX8_fallDue_2 3 rfl rfl)
theorem dX8_fallDue_52 : decode cX8_fallDue 52 = .ok (.iadd, 1) := dk_96 (dk_at dksX8_fallDue_2 4 rfl rfl)
theorem dX8_fallDue_53 : decode cX8_fallDue 53 = .ok (.putfield 269, 3) := dk_181 1 13 (dk_at dksX8_fallDue_2 5 rfl rfl)
theorem dX8_fallDue_56 : decode cX8_fallDue 56 = .ok (.iload_n 3, 1) := dk_29 (dk_at dksX8_fallDue_2 8 rfl rfl)
theorem dX8_fallDue_57 : decode cX8_fallDue 57 = .ok (.aload_n 1, 1) := dk_43 (dk_at dksX8_fallDue_2 9 rfl rfl)
theorem dX8_fallDue_58 : decode cX8_fallDue 58 = .ok (.getfield 271, 3) := dk_180 1 15 (dk_at dksX8_fallDue_2 10 rfl rfl)
theorem dX8_fallDue_61 : decode cX8_fallDue 61 = .ok (.invokestatic 93, 3) := dk_184 0 93 (dk_at dksX8_fallDue_2 13 rfl rfl)
theorem dX8_fallDue_64 : decode cX8_fallDue 64 = .ok (.istore 4, 2) := dk_54 4 (dk_at dksX8_fallDue_2 16 rfl rfl)
theorem dX8_fallDue_66 : decode cX8_fallDue 66 = .ok (.aload_n 1, 1) := dk_43 (dk_at dksX8_fallDue_2 18 rfl rfl)
theorem dX8_fallDue_67 : decode cX8_fallDue 67 = .ok (.dup, 1) := dk_89 (dk_at dksX8_fallDue_2 19 rfl rfl)
theorem dX8_fallDue_68 : decode cX8_fallDue 68 = .ok (.getfield 271, 3) := dk_180 1 15 (dk_at dksX8_fallDue_2 20 rfl rfl)
theorem dX8_fallDue_71 : decode cX8_fallDue 71 = .ok (.iload 4, 2) := dk_21 4 (dk_at dksX8_fallDue_3 0 rfl rfl)
theorem dX8_fallDue_73 : decode cX8_fallDue 73 = .ok (.isub, 1) := dk_100 (dk_at dksX8_fallDue_3 2 rfl rfl)
theorem dX8_fallDue_74 : decode cX8_fallDue 74 = .ok (.putfield 271, 3) := dk_181 1 15 (dk_at dksX8_fallDue_3 3 rfl rfl)
theorem dX8_fallDue_77 : decode cX8_fallDue 77 = .ok (.iload_n 3, 1) := dk_29 (dk_at dksX8_fallDue_3 6 rfl rfl)
theorem dX8_fallDue_78 : decode cX8_fallDue 78 = .ok (.iload 4, 2) := dk_21 4 (dk_at dksX8_fallDue_3 7 rfl rfl)
theorem dX8_fallDue_80 : decode cX8_fallDue 80 = .ok (.isub, 1) := dk_100 (dk_at dksX8_fallDue_3 9 rfl rfl)
theorem dX8_fallDue_81 : decode cX8_fallDue 81 = .ok (.istore_n 3, 1) := dk_62 (dk_at dksX8_fallDue_3 10 rfl rfl)
theorem dX8_fallDue_82 : decode cX8_fallDue 82 = .ok (.iload_n 3, 1) := dk_29 (dk_at dksX8_fallDue_3 11 rfl rfl)
theorem dX8_fallDue_83 : decode cX8_fallDue 83 = .ok (.aload_n 2, 1) := dk_44 (dk_at dksX8_fallDue_3 12 rfl rfl)
theorem dX8_fallDue_84 : decode cX8_fallDue 84 = .ok (.getfield 274, 3) := dk_180 1 18 (dk_at dksX8_fallDue_3 13 rfl rfl)
theorem dX8_fallDue_87 : decode cX8_fallDue 87 = .ok (.invokestatic 93, 3) := dk_184 0 93 (dk_at dksX8_fallDue_3 16 rfl rfl)
theorem dX8_fallDue_90 : decode cX8_fallDue 90 = .ok (.istore 4, 2) := dk_54 4 (dk_at dksX8_fallDue_3 19 rfl rfl)
theorem dX8_fallDue_92 : decode cX8_fallDue 92 = .ok (.aload_n 2, 1) := dk_44 (dk_at dksX8_fallDue_3 21 rfl rfl)
theorem dX8_fallDue_93 : decode cX8_fallDue 93 = .ok (.dup, 1) := dk_89 (dk_at dksX8_fallDue_3 22 rfl rfl)
theorem dX8_fallDue_94 : decode cX8_fallDue 94 = .ok (.getfield 274, 3) := dk_180 1 18 (dk_at dksX8_fallDue_4 0 rfl rfl)
theorem dX8_fallDue_97 : decode cX8_fallDue 97 = .ok (.iload 4, 2) := dk_21 4 (dk_at dksX8_fallDue_4 3 rfl rfl)
theorem dX8_fallDue_99 : decode cX8_fallDue 99 = .ok (.isub, 1) := dk_100 (dk_at dksX8_fallDue_4 5 rfl rfl)
theorem dX8_fallDue_100 : decode cX8_fallDue 100 = .ok (.putfield 274, 3) := dk_181 1 18 (dk_at dksX8_fallDue_4 6 rfl rfl)
theorem dX8_fallDue_103 : decode cX8_fallDue 103 = .ok (.iload_n 3, 1) := dk_29 (dk_at dksX8_fallDue_4 9 rfl rfl)
theorem dX8_fallDue_104 : decode cX8_fallDue 104 = .ok (.iload 4, 2) := dk_21 4 (dk_at dksX8_fallDue_4 10 rfl rfl)
theorem dX8_fallDue_106 : decode cX8_fallDue 106 = .ok (.isub, 1) := dk_100 (dk_at dksX8_fallDue_4 12 rfl rfl)
theorem dX8_fallDue_107 : decode cX8_fallDue 107 = .ok (.istore_n 3, 1) := dk_62 (dk_at dksX8_fallDue_4 13 rfl rfl)
theorem dX8_fallDue_108 : decode cX8_fallDue 108 = .ok (.iload_n 3, 1) := dk_29 (dk_at dksX8_fallDue_4 14 rfl rfl)
theorem dX8_fallDue_109 : decode cX8_fallDue 109 = .ok (.aload_n 2, 1) := dk_44 (dk_at dksX8_fallDue_4 15 rfl rfl)
theorem dX8_fallDue_110 : decode cX8_fallDue 110 = .ok (.getfield 176, 3) := dk_180 0 176 (dk_at dksX8_fallDue_4 16 rfl rfl)
theorem dX8_fallDue_113 : decode cX8_fallDue 113 = .ok (.invokestatic 93, 3) := dk_184 0 93 (dk_at dksX8_fallDue_4 19 rfl rfl)
theorem dX8_fallDue_116 : decode cX8_fallDue 116 = .ok (.istore 5, 2) := dk_54 5 (dk_at dksX8_fallDue_4 22 rfl rfl)
theorem dX8_fallDue_118 : decode cX8_fallDue 118 = .ok (.aload_n 2, 1) := dk_44 (dk_at dksX8_fallDue_5 0 rfl rfl)
theorem dX8_fallDue_119 : decode cX8_fallDue 119 = .ok (.dup, 1) := dk_89 (dk_at dksX8_fallDue_5 1 rfl rfl)
theorem dX8_fallDue_120 : decode cX8_fallDue 120 = .ok (.getfield 176, 3) := dk_180 0 176 (dk_at dksX8_fallDue_5 2 rfl rfl)
theorem dX8_fallDue_123 : decode cX8_fallDue 123 = .ok (.iload 5, 2) := dk_21 5 (dk_at dksX8_fallDue_5 5 rfl rfl)
theorem dX8_fallDue_125 : decode cX8_fallDue 125 = .ok (.isub, 1) := dk_100 (dk_at dksX8_fallDue_5 7 rfl rfl)
theorem dX8_fallDue_126 : decode cX8_fallDue 126 = .ok (.putfield 176, 3) := dk_181 0 176 (dk_at dksX8_fallDue_5 8 rfl rfl)
theorem dX8_fallDue_129 : decode cX8_fallDue 129 = .ok (.aload_n 2, 1) := dk_44 (dk_at dksX8_fallDue_5 11 rfl rfl)
theorem dX8_fallDue_130 : decode cX8_fallDue 130 = .ok (.dup, 1) := dk_89 (dk_at dksX8_fallDue_5 12 rfl rfl)
theorem dX8_fallDue_131 : decode cX8_fallDue 131 = .ok (.getfield 277, 3) := dk_180 1 21 (dk_at dksX8_fallDue_5 13 rfl rfl)
theorem dX8_fallDue_134 : decode cX8_fallDue 134 = .ok (.iload 5, 2) := dk_21 5 (dk_at dksX8_fallDue_5 16 rfl rfl)
theorem dX8_fallDue_136 : decode cX8_fallDue 136 = .ok (.iadd, 1) := dk_96 (dk_at dksX8_fallDue_5 18 rfl rfl)
theorem dX8_fallDue_137 : decode cX8_fallDue 137 = .ok (.putfield 277, 3) := dk_181 1 21 (dk_at dksX8_fallDue_5 19 rfl rfl)
theorem dX8_fallDue_140 : decode cX8_fallDue 140 = .ok (.aload_n 0, 1) := dk_42 (dk_at dksX8_fallDue_5 22 rfl rfl)
theorem dX8_fallDue_141 : decode cX8_fallDue 141 = .ok (.dup, 1) := dk_89 (dk_at dksX8_fallDue_5 23 rfl rfl)
theorem dX8_fallDue_142 : decode cX8_fallDue 142 = .ok (.getfield 118, 3) := dk_180 0 118 (dk_at dksX8_fallDue_6 0 rfl rfl)
theorem dX8_fallDue_145 : decode cX8_fallDue 145 = .ok (.iload 5, 2) := dk_21 5 (dk_at dksX8_fallDue_6 3 rfl rfl)
theorem dX8_fallDue_147 : decode cX8_fallDue 147 = .ok (.iadd, 1) := dk_96 (dk_at dksX8_fallDue_6 5 rfl rfl)
theorem dX8_fallDue_148 : decode cX8_fallDue 148 = .ok (.putfield 118, 3) := dk_181 0 118 (dk_at dksX8_fallDue_6 6 rfl rfl)
theorem dX8_fallDue_151 : decode cX8_fallDue 151 = .ok (.iload 5, 2) := dk_21 5 (dk_at dksX8_fallDue_6 9 rfl rfl)
theorem dX8_fallDue_153 : decode cX8_fallDue 153 = .ok (.iload_n 3, 1) := dk_29 (dk_at dksX8_fallDue_6 11 rfl rfl)
theorem dX8_fallDue_154 : decode cX8_fallDue 154 = .ok (.if_icmp .ne 4, 3) := dk_160 0 4 (dk_at dksX8_fallDue_6 12 rfl rfl)
theorem dX8_fallDue_157 : decode cX8_fallDue 157 = .ok (.return_, 1) := dk_177 (dk_at dksX8_fallDue_6 15 rfl rfl)
theorem dX8_fallDue_158 : decode cX8_fallDue 158 = .ok (.iload_n 3, 1) := dk_29 (dk_at dksX8_fallDue_6 16 rfl rfl)
theorem dX8_fallDue_159 : decode cX8_fallDue 159 = .ok (.iload 5, 2) := dk_21 5 (dk_at dksX8_fallDue_6 17 rfl rfl)
theorem dX8_fallDue_161 : decode cX8_fallDue 161 = .ok (.isub, 1) := dk_100 (dk_at dksX8_fallDue_6 19 rfl rfl)
theorem dX8_fallDue_162 : decode cX8_fallDue 162 = .ok (.aload_n 1, 1) := dk_43 (dk_at dksX8_fallDue_6 20 rfl rfl)
theorem dX8_fallDue_163 : decode cX8_fallDue 163 = .ok (.getfield 231, 3) := dk_180 0 231 (dk_at dksX8_fallDue_6 21 rfl rfl)
theorem dX8_fallDue_166 : decode cX8_fallDue 166 = .ok (.iconst 4, 1) := dk_7 (dk_at dksX8_fallDue_7 0 rfl rfl)
theorem dX8_fallDue_167 : decode cX8_fallDue 167 = .ok (.idiv, 1) := dk_108 (dk_at dksX8_fallDue_7 1 rfl rfl)
theorem dX8_fallDue_168 : decode cX8_fallDue 168 = .ok (.invokestatic 93, 3) := dk_184 0 93 (dk_at dksX8_fallDue_7 2 rfl rfl)
theorem dX8_fallDue_171 : decode cX8_fallDue 171 = .ok (.istore 6, 2) := dk_54 6 (dk_at dksX8_fallDue_7 5 rfl rfl)
theorem dX8_fallDue_173 : decode cX8_fallDue 173 = .ok (.aload_n 2, 1) := dk_44 (dk_at dksX8_fallDue_7 7 rfl rfl)
theorem dX8_fallDue_174 : decode cX8_fallDue 174 = .ok (.dup, 1) := dk_89 (dk_at dksX8_fallDue_7 8 rfl rfl)
theorem dX8_fallDue_175 : decode cX8_fallDue 175 = .ok (.getfield 155, 3) := dk_180 0 155 (dk_at dksX8_fallDue_7 9 rfl rfl)
theorem dX8_fallDue_178 : decode cX8_fallDue 178 = .ok (.iload 6, 2) := dk_21 6 (dk_at dksX8_fallDue_7 12 rfl rfl)
theorem dX8_fallDue_180 : decode cX8_fallDue 180 = .ok (.isub, 1) := dk_100 (dk_at dksX8_fallDue_7 14 rfl rfl)
theorem dX8_fallDue_181 : decode cX8_fallDue 181 = .ok (.putfield 155, 3) := dk_181 0 155 (dk_at dksX8_fallDue_7 15 rfl rfl)
theorem dX8_fallDue_184 : decode cX8_fallDue 184 = .ok (.aload_n 0, 1) := dk_42 (dk_at dksX8_fallDue_7 18 rfl rfl)
theorem dX8_fallDue_185 : decode cX8_fallDue 185 = .ok (.dup, 1) := dk_89 (dk_at dksX8_fallDue_7 19 rfl rfl)
theorem dX8_fallDue_186 : decode cX8_fallDue 186 = .ok (.getfield 118, 3) := dk_180 0 118 (dk_at dksX8_fallDue_7 20 rfl rfl)
theorem dX8_fallDue_189 : decode cX8_fallDue 189 = .ok (.iload 6, 2) := dk_21 6 (dk_at dksX8_fallDue_8 0 rfl rfl)
theorem dX8_fallDue_191 : decode cX8_fallDue 191 = .ok (.iadd, 1) := dk_96 (dk_at dksX8_fallDue_8 2 rfl rfl)
theorem dX8_fallDue_192 : decode cX8_fallDue 192 = .ok (.putfield 118, 3) := dk_181 0 118 (dk_at dksX8_fallDue_8 3 rfl rfl)
theorem dX8_fallDue_195 : decode cX8_fallDue 195 = .ok (.aload_n 0, 1) := dk_42 (dk_at dksX8_fallDue_8 6 rfl rfl)
theorem dX8_fallDue_196 : decode cX8_fallDue 196 = .ok (.dup, 1) := dk_89 (dk_at dksX8_fallDue_8 7 rfl rfl)
theorem dX8_fallDue_197 : decode cX8_fallDue 197 = .ok (.getfield 121, 3) := dk_180 0 121 (dk_at dksX8_fallDue_8 8 rfl rfl)
theorem dX8_fallDue_200 : decode cX8_fallDue 200 = .ok (.iload 6, 2) := dk_21 6 (dk_at dksX8_fallDue_8 11 rfl rfl)
theorem dX8_fallDue_202 : decode cX8_fallDue 202 = .ok (.isub, 1) := dk_100 (dk_at dksX8_fallDue_8 13 rfl rfl)
theorem dX8_fallDue_203 : decode cX8_fallDue 203 = .ok (.putfield 121, 3) := dk_181 0 121 (dk_at dksX8_fallDue_8 14 rfl rfl)
theorem dX8_fallDue_206 : decode cX8_fallDue 206 = .ok (.aload_n 2, 1) := dk_44 (dk_at dksX8_fallDue_8 17 rfl rfl)
theorem dX8_fallDue_207 : decode cX8_fallDue 207 = .ok (.iconst 1, 1) := dk_4 (dk_at dksX8_fallDue_8 18 rfl rfl)
theorem dX8_fallDue_208 : decode cX8_fallDue 208 = .ok (.putfield 244, 3) := dk_181 0 244 (dk_at dksX8_fallDue_8 19 rfl rfl)
theorem dX8_fallDue_211 : decode cX8_fallDue 211 = .ok (.aload_n 0, 1) := dk_42 (dk_at dksX8_fallDue_8 22 rfl rfl)
theorem dX8_fallDue_212 : decode cX8_fallDue 212 = .ok (.getfield 23, 3) := dk_180 0 23 (dk_at dksX8_fallDue_9 0 rfl rfl)
theorem dX8_fallDue_215 : decode cX8_fallDue 215 = .ok (.invokevirtual 195, 3) := dk_182 0 195 (dk_at dksX8_fallDue_9 3 rfl rfl)
theorem dX8_fallDue_218 : decode cX8_fallDue 218 = .ok (.astore 7, 2) := dk_58 7 (dk_at dksX8_fallDue_9 6 rfl rfl)
theorem dX8_fallDue_220 : decode cX8_fallDue 220 = .ok (.aload 7, 2) := dk_25 7 (dk_at dksX8_fallDue_9 8 rfl rfl)
theorem dX8_fallDue_222 : decode cX8_fallDue 222 = .ok (.invokeinterface 199 1, 5) := by decide +kernel
theorem dX8_fallDue_227 : decode cX8_fallDue 227 = .ok (.ifCond .eq 45, 3) := dk_153 0 45 (dk_at dksX8_fallDue_9 15 rfl rfl)
theorem dX8_fallDue_230 : decode cX8_fallDue 230 = .ok (.aload 7, 2) := dk_25 7 (dk_at dksX8_fallDue_9 18 rfl rfl)
theorem dX8_fallDue_232 : decode cX8_fallDue 232 = .ok (.invokeinterface 204 1, 5) := by decide +kernel
theorem dX8_fallDue_237 : decode cX8_fallDue 237 = .ok (.checkcast 208, 3) := dk_192 0 208 (dk_at dksX8_fallDue_10 5 rfl rfl)
theorem dX8_fallDue_240 : decode cX8_fallDue 240 = .ok (.astore 8, 2) := dk_58 8 (dk_at dksX8_fallDue_10 8 rfl rfl)
theorem dX8_fallDue_242 : decode cX8_fallDue 242 = .ok (.aload 8, 2) := dk_25 8 (dk_at dksX8_fallDue_10 10 rfl rfl)
theorem dX8_fallDue_244 : decode cX8_fallDue 244 = .ok (.getfield 210, 3) := dk_180 0 210 (dk_at dksX8_fallDue_10 12 rfl rfl)
theorem dX8_fallDue_247 : decode cX8_fallDue 247 = .ok (.iconst 1, 1) := dk_4 (dk_at dksX8_fallDue_10 15 rfl rfl)
theorem dX8_fallDue_248 : decode cX8_fallDue 248 = .ok (.if_icmp .ne 21, 3) := dk_160 0 21 (dk_at dksX8_fallDue_10 16 rfl rfl)
theorem dX8_fallDue_251 : decode cX8_fallDue 251 = .ok (.aload 8, 2) := dk_25 8 (dk_at dksX8_fallDue_10 19 rfl rfl)
theorem dX8_fallDue_253 : decode cX8_fallDue 253 = .ok (.getfield 228, 3) := dk_180 0 228 (dk_at dksX8_fallDue_10 21 rfl rfl)
theorem dX8_fallDue_256 : decode cX8_fallDue 256 = .ok (.aload_n 1, 1) := dk_43 (dk_at dksX8_fallDue_11 0 rfl rfl)
theorem dX8_fallDue_257 : decode cX8_fallDue 257 = .ok (.getfield 228, 3) := dk_180 0 228 (dk_at dksX8_fallDue_11 1 rfl rfl)
theorem dX8_fallDue_260 : decode cX8_fallDue 260 = .ok (.if_icmp .ne 9, 3) := dk_160 0 9 (dk_at dksX8_fallDue_11 4 rfl rfl)
theorem dX8_fallDue_263 : decode cX8_fallDue 263 = .ok (.aload 8, 2) := dk_25 8 (dk_at dksX8_fallDue_11 7 rfl rfl)
theorem dX8_fallDue_265 : decode cX8_fallDue 265 = .ok (.iconst 2, 1) := dk_5 (dk_at dksX8_fallDue_11 9 rfl rfl)
theorem dX8_fallDue_266 : decode cX8_fallDue 266 = .ok (.putfield 210, 3) := dk_181 0 210 (dk_at dksX8_fallDue_11 10 rfl rfl)
theorem dX8_fallDue_269 : decode cX8_fallDue 269 = .ok (.goto (-49), 3) := dk_167 255 207 (dk_at dksX8_fallDue_11 13 rfl rfl)
theorem dX8_fallDue_272 : decode cX8_fallDue 272 = .ok (.return_, 1) := dk_177 (dk_at dksX8_fallDue_11 16 rfl rfl)
abbrev cX8_force : ByteArray := prog_19_method_38_code
def yX8_force : MethodName := ⟨RX8, "force", "(II)I"⟩
def dkwX8_force_2 : List UInt8 := [180, 1, 24, 62, 42, 180, 0, 20, 27, 182, 0, 78, 192, 0, 152, 28, 181, 1, 24, 29, 172]
abbrev dktX8_force_2 : List UInt8 := dkwX8_force_2 ++ []
def dkwX8_force_1 : List UInt8 := [167, 0, 4, 3, 5, 182, 0, 52, 153, 0, 5, 3, 172, 42, 180, 0, 20, 27, 182, 0, 78, 192, 0, 152]
abbrev dktX8_force_1 : List UInt8 := dkwX8_force_1 ++ dktX8_force_2
def dkwX8_force_0 : List UInt8 := [42, 42, 27, 182, 0, 161, 4, 182, 0, 124, 154, 0, 25, 42, 28, 3, 6, 184, 0, 60, 154, 0, 7, 4]
abbrev dktX8_force_0 : List UInt8 := dkwX8_force_0 ++ dktX8_force_1
theorem dksX8_force_0 : cX8_force.data.toList.drop 0 = dktX8_force_0 := by decide +kernel
theorem dksX8_force_1 : cX8_force.data.toList.drop 24 = dktX8_force_1 := dk_seg dksX8_force_0 24 rfl rfl
theorem dksX8_force_2 : cX8_force.data.toList.drop 48 = dktX8_force_2 := dk_seg dksX8_force_1 24 rfl rfl
theorem dX8_force_0 : decode cX8_force 0 = .ok (.aload_n 0, 1) := dk_42 (dk_at dksX8_force_0 0 rfl rfl)
theorem dX8_force_1 : decode cX8_force 1 = .ok (.aload_n 0, 1) := dk_42 (dk_at dksX8_force_0 1 rfl rfl)
theorem dX8_force_2 : decode cX8_force 2 = .ok (.iload_n 1, 1) := dk_27 (dk_at dksX8_force_0 2 rfl rfl)
theorem dX8_force_3 : decode cX8_force 3 = .ok (.invokevirtual 161, 3) := dk_182 0 161 (dk_at dksX8_force_0 3 rfl rfl)
theorem dX8_force_6 : decode cX8_force 6 = .ok (.iconst 1, 1) := dk_4 (dk_at dksX8_force_0 6 rfl rfl)
theorem dX8_force_7 : decode cX8_force 7 = .ok (.invokevirtual 124, 3) := dk_182 0 124 (dk_at dksX8_force_0 7 rfl rfl)
theorem dX8_force_10 : decode cX8_force 10 = .ok (.ifCond .ne 25, 3) := dk_154 0 25 (dk_at dksX8_force_0 10 rfl rfl)
theorem dX8_force_13 : decode cX8_force 13 = .ok (.aload_n 0, 1) := dk_42 (dk_at dksX8_force_0 13 rfl rfl)
theorem dX8_force_14 : decode cX8_force 14 = .ok (.iload_n 2, 1) := dk_28 (dk_at dksX8_force_0 14 rfl rfl)
theorem dX8_force_15 : decode cX8_force 15 = .ok (.iconst 0, 1) := dk_3 (dk_at dksX8_force_0 15 rfl rfl)
theorem dX8_force_16 : decode cX8_force 16 = .ok (.iconst 3, 1) := dk_6 (dk_at dksX8_force_0 16 rfl rfl)
theorem dX8_force_17 : decode cX8_force 17 = .ok (.invokestatic 60, 3) := dk_184 0 60 (dk_at dksX8_force_0 17 rfl rfl)
theorem dX8_force_20 : decode cX8_force 20 = .ok (.ifCond .ne 7, 3) := dk_154 0 7 (dk_at dksX8_force_0 20 rfl rfl)
theorem dX8_force_23 : decode cX8_force 23 = .ok (.iconst 1, 1) := dk_4 (dk_at dksX8_force_0 23 rfl rfl)
theorem dX8_force_24 : decode cX8_force 24 = .ok (.goto 4, 3) := dk_167 0 4 (dk_at dksX8_force_1 0 rfl rfl)
theorem dX8_force_27 : decode cX8_force 27 = .ok (.iconst 0, 1) := dk_3 (dk_at dksX8_force_1 3 rfl rfl)
theorem dX8_force_28 : decode cX8_force 28 = .ok (.iconst 2, 1) := dk_5 (dk_at dksX8_force_1 4 rfl rfl)
theorem dX8_force_29 : decode cX8_force 29 = .ok (.invokevirtual 52, 3) := dk_182 0 52 (dk_at dksX8_force_1 5 rfl rfl)
theorem dX8_force_32 : decode cX8_force 32 = .ok (.ifCond .eq 5, 3) := dk_153 0 5 (dk_at dksX8_force_1 8 rfl rfl)
theorem dX8_force_35 : decode cX8_force 35 = .ok (.iconst 0, 1) := dk_3 (dk_at dksX8_force_1 11 rfl rfl)
theorem dX8_force_36 : decode cX8_force 36 = .ok (.ireturn, 1) := dk_172 (dk_at dksX8_force_1 12 rfl rfl)
theorem dX8_force_37 : decode cX8_force 37 = .ok (.aload_n 0, 1) := dk_42 (dk_at dksX8_force_1 13 rfl rfl)
theorem dX8_force_38 : decode cX8_force 38 = .ok (.getfield 20, 3) := dk_180 0 20 (dk_at dksX8_force_1 14 rfl rfl)
theorem dX8_force_41 : decode cX8_force 41 = .ok (.iload_n 1, 1) := dk_27 (dk_at dksX8_force_1 17 rfl rfl)
theorem dX8_force_42 : decode cX8_force 42 = .ok (.invokevirtual 78, 3) := dk_182 0 78 (dk_at dksX8_force_1 18 rfl rfl)
theorem dX8_force_45 : decode cX8_force 45 = .ok (.checkcast 152, 3) := dk_192 0 152 (dk_at dksX8_force_1 21 rfl rfl)
theorem dX8_force_48 : decode cX8_force 48 = .ok (.getfield 280, 3) := dk_180 1 24 (dk_at dksX8_force_2 0 rfl rfl)
theorem dX8_force_51 : decode cX8_force 51 = .ok (.istore_n 3, 1) := dk_62 (dk_at dksX8_force_2 3 rfl rfl)
theorem dX8_force_52 : decode cX8_force 52 = .ok (.aload_n 0, 1) := dk_42 (dk_at dksX8_force_2 4 rfl rfl)
theorem dX8_force_53 : decode cX8_force 53 = .ok (.getfield 20, 3) := dk_180 0 20 (dk_at dksX8_force_2 5 rfl rfl)
theorem dX8_force_56 : decode cX8_force 56 = .ok (.iload_n 1, 1) := dk_27 (dk_at dksX8_force_2 8 rfl rfl)
theorem dX8_force_57 : decode cX8_force 57 = .ok (.invokevirtual 78, 3) := dk_182 0 78 (dk_at dksX8_force_2 9 rfl rfl)
theorem dX8_force_60 : decode cX8_force 60 = .ok (.checkcast 152, 3) := dk_192 0 152 (dk_at dksX8_force_2 12 rfl rfl)
theorem dX8_force_63 : decode cX8_force 63 = .ok (.iload_n 2, 1) := dk_28 (dk_at dksX8_force_2 15 rfl rfl)
theorem dX8_force_64 : decode cX8_force 64 = .ok (.putfield 280, 3) := dk_181 1 24 (dk_at dksX8_force_2 16 rfl rfl)
theorem dX8_force_67 : decode cX8_force 67 = .ok (.iload_n 3, 1) := dk_29 (dk_at dksX8_force_2 19 rfl rfl)
theorem dX8_force_68 : decode cX8_force 68 = .ok (.ireturn, 1) := dk_172 (dk_at dksX8_force_2 20 rfl rfl)
abbrev cX8_letOn : ByteArray := prog_19_method_40_code
def yX8_letOn : MethodName := ⟨RX8, "letOn", "(III)I"⟩
def dkwX8_letOn_5 : List UInt8 := [28, 29, 79, 25, 4, 184, 1, 30, 172]
abbrev dktX8_letOn_5 : List UInt8 := dkwX8_letOn_5 ++ []
def dkwX8_letOn_4 : List UInt8 := [28, 46, 158, 0, 7, 4, 167, 0, 4, 3, 6, 182, 0, 52, 153, 0, 5, 3, 172, 25, 4, 180, 1, 27]
abbrev dktX8_letOn_4 : List UInt8 := dkwX8_letOn_4 ++ dktX8_letOn_5
def dkwX8_letOn_3 : List UInt8 := [180, 0, 210, 4, 160, 0, 25, 25, 4, 180, 0, 216, 28, 184, 0, 82, 153, 0, 13, 25, 4, 180, 1, 27]
abbrev dktX8_letOn_3 : List UInt8 := dkwX8_letOn_3 ++ dktX8_letOn_4
def dkwX8_letOn_2 : List UInt8 := [182, 0, 52, 153, 0, 5, 3, 172, 42, 180, 0, 23, 27, 182, 0, 78, 192, 0, 208, 58, 4, 42, 25, 4]
abbrev dktX8_letOn_2 : List UInt8 := dkwX8_letOn_2 ++ dktX8_letOn_3
def dkwX8_letOn_1 : List UInt8 := [182, 0, 124, 154, 0, 27, 42, 29, 4, 17, 3, 231, 184, 0, 60, 154, 0, 7, 4, 167, 0, 4, 3, 5]
abbrev dktX8_letOn_1 : List UInt8 := dkwX8_letOn_1 ++ dktX8_letOn_2
def dkwX8_letOn_0 : List UInt8 := [42, 42, 27, 182, 0, 241, 154, 0, 11, 42, 28, 182, 0, 142, 153, 0, 7, 4, 167, 0, 4, 3, 4]
abbrev dktX8_letOn_0 : List UInt8 := dkwX8_letOn_0 ++ dktX8_letOn_1
theorem dksX8_letOn_0 : cX8_letOn.data.toList.drop 0 = dktX8_letOn_0 := by decide +kernel
theorem dksX8_letOn_1 : cX8_letOn.data.toList.drop 23 = dktX8_letOn_1 := dk_seg dksX8_letOn_0 23 rfl rfl
theorem dksX8_letOn_2 : cX8_letOn.data.toList.drop 47 = dktX8_letOn_2 := dk_seg dksX8_letOn_1 24 rfl rfl
theorem dksX8_letOn_3 : cX8_letOn.data.toList.drop 71 = dktX8_letOn_3 := dk_seg dksX8_letOn_2 24 rfl rfl
theorem dksX8_letOn_4 : cX8_letOn.data.toList.drop 95 = dktX8_letOn_4 := dk_seg dksX8_letOn_3 24 rfl rfl
theorem dksX8_letOn_5 : cX8_letOn.data.toList.drop 119 = dktX8_letOn_5 := dk_seg dksX8_letOn_4 24 rfl rfl
theorem dX8_letOn_0 : decode cX8_letOn 0 = .ok (.aload_n 0, 1) := dk_42 (dk_at dksX8_letOn_0 0 rfl rfl)
theorem dX8_letOn_1 : decode cX8_letOn 1 = .ok (.aload_n 0, 1) := dk_42 (dk_at dksX8_letOn_0 1 rfl rfl)
theorem dX8_letOn_2 : decode cX8_letOn 2 = .ok (.iload_n 1, 1) := dk_27 (dk_at dksX8_letOn_0 2 rfl rfl)
theorem dX8_letOn_3 : decode cX8_letOn 3 = .ok (.invokevirtual 241, 3) := dk_182 0 241 (dk_at dksX8_letOn_0 3 rfl rfl)
theorem dX8_letOn_6 : decode cX8_letOn 6 = .ok (.ifCond .ne 11, 3) := dk_154 0 11 (dk_at dksX8_letOn_0 6 rfl rfl)
theorem dX8_letOn_9 : decode cX8_letOn 9 = .ok (.aload_n 0, 1) := dk_42 (dk_at dksX8_letOn_0 9 rfl rfl)
theorem dX8_letOn_10 : decode cX8_letOn 10 = .ok (.iload_n 2, 1) := dk_28 (dk_at dksX8_letOn_0 10 rfl rfl)
theorem dX8_letOn_11 : decode cX8_letOn 11 = .ok (.invokevirtual 142, 3) := dk_182 0 142 (dk_at dksX8_letOn_0 11 rfl rfl)
theorem dX8_letOn_14 : decode cX8_letOn 14 = .ok (.ifCond .eq 7, 3) := dk_153 0 7 (dk_at dksX8_letOn_0 14 rfl rfl)
theorem dX8_letOn_17 : decode cX8_letOn 17 = .ok (.iconst 1, 1) := dk_4 (dk_at dksX8_letOn_0 17 rfl rfl)
theorem dX8_letOn_18 : decode cX8_letOn 18 = .ok (.goto 4, 3) := dk_167 0 4 (dk_at dksX8_letOn_0 18 rfl rfl)
theorem dX8_letOn_21 : decode cX8_letOn 21 = .ok (.iconst 0, 1) := dk_3 (dk_at dksX8_letOn_0 21 rfl rfl)
theorem dX8_letOn_22 : decode cX8_letOn 22 = .ok (.iconst 1, 1) := dk_4 (dk_at dksX8_letOn_0 22 rfl rfl)
theorem dX8_letOn_23 : decode cX8_letOn 23 = .ok (.invokevirtual 124, 3) := dk_182 0 124 (dk_at dksX8_letOn_1 0 rfl rfl)
theorem dX8_letOn_26 : decode cX8_letOn 26 = .ok (.ifCond .ne 27, 3) := dk_154 0 27 (dk_at dksX8_letOn_1 3 rfl rfl)
theorem dX8_letOn_29 : decode cX8_letOn 29 = .ok (.aload_n 0, 1) := dk_42 (dk_at dksX8_letOn_1 6 rfl rfl)
theorem dX8_letOn_30 : decode cX8_letOn 30 = .ok (.iload_n 3, 1) := dk_29 (dk_at dksX8_letOn_1 7 rfl rfl)
theorem dX8_letOn_31 : decode cX8_letOn 31 = .ok (.iconst 1, 1) := dk_4 (dk_at dksX8_letOn_1 8 rfl rfl)
theorem dX8_letOn_32 : decode cX8_letOn 32 = .ok (.sipush 999, 3) := dk_17 3 231 (dk_at dksX8_letOn_1 9 rfl rfl)
theorem dX8_letOn_35 : decode cX8_letOn 35 = .ok (.invokestatic 60, 3) := dk_184 0 60 (dk_at dksX8_letOn_1 12 rfl rfl)
theorem dX8_letOn_38 : decode cX8_letOn 38 = .ok (.ifCond .ne 7, 3) := dk_154 0 7 (dk_at dksX8_letOn_1 15 rfl rfl)
theorem dX8_letOn_41 : decode cX8_letOn 41 = .ok (.iconst 1, 1) := dk_4 (dk_at dksX8_letOn_1 18 rfl rfl)
theorem dX8_letOn_42 : decode cX8_letOn 42 = .ok (.goto 4, 3) := dk_167 0 4 (dk_at dksX8_letOn_1 19 rfl rfl)
theorem dX8_letOn_45 : decode cX8_letOn 45 = .ok (.iconst 0, 1) := dk_3 (dk_at dksX8_letOn_1 22 rfl rfl)
theorem dX8_letOn_46 : decode cX8_letOn 46 = .ok (.iconst 2, 1) := dk_5 (dk_at dksX8_letOn_1 23 rfl rfl)
theorem dX8_letOn_47 : decode cX8_letOn 47 = .ok (.invokevirtual 52, 3) := dk_182 0 52 (dk_at dksX8_letOn_2 0 rfl rfl)
theorem dX8_letOn_50 : decode cX8_letOn 50 = .ok (.ifCond .eq 5, 3) := dk_153 0 5 (dk_at dksX8_letOn_2 3 rfl rfl)
theorem dX8_letOn_53 : decode cX8_letOn 53 = .ok (.iconst 0, 1) := dk_3 (dk_at dksX8_letOn_2 6 rfl rfl)
theorem dX8_letOn_54 : decode cX8_letOn 54 = .ok (.ireturn, 1) := dk_172 (dk_at dksX8_letOn_2 7 rfl rfl)
theorem dX8_letOn_55 : decode cX8_letOn 55 = .ok (.aload_n 0, 1) := dk_42 (dk_at dksX8_letOn_2 8 rfl rfl)
theorem dX8_letOn_56 : decode cX8_letOn 56 = .ok (.getfield 23, 3) := dk_180 0 23 (dk_at dksX8_letOn_2 9 rfl rfl)
theorem dX8_letOn_59 : decode cX8_letOn 59 = .ok (.iload_n 1, 1) := dk_27 (dk_at dksX8_letOn_2 12 rfl rfl)
theorem dX8_letOn_60 : decode cX8_letOn 60 = .ok (.invokevirtual 78, 3) := dk_182 0 78 (dk_at dksX8_letOn_2 13 rfl rfl)
theorem dX8_letOn_63 : decode cX8_letOn 63 = .ok (.checkcast 208, 3) := dk_192 0 208 (dk_at dksX8_letOn_2 16 rfl rfl)
theorem dX8_letOn_66 : decode cX8_letOn 66 = .ok (.astore 4, 2) := dk_58 4 (dk_at dksX8_letOn_2 19 rfl rfl)
theorem dX8_letOn_68 : decode cX8_letOn 68 = .ok (.aload_n 0, 1) := dk_42 (dk_at dksX8_letOn_2 21 rfl rfl)
theorem dX8_letOn_69 : decode cX8_letOn 69 = .ok (.aload 4, 2) := dk_25 4 (dk_at dksX8_letOn_2 22 rfl rfl)
theorem dX8_letOn_71 : decode cX8_letOn 71 = .ok (.getfield 210, 3) := dk_180 0 210 (dk_at dksX8_letOn_3 0 rfl rfl)
theorem dX8_letOn_74 : decode cX8_letOn 74 = .ok (.iconst 1, 1) := dk_4 (dk_at dksX8_letOn_3 3 rfl rfl)
theorem dX8_letOn_75 : decode cX8_letOn 75 = .ok (.if_icmp .ne 25, 3) := dk_160 0 25 (dk_at dksX8_letOn_3 4 rfl rfl)
theorem dX8_letOn_78 : decode cX8_letOn 78 = .ok (.aload 4, 2) := dk_25 4 (dk_at dksX8_letOn_3 7 rfl rfl)
theorem dX8_letOn_80 : decode cX8_letOn 80 = .ok (.getfield 216, 3) := dk_180 0 216 (dk_at dksX8_letOn_3 9 rfl rfl)
theorem dX8_letOn_83 : decode cX8_letOn 83 = .ok (.iload_n 2, 1) := dk_28 (dk_at dksX8_letOn_3 12 rfl rfl)
theorem dX8_letOn_84 : decode cX8_letOn 84 = .ok (.invokestatic 82, 3) := dk_184 0 82 (dk_at dksX8_letOn_3 13 rfl rfl)
theorem dX8_letOn_87 : decode cX8_letOn 87 = .ok (.ifCond .eq 13, 3) := dk_153 0 13 (dk_at dksX8_letOn_3 16 rfl rfl)
theorem dX8_letOn_90 : decode cX8_letOn 90 = .ok (.aload 4, 2) := dk_25 4 (dk_at dksX8_letOn_3 19 rfl rfl)
theorem dX8_letOn_92 : decode cX8_letOn 92 = .ok (.getfield 283, 3) := dk_180 1 27 (dk_at dksX8_letOn_3 21 rfl rfl)
theorem dX8_letOn_95 : decode cX8_letOn 95 = .ok (.iload_n 2, 1) := dk_28 (dk_at dksX8_letOn_4 0 rfl rfl)
theorem dX8_letOn_96 : decode cX8_letOn 96 = .ok (.iaload, 1) := dk_46 (dk_at dksX8_letOn_4 1 rfl rfl)
theorem dX8_letOn_97 : decode cX8_letOn 97 = .ok (.ifCond .le 7, 3) := dk_158 0 7 (dk_at dksX8_letOn_4 2 rfl rfl)
theorem dX8_letOn_100 : decode cX8_letOn 100 = .ok (.iconst 1, 1) := dk_4 (dk_at dksX8_letOn_4 5 rfl rfl)
theorem dX8_letOn_101 : decode cX8_letOn 101 = .ok (.goto 4, 3) := dk_167 0 4 (dk_at dksX8_letOn_4 6 rfl rfl)
theorem dX8_letOn_104 : decode cX8_letOn 104 = .ok (.iconst 0, 1) := dk_3 (dk_at dksX8_letOn_4 9 rfl rfl)
theorem dX8_letOn_105 : decode cX8_letOn 105 = .ok (.iconst 3, 1) := dk_6 (dk_at dksX8_letOn_4 10 rfl rfl)
theorem dX8_letOn_106 : decode cX8_letOn 106 = .ok (.invokevirtual 52, 3) := dk_182 0 52 (dk_at dksX8_letOn_4 11 rfl rfl)
theorem dX8_letOn_109 : decode cX8_letOn 109 = .ok (.ifCond .eq 5, 3) := dk_153 0 5 (dk_at dksX8_letOn_4 14 rfl rfl)
theorem dX8_letOn_112 : decode cX8_letOn 112 = .ok (.iconst 0, 1) := dk_3 (dk_at dksX8_letOn_4 17 rfl rfl)
theorem dX8_letOn_113 : decode cX8_letOn 113 = .ok (.ireturn, 1) := dk_172 (dk_at dksX8_letOn_4 18 rfl rfl)
theorem dX8_letOn_114 : decode cX8_letOn 114 = .ok (.aload 4, 2) := dk_25 4 (dk_at dksX8_letOn_4 19 rfl rfl)
theorem dX8_letOn_116 : decode cX8_letOn 116 = .ok (.getfield 283, 3) := dk_180 1 27 (dk_at dksX8_letOn_4 21 rfl rfl)
theorem dX8_letOn_119 : decode cX8_letOn 119 = .ok (.iload_n 2, 1) := dk_28 (dk_at dksX8_letOn_5 0 rfl rfl)
theorem dX8_letOn_120 : decode cX8_letOn 120 = .ok (.iload_n 3, 1) := dk_29 (dk_at dksX8_letOn_5 1 rfl rfl)
theorem dX8_letOn_121 : decode cX8_letOn 121 = .ok (.iastore, 1) := dk_79 (dk_at dksX8_letOn_5 2 rfl rfl)
theorem dX8_letOn_122 : decode cX8_letOn 122 = .ok (.aload 4, 2) := dk_25 4 (dk_at dksX8_letOn_5 3 rfl rfl)
theorem dX8_letOn_124 : decode cX8_letOn 124 = .ok (.invokestatic 286, 3) := dk_184 1 30 (dk_at dksX8_letOn_5 5 rfl rfl)
theorem dX8_letOn_127 : decode cX8_letOn 127 = .ok (.ireturn, 1) := dk_172 (dk_at dksX8_letOn_5 8 rfl rfl)
abbrev cX8_letOnOf : ByteArray := prog_19_method_39_code
def yX8_letOnOf : MethodName := ⟨RX8, "letOnOf", "(LPublicanryModel$Lot;)I"⟩
def dkwX8_letOnOf_1 : List UInt8 := [54, 5, 27, 21, 5, 158, 0, 7, 4, 167, 0, 4, 3, 96, 60, 132, 4, 1, 167, 255, 228, 27, 172]
abbrev dktX8_letOnOf_1 : List UInt8 := dkwX8_letOnOf_1 ++ []
def dkwX8_letOnOf_0 : List UInt8 := [3, 60, 42, 180, 1, 27, 77, 44, 190, 62, 3, 54, 4, 21, 4, 29, 162, 0, 28, 44, 21, 4, 46]
abbrev dktX8_letOnOf_0 : List UInt8 := dkwX8_letOnOf_0 ++ dktX8_letOnOf_1
theorem dksX8_letOnOf_0 : cX8_letOnOf.data.toList.drop 0 = dktX8_letOnOf_0 := by decide +kernel
theorem dksX8_letOnOf_1 : cX8_letOnOf.data.toList.drop 23 = dktX8_letOnOf_1 := dk_seg dksX8_letOnOf_0 23 rfl rfl
theorem dX8_letOnOf_0 : decode cX8_letOnOf 0 = .ok (.iconst 0, 1) := dk_3 (dk_at dksX8_letOnOf_0 0 rfl rfl)
theorem dX8_letOnOf_1 : decode cX8_letOnOf 1 = .ok (.istore_n 1, 1) := dk_60 (dk_at dksX8_letOnOf_0 1 rfl rfl)
theorem dX8_letOnOf_2 : decode cX8_letOnOf 2 = .ok (.aload_n 0, 1) := dk_42 (dk_at dksX8_letOnOf_0 2 rfl rfl)
theorem dX8_letOnOf_3 : decode cX8_letOnOf 3 = .ok (.getfield 283, 3) := dk_180 1 27 (dk_at dksX8_letOnOf_0 3 rfl rfl)
theorem dX8_letOnOf_6 : decode cX8_letOnOf 6 = .ok (.astore_n 2, 1) := dk_77 (dk_at dksX8_letOnOf_0 6 rfl rfl)
theorem dX8_letOnOf_7 : decode cX8_letOnOf 7 = .ok (.aload_n 2, 1) := dk_44 (dk_at dksX8_letOnOf_0 7 rfl rfl)
theorem dX8_letOnOf_8 : decode cX8_letOnOf 8 = .ok (.arraylength, 1) := dk_190 (dk_at dksX8_letOnOf_0 8 rfl rfl)
theorem dX8_letOnOf_9 : decode cX8_letOnOf 9 = .ok (.istore_n 3, 1) := dk_62 (dk_at dksX8_letOnOf_0 9 rfl rfl)
theorem dX8_letOnOf_10 : decode cX8_letOnOf 10 = .ok (.iconst 0, 1) := dk_3 (dk_at dksX8_letOnOf_0 10 rfl rfl)
theorem dX8_letOnOf_11 : decode cX8_letOnOf 11 = .ok (.istore 4, 2) := dk_54 4 (dk_at dksX8_letOnOf_0 11 rfl rfl)
theorem dX8_letOnOf_13 : decode cX8_letOnOf 13 = .ok (.iload 4, 2) := dk_21 4 (dk_at dksX8_letOnOf_0 13 rfl rfl)
theorem dX8_letOnOf_15 : decode cX8_letOnOf 15 = .ok (.iload_n 3, 1) := dk_29 (dk_at dksX8_letOnOf_0 15 rfl rfl)
theorem dX8_letOnOf_16 : decode cX8_letOnOf 16 = .ok (.if_icmp .ge 28, 3) := dk_162 0 28 (dk_at dksX8_letOnOf_0 16 rfl rfl)
theorem dX8_letOnOf_19 : decode cX8_letOnOf 19 = .ok (.aload_n 2, 1) := dk_44 (dk_at dksX8_letOnOf_0 19 rfl rfl)
theorem dX8_letOnOf_20 : decode cX8_letOnOf 20 = .ok (.iload 4, 2) := dk_21 4 (dk_at dksX8_letOnOf_0 20 rfl rfl)
theorem dX8_letOnOf_22 : decode cX8_letOnOf 22 = .ok (.iaload, 1) := dk_46 (dk_at dksX8_letOnOf_0 22 rfl rfl)
theorem dX8_letOnOf_23 : decode cX8_letOnOf 23 = .ok (.istore 5, 2) := dk_54 5 (dk_at dksX8_letOnOf_1 0 rfl rfl)
theorem dX8_letOnOf_25 : decode cX8_letOnOf 25 = .ok (.iload_n 1, 1) := dk_27 (dk_at dksX8_letOnOf_1 2 rfl rfl)
theorem dX8_letOnOf_26 : decode cX8_letOnOf 26 = .ok (.iload 5, 2) := dk_21 5 (dk_at dksX8_letOnOf_1 3 rfl rfl)
theorem dX8_letOnOf_28 : decode cX8_letOnOf 28 = .ok (.ifCond .le 7, 3) := dk_158 0 7 (dk_at dksX8_letOnOf_1 5 rfl rfl)
theorem dX8_letOnOf_31 : decode cX8_letOnOf 31 = .ok (.iconst 1, 1) := dk_4 (dk_at dksX8_letOnOf_1 8 rfl rfl)
theorem dX8_letOnOf_32 : decode cX8_letOnOf 32 = .ok (.goto 4, 3) := dk_167 0 4 (dk_at dksX8_letOnOf_1 9 rfl rfl)
theorem dX8_letOnOf_35 : decode cX8_letOnOf 35 = .ok (.iconst 0, 1) := dk_3 (dk_at dksX8_letOnOf_1 12 rfl rfl)
theorem dX8_letOnOf_36 : decode cX8_letOnOf 36 = .ok (.iadd, 1) := dk_96 (dk_at dksX8_letOnOf_1 13 rfl rfl)
theorem dX8_letOnOf_37 : decode cX8_letOnOf 37 = .ok (.istore_n 1, 1) := dk_60 (dk_at dksX8_letOnOf_1 14 rfl rfl)
theorem dX8_letOnOf_38 : decode cX8_letOnOf 38 = .ok (.iinc 4 1, 3) := dk_132 4 1 (dk_at dksX8_letOnOf_1 15 rfl rfl)
theorem dX8_letOnOf_41 : decode cX8_letOnOf 41 = .ok (.goto (-28), 3) := dk_167 255 228 (dk_at dksX8_letOnOf_1 18 rfl rfl)
theorem dX8_letOnOf_44 : decode cX8_letOnOf 44 = .ok (.iload_n 1, 1) := dk_27 (dk_at dksX8_letOnOf_1 21 rfl rfl)
theorem dX8_letOnOf_45 : decode cX8_letOnOf 45 = .ok (.ireturn, 1) := dk_172 (dk_at dksX8_letOnOf_1 22 rfl rfl)
abbrev cX8_deliver : ByteArray := prog_19_method_41_code
def yX8_deliver : MethodName := ⟨RX8, "deliver", "(II)I"⟩
def dkwX8_deliver_5 : List UInt8 := [181, 1, 18, 45, 180, 1, 18, 172]
abbrev dktX8_deliver_5 : List UInt8 := dkwX8_deliver_5 ++ []
def dkwX8_deliver_4 : List UInt8 := [181, 0, 176, 42, 89, 180, 0, 121, 5, 28, 104, 96, 181, 0, 121, 45, 89, 180, 1, 18, 6, 28, 104, 96]
abbrev dktX8_deliver_4 : List UInt8 := dkwX8_deliver_4 ++ dktX8_deliver_5
def dkwX8_deliver_3 : List UInt8 := [3, 172, 42, 180, 0, 20, 27, 182, 0, 78, 192, 0, 152, 78, 45, 89, 180, 0, 176, 5, 28, 104, 100]
abbrev dktX8_deliver_3 : List UInt8 := dkwX8_deliver_3 ++ dktX8_deliver_4
def dkwX8_deliver_2 : List UInt8 := [192, 0, 152, 180, 0, 176, 5, 28, 104, 162, 0, 7, 4, 167, 0, 4, 3, 6, 182, 0, 52, 153, 0, 5]
abbrev dktX8_deliver_2 : List UInt8 := dkwX8_deliver_2 ++ dktX8_deliver_3
def dkwX8_deliver_1 : List UInt8 := [154, 0, 7, 4, 167, 0, 4, 3, 5, 182, 0, 52, 154, 0, 36, 42, 42, 180, 0, 20, 27, 182, 0, 78]
abbrev dktX8_deliver_1 : List UInt8 := dkwX8_deliver_1 ++ dktX8_deliver_2
def dkwX8_deliver_0 : List UInt8 := [42, 42, 27, 182, 0, 161, 4, 182, 0, 124, 154, 0, 60, 42, 28, 4, 17, 1, 244, 184, 0, 60]
abbrev dktX8_deliver_0 : List UInt8 := dkwX8_deliver_0 ++ dktX8_deliver_1
theorem dksX8_deliver_0 : cX8_deliver.data.toList.drop 0 = dktX8_deliver_0 := by decide +kernel
theorem dksX8_deliver_1 : cX8_deliver.data.toList.drop 22 = dktX8_deliver_1 := dk_seg dksX8_deliver_0 22 rfl rfl
theorem dksX8_deliver_2 : cX8_deliver.data.toList.drop 46 = dktX8_deliver_2 := dk_seg dksX8_deliver_1 24 rfl rfl
theorem dksX8_deliver_3 : cX8_deliver.data.toList.drop 70 = dktX8_deliver_3 := dk_seg dksX8_deliver_2 24 rfl rfl
theorem dksX8_deliver_4 : cX8_deliver.data.toList.drop 93 = dktX8_deliver_4 := dk_seg dksX8_deliver_3 23 rfl rfl
theorem dksX8_deliver_5 : cX8_deliver.data.toList.drop 117 = dktX8_deliver_5 := dk_seg dksX8_deliver_4 24 rfl rfl
theorem dX8_deliver_0 : decode cX8_deliver 0 = .ok (.aload_n 0, 1) := dk_42 (dk_at dksX8_deliver_0 0 rfl rfl)
theorem dX8_deliver_1 : decode cX8_deliver 1 = .ok (.aload_n 0, 1) := dk_42 (dk_at dksX8_deliver_0 1 rfl rfl)
theorem dX8_deliver_2 : decode cX8_deliver 2 = .ok (.iload_n 1, 1) := dk_27 (dk_at dksX8_deliver_0 2 rfl rfl)
theorem dX8_deliver_3 : decode cX8_deliver 3 = .ok (.invokevirtual 161, 3) := dk_182 0 161 (dk_at dksX8_deliver_0 3 rfl rfl)
theorem dX8_deliver_6 : decode cX8_deliver 6 = .ok (.iconst 1, 1) := dk_4 (dk_at dksX8_deliver_0 6 rfl rfl)
theorem dX8_deliver_7 : decode cX8_deliver 7 = .ok (.invokevirtual 124, 3) := dk_182 0 124 (dk_at dksX8_deliver_0 7 rfl rfl)
theorem dX8_deliver_10 : decode cX8_deliver 10 = .ok (.ifCond .ne 60, 3) := dk_154 0 60 (dk_at dksX8_deliver_0 10 rfl rfl)
theorem dX8_deliver_13 : decode cX8_deliver 13 = .ok (.aload_n 0, 1) := dk_42 (dk_at dksX8_deliver_0 13 rfl rfl)
theorem dX8_deliver_14 : decode cX8_deliver 14 = .ok (.iload_n 2, 1) := dk_28 (dk_at dksX8_deliver_0 14 rfl rfl)
theorem dX8_deliver_15 : decode cX8_deliver 15 = .ok (.iconst 1, 1) := dk_4 (dk_at dksX8_deliver_0 15 rfl rfl)
theorem dX8_deliver_16 : decode cX8_deliver 16 = .ok (.sipush 500, 3) := dk_17 1 244 (dk_at dksX8_deliver_0 16 rfl rfl)
theorem dX8_deliver_19 : decode cX8_deliver 19 = .ok (.invokestatic 60, 3) := dk_184 0 60 (dk_at dksX8_deliver_0 19 rfl rfl)
theorem dX8_deliver_22 : decode cX8_deliver 22 = .ok (.ifCond .ne 7, 3) := dk_154 0 7 (dk_at dksX8_deliver_1 0 rfl rfl)
theorem dX8_deliver_25 : decode cX8_deliver 25 = .ok (.iconst 1, 1) := dk_4 (dk_at dksX8_deliver_1 3 rfl rfl)
theorem dX8_deliver_26 : decode cX8_deliver 26 = .ok (.goto 4, 3) := dk_167 0 4 (dk_at dksX8_deliver_1 4 rfl rfl)
theorem dX8_deliver_29 : decode cX8_deliver 29 = .ok (.iconst 0, 1) := dk_3 (dk_at dksX8_deliver_1 7 rfl rfl)
theorem dX8_deliver_30 : decode cX8_deliver 30 = .ok (.iconst 2, 1) := dk_5 (dk_at dksX8_deliver_1 8 rfl rfl)
theorem dX8_deliver_31 : decode cX8_deliver 31 = .ok (.invokevirtual 52, 3) := dk_182 0 52 (dk_at dksX8_deliver_1 9 rfl rfl)
theorem dX8_deliver_34 : decode cX8_deliver 34 = .ok (.ifCond .ne 36, 3) := dk_154 0 36 (dk_at dksX8_deliver_1 12 rfl rfl)
theorem dX8_deliver_37 : decode cX8_deliver 37 = .ok (.aload_n 0, 1) := dk_42 (dk_at dksX8_deliver_1 15 rfl rfl)
theorem dX8_deliver_38 : decode cX8_deliver 38 = .ok (.aload_n 0, 1) := dk_42 (dk_at dksX8_deliver_1 16 rfl rfl)
theorem dX8_deliver_39 : decode cX8_deliver 39 = .ok (.getfield 20, 3) := dk_180 0 20 (dk_at dksX8_deliver_1 17 rfl rfl)
theorem dX8_deliver_42 : decode cX8_deliver 42 = .ok (.iload_n 1, 1) := dk_27 (dk_at dksX8_deliver_1 20 rfl rfl)
theorem dX8_deliver_43 : decode cX8_deliver 43 = .ok (.invokevirtual 78, 3) := dk_182 0 78 (dk_at dksX8_deliver_1 21 rfl rfl)
theorem dX8_deliver_46 : decode cX8_deliver 46 = .ok (.checkcast 152, 3) := dk_192 0 152 (dk_at dksX8_deliver_2 0 rfl rfl)
theorem dX8_deliver_49 : decode cX8_deliver 49 = .ok (.getfield 176, 3) := dk_180 0 176 (dk_at dksX8_deliver_2 3 rfl rfl)
theorem dX8_deliver_52 : decode cX8_deliver 52 = .ok (.iconst 2, 1) := dk_5 (dk_at dksX8_deliver_2 6 rfl rfl)
theorem dX8_deliver_53 : decode cX8_deliver 53 = .ok (.iload_n 2, 1) := dk_28 (dk_at dksX8_deliver_2 7 rfl rfl)
theorem dX8_deliver_54 : decode cX8_deliver 54 = .ok (.imul, 1) := dk_104 (dk_at dksX8_deliver_2 8 rfl rfl)
theorem dX8_deliver_55 : decode cX8_deliver 55 = .ok (.if_icmp .ge 7, 3) := dk_162 0 7 (dk_at dksX8_deliver_2 9 rfl rfl)
theorem dX8_deliver_58 : decode cX8_deliver 58 = .ok (.iconst 1, 1) := dk_4 (dk_at dksX8_deliver_2 12 rfl rfl)
theorem dX8_deliver_59 : decode cX8_deliver 59 = .ok (.goto 4, 3) := dk_167 0 4 (dk_at dksX8_deliver_2 13 rfl rfl)
theorem dX8_deliver_62 : decode cX8_deliver 62 = .ok (.iconst 0, 1) := dk_3 (dk_at dksX8_deliver_2 16 rfl rfl)
theorem dX8_deliver_63 : decode cX8_deliver 63 = .ok (.iconst 3, 1) := dk_6 (dk_at dksX8_deliver_2 17 rfl rfl)
theorem dX8_deliver_64 : decode cX8_deliver 64 = .ok (.invokevirtual 52, 3) := dk_182 0 52 (dk_at dksX8_deliver_2 18 rfl rfl)
theorem dX8_deliver_67 : decode cX8_deliver 67 = .ok (.ifCond .eq 5, 3) := dk_153 0 5 (dk_at dksX8_deliver_2 21 rfl rfl)
theorem dX8_deliver_70 : decode cX8_deliver 70 = .ok (.iconst 0, 1) := dk_3 (dk_at dksX8_deliver_3 0 rfl rfl)
theorem dX8_deliver_71 : decode cX8_deliver 71 = .ok (.ireturn, 1) := dk_172 (dk_at dksX8_deliver_3 1 rfl rfl)
theorem dX8_deliver_72 : decode cX8_deliver 72 = .ok (.aload_n 0, 1) := dk_42 (dk_at dksX8_deliver_3 2 rfl rfl)
theorem dX8_deliver_73 : decode cX8_deliver 73 = .ok (.getfield 20, 3) := dk_180 0 20 (dk_at dksX8_deliver_3 3 rfl rfl)
theorem dX8_deliver_76 : decode cX8_deliver 76 = .ok (.iload_n 1, 1) := dk_27 (dk_at dksX8_deliver_3 6 rfl rfl)
theorem dX8_deliver_77 : decode cX8_deliver 77 = .ok (.invokevirtual 78, 3) := dk_182 0 78 (dk_at dksX8_deliver_3 7 rfl rfl)
theorem dX8_deliver_80 : decode cX8_deliver 80 = .ok (.checkcast 152, 3) := dk_192 0 152 (dk_at dksX8_deliver_3 10 rfl rfl)
theorem dX8_deliver_83 : decode cX8_deliver 83 = .ok (.astore_n 3, 1) := dk_78 (dk_at dksX8_deliver_3 13 rfl rfl)
theorem dX8_deliver_84 : decode cX8_deliver 84 = .ok (.aload_n 3, 1) := dk_45 (dk_at dksX8_deliver_3 14 rfl rfl)
theorem dX8_deliver_85 : decode cX8_deliver 85 = .ok (.dup, 1) := dk_89 (dk_at dksX8_deliver_3 15 rfl rfl)
theorem dX8_deliver_86 : decode cX8_deliver 86 = .ok (.getfield 176, 3) := dk_180 0 176 (dk_at dksX8_deliver_3 16 rfl rfl)
theorem dX8_deliver_89 : decode cX8_deliver 89 = .ok (.iconst 2, 1) := dk_5 (dk_at dksX8_deliver_3 19 rfl rfl)
theorem dX8_deliver_90 : decode cX8_deliver 90 = .ok (.iload_n 2, 1) := dk_28 (dk_at dksX8_deliver_3 20 rfl rfl)
theorem dX8_deliver_91 : decode cX8_deliver 91 = .ok (.imul, 1) := dk_104 (dk_at dksX8_deliver_3 21 rfl rfl)
theorem dX8_deliver_92 : decode cX8_deliver 92 = .ok (.isub, 1) := dk_100 (dk_at dksX8_deliver_3 22 rfl rfl)
theorem dX8_deliver_93 : decode cX8_deliver 93 = .ok (.putfield 176, 3) := dk_181 0 176 (dk_at dksX8_deliver_4 0 rfl rfl)
theorem dX8_deliver_96 : decode cX8_deliver 96 = .ok (.aload_n 0, 1) := dk_42 (dk_at dksX8_deliver_4 3 rfl rfl)
theorem dX8_deliver_97 : decode cX8_deliver 97 = .ok (.dup, 1) := dk_89 (dk_at dksX8_deliver_4 4 rfl rfl)
theorem dX8_deliver_98 : decode cX8_deliver 98 = .ok (.getfield 121, 3) := dk_180 0 121 (dk_at dksX8_deliver_4 5 rfl rfl)
theorem dX8_deliver_101 : decode cX8_deliver 101 = .ok (.iconst 2, 1) := dk_5 (dk_at dksX8_deliver_4 8 rfl rfl)
theorem dX8_deliver_102 : decode cX8_deliver 102 = .ok (.iload_n 2, 1) := dk_28 (dk_at dksX8_deliver_4 9 rfl rfl)
theorem dX8_deliver_103 : decode cX8_deliver 103 = .ok (.imul, 1) := dk_104 (dk_at dksX8_deliver_4 10 rfl rfl)
theorem dX8_deliver_104 : decode cX8_deliver 104 = .ok (.iadd, 1) := dk_96 (dk_at dksX8_deliver_4 11 rfl rfl)
theorem dX8_deliver_105 : decode cX8_deliver 105 = .ok (.putfield 121, 3) := dk_181 0 121 (dk_at dksX8_deliver_4 12 rfl rfl)
theorem dX8_deliver_108 : decode cX8_deliver 108 = .ok (.aload_n 3, 1) := dk_45 (dk_at dksX8_deliver_4 15 rfl rfl)
theorem dX8_deliver_109 : decode cX8_deliver 109 = .ok (.dup, 1) := dk_89 (dk_at dksX8_deliver_4 16 rfl rfl)
theorem dX8_deliver_110 : decode cX8_deliver 110 = .ok (.getfield 274, 3) := dk_180 1 18 (dk_at dksX8_deliver_4 17 rfl rfl)
theorem dX8_deliver_113 : decode cX8_deliver 113 = .ok (.iconst 3, 1) := dk_6 (dk_at dksX8_deliver_4 20 rfl rfl)
theorem dX8_deliver_114 : decode cX8_deliver 114 = .ok (.iload_n 2, 1) := dk_28 (dk_at dksX8_deliver_4 21 rfl rfl)
theorem dX8_deliver_115 : decode cX8_deliver 115 = .ok (.imul, 1) := dk_104 (dk_at dksX8_deliver_4 22 rfl rfl)
theorem dX8_deliver_116 : decode cX8_deliver 116 = .ok (.iadd, 1) := dk_96 (dk_at dksX8_deliver_4 23 rfl rfl)
theorem dX8_deliver_117 : decode cX8_deliver 117 = .ok (.putfield 274, 3) := dk_181 1 18 (dk_at dksX8_deliver_5 0 rfl rfl)
theorem dX8_deliver_120 : decode cX8_deliver 120 = .ok (.aload_n 3, 1) := dk_45 (dk_at dksX8_deliver_5 3 rfl rfl)
theorem dX8_deliver_121 : decode cX8_deliver 121 = .ok (.getfield 274, 3) := dk_180 1 18 (dk_at dksX8_deliver_5 4 rfl rfl)
theorem dX8_deliver_124 : decode cX8_deliver 124 = .ok (.ireturn, 1) := dk_172 (dk_at dksX8_deliver_5 7 rfl rfl)
abbrev cX8_sue : ByteArray := prog_19_method_43_code
def yX8_sue : MethodName := ⟨RX8, "sue", "(II)I"⟩
def dkwX8_sue_12 : List UInt8 := [181, 1, 60, 4, 172]
abbrev dktX8_sue_12 : List UInt8 := dkwX8_sue_12 ++ []
def dkwX8_sue_11 : List UInt8 := [180, 1, 59, 21, 7, 96, 181, 1, 59, 45, 16, 254, 182, 1, 47, 42, 89, 180, 1, 60, 4, 96]
abbrev dktX8_sue_11 : List UInt8 := dkwX8_sue_11 ++ dktX8_sue_12
def dkwX8_sue_10 : List UInt8 := [21, 5, 104, 184, 0, 93, 54, 7, 25, 6, 89, 180, 0, 176, 21, 7, 100, 181, 0, 176, 45, 89]
abbrev dktX8_sue_10 : List UInt8 := dkwX8_sue_10 ++ dktX8_sue_11
def dkwX8_sue_9 : List UInt8 := [4, 96, 181, 1, 56, 5, 172, 25, 6, 180, 0, 176, 28, 154, 0, 10, 7, 21, 5, 104, 167, 0, 7, 5]
abbrev dktX8_sue_9 : List UInt8 := dkwX8_sue_9 ++ dktX8_sue_10
def dkwX8_sue_8 : List UInt8 := [180, 1, 50, 16, 50, 100, 181, 1, 50, 42, 89, 180, 1, 53, 4, 96, 181, 1, 53, 42, 89, 180, 1, 56]
abbrev dktX8_sue_8 : List UInt8 := dkwX8_sue_8 ++ dktX8_sue_9
def dkwX8_sue_7 : List UInt8 := [180, 0, 228, 182, 0, 78, 192, 0, 152, 58, 6, 25, 6, 180, 1, 50, 16, 50, 161, 0, 37, 25, 6, 89]
abbrev dktX8_sue_7 : List UInt8 := dkwX8_sue_7 ++ dktX8_sue_8
def dkwX8_sue_6 : List UInt8 := [182, 1, 47, 3, 172, 42, 180, 0, 20, 42, 180, 0, 23, 25, 4, 7, 46, 182, 0, 78, 192, 0, 208]
abbrev dktX8_sue_6 : List UInt8 := dkwX8_sue_6 ++ dktX8_sue_7
def dkwX8_sue_5 : List UInt8 := [180, 0, 46, 182, 1, 40, 7, 162, 0, 20, 42, 89, 180, 1, 44, 4, 96, 181, 1, 44, 45, 4]
abbrev dktX8_sue_5 : List UInt8 := dkwX8_sue_5 ++ dktX8_sue_6
def dkwX8_sue_4 : List UInt8 := [25, 4, 5, 46, 25, 4, 6, 46, 100, 54, 5, 21, 5, 158, 0, 21, 42, 21, 5, 25, 4, 6, 46, 42]
abbrev dktX8_sue_4 : List UInt8 := dkwX8_sue_4 ++ dktX8_sue_5
def dkwX8_sue_3 : List UInt8 := [46, 4, 160, 0, 7, 4, 167, 0, 4, 3, 5, 182, 0, 52, 153, 0, 5, 3, 172, 25, 4, 8, 4, 79]
abbrev dktX8_sue_3 : List UInt8 := dkwX8_sue_3 ++ dktX8_sue_4
def dkwX8_sue_2 : List UInt8 := [28, 50, 58, 4, 42, 25, 4, 198, 0, 22, 25, 4, 3, 46, 42, 182, 1, 37, 160, 0, 11, 25, 4, 8]
abbrev dktX8_sue_2 : List UInt8 := dkwX8_sue_2 ++ dktX8_sue_3
def dkwX8_sue_1 : List UInt8 := [182, 0, 124, 153, 0, 5, 3, 172, 42, 180, 0, 16, 27, 182, 0, 78, 192, 0, 68, 78, 45, 180, 1, 33]
abbrev dktX8_sue_1 : List UInt8 := dkwX8_sue_1 ++ dktX8_sue_2
def dkwX8_sue_0 : List UInt8 := [42, 42, 27, 182, 0, 142, 154, 0, 10, 28, 184, 0, 149, 153, 0, 7, 4, 167, 0, 4, 3, 4]
abbrev dktX8_sue_0 : List UInt8 := dkwX8_sue_0 ++ dktX8_sue_1
theorem dksX8_sue_0 : cX8_sue.data.toList.drop 0 = dktX8_sue_0 := by decide +kernel
theorem dksX8_sue_1 : cX8_sue.data.toList.drop 22 = dktX8_sue_1 := dk_seg dksX8_sue_0 22 rfl rfl
theorem dksX8_sue_2 : cX8_sue.data.toList.drop 46 = dktX8_sue_2 := dk_seg dksX8_sue_1 24 rfl rfl
theorem dksX8_sue_3 : cX8_sue.data.toList.drop 70 = dktX8_sue_3 := dk_seg dksX8_sue_2 24 rfl rfl
theorem dksX8_sue_4 : cX8_sue.data.toList.drop 94 = dktX8_sue_4 := dk_seg dksX8_sue_3 24 rfl rfl
theorem dksX8_sue_5 : cX8_sue.data.toList.drop 118 = dktX8_sue_5 := dk_seg dksX8_sue_4 24 rfl rfl
theorem dksX8_sue_6 : cX8_sue.data.toList.drop 140 = dktX8_sue_6 := dk_seg dksX8_sue_5 22 rfl rfl
theorem dksX8_sue_7 : cX8_sue.data.toList.drop 163 = dktX8_sue_7 := dk_seg dksX8_sue_6 23 rfl rfl
theorem dksX8_sue_8 : cX8_sue.data.toList.drop 187 = dktX8_sue_8 := dk_seg dksX8_sue_7 24 rfl rfl
theorem dksX8_sue_9 : cX8_sue.data.toList.drop 211 = dktX8_sue_9 := dk_seg dksX8_sue_8 24 rfl rfl
theorem dksX8_sue_10 : cX8_sue.data.toList.drop 235 = dktX8_sue_10 := dk_seg dksX8_sue_9 24 rfl rfl
theorem dksX8_sue_11 : cX8_sue.data.toList.drop 257 = dktX8_sue_11 := dk_seg dksX8_sue_10 22 rfl rfl
theorem dksX8_sue_12 : cX8_sue.data.toList.drop 279 = dktX8_sue_12 := dk_seg dksX8_sue_11 22 rfl rfl
theorem dX8_sue_0 : decode cX8_sue 0 = .ok (.aload_n 0, 1) := dk_42 (dk_at dksX8_sue_0 0 rfl rfl)
theorem dX8_sue_1 : decode cX8_sue 1 = .ok (.aload_n 0, 1) := dk_42 (dk_at dksX8_sue_0 1 rfl rfl)
theorem dX8_sue_2 : decode cX8_sue 2 = .ok (.iload_n 1, 1) := dk_27 (dk_at dksX8_sue_0 2 rfl rfl)
theorem dX8_sue_3 : decode cX8_sue 3 = .ok (.invokevirtual 142, 3) := dk_182 0 142 (dk_at dksX8_sue_0 3 rfl rfl)
theorem dX8_sue_6 : decode cX8_sue 6 = .ok (.ifCond .ne 10, 3) := dk_154 0 10 (dk_at dksX8_sue_0 6 rfl rfl)
theorem dX8_sue_9 : decode cX8_sue 9 = .ok (.iload_n 2, 1) := dk_28 (dk_at dksX8_sue_0 9 rfl rfl)
theorem dX8_sue_10 : decode cX8_sue 10 = .ok (.invokestatic 149, 3) := dk_184 0 149 (dk_at dksX8_sue_0 10 rfl rfl)
theorem dX8_sue_13 : decode cX8_sue 13 = .ok (.ifCond .eq 7, 3) := dk_153 0 7 (dk_at dksX8_sue_0 13 rfl rfl)
theorem dX8_sue_16 : decode cX8_sue 16 = .ok (.iconst 1, 1) := dk_4 (dk_at dksX8_sue_0 16 rfl rfl)
theorem dX8_sue_17 : decode cX8_sue 17 = .ok (.goto 4, 3) := dk_167 0 4 (dk_at dksX8_sue_0 17 rfl rfl)
theorem dX8_sue_20 : decode cX8_sue 20 = .ok (.iconst 0, 1) := dk_3 (dk_at dksX8_sue_0 20 rfl rfl)
theorem dX8_sue_21 : decode cX8_sue 21 = .ok (.iconst 1, 1) := dk_4 (dk_at dksX8_sue_0 21 rfl rfl)
theorem dX8_sue_22 : decode cX8_sue 22 = .ok (.invokevirtual 124, 3) := dk_182 0 124 (dk_at dksX8_sue_1 0 rfl rfl)
theorem dX8_sue_25 : decode cX8_sue 25 = .ok (.ifCond .eq 5, 3) := dk_153 0 5 (dk_at dksX8_sue_1 3 rfl rfl)
theorem dX8_sue_28 : decode cX8_sue 28 = .ok (.iconst 0, 1) := dk_3 (dk_at dksX8_sue_1 6 rfl rfl)
theorem dX8_sue_29 : decode cX8_sue 29 = .ok (.ireturn, 1) := dk_172 (dk_at dksX8_sue_1 7 rfl rfl)
theorem dX8_sue_30 : decode cX8_sue 30 = .ok (.aload_n 0, 1) := dk_42 (dk_at dksX8_sue_1 8 rfl rfl)
theorem dX8_sue_31 : decode cX8_sue 31 = .ok (.getfield 16, 3) := dk_180 0 16 (dk_at dksX8_sue_1 9 rfl rfl)
theorem dX8_sue_34 : decode cX8_sue 34 = .ok (.iload_n 1, 1) := dk_27 (dk_at dksX8_sue_1 12 rfl rfl)
theorem dX8_sue_35 : decode cX8_sue 35 = .ok (.invokevirtual 78, 3) := dk_182 0 78 (dk_at dksX8_sue_1 13 rfl rfl)
theorem dX8_sue_38 : decode cX8_sue 38 = .ok (.checkcast 68, 3) := dk_192 0 68 (dk_at dksX8_sue_1 16 rfl rfl)
theorem dX8_sue_41 : decode cX8_sue 41 = .ok (.astore_n 3, 1) := dk_78 (dk_at dksX8_sue_1 19 rfl rfl)
theorem dX8_sue_42 : decode cX8_sue 42 = .ok (.aload_n 3, 1) := dk_45 (dk_at dksX8_sue_1 20 rfl rfl)
theorem dX8_sue_43 : decode cX8_sue 43 = .ok (.getfield 289, 3) := dk_180 1 33 (dk_at dksX8_sue_1 21 rfl rfl)
theorem dX8_sue_46 : decode cX8_sue 46 = .ok (.iload_n 2, 1) := dk_28 (dk_at dksX8_sue_2 0 rfl rfl)
theorem dX8_sue_47 : decode cX8_sue 47 = .ok (.aaload, 1) := dk_50 (dk_at dksX8_sue_2 1 rfl rfl)
theorem dX8_sue_48 : decode cX8_sue 48 = .ok (.astore 4, 2) := dk_58 4 (dk_at dksX8_sue_2 2 rfl rfl)
theorem dX8_sue_50 : decode cX8_sue 50 = .ok (.aload_n 0, 1) := dk_42 (dk_at dksX8_sue_2 4 rfl rfl)
theorem dX8_sue_51 : decode cX8_sue 51 = .ok (.aload 4, 2) := dk_25 4 (dk_at dksX8_sue_2 5 rfl rfl)
theorem dX8_sue_53 : decode cX8_sue 53 = .ok (.ifnull 22, 3) := dk_198 0 22 (dk_at dksX8_sue_2 7 rfl rfl)
theorem dX8_sue_56 : decode cX8_sue 56 = .ok (.aload 4, 2) := dk_25 4 (dk_at dksX8_sue_2 10 rfl rfl)
theorem dX8_sue_58 : decode cX8_sue 58 = .ok (.iconst 0, 1) := dk_3 (dk_at dksX8_sue_2 12 rfl rfl)
theorem dX8_sue_59 : decode cX8_sue 59 = .ok (.iaload, 1) := dk_46 (dk_at dksX8_sue_2 13 rfl rfl)
theorem dX8_sue_60 : decode cX8_sue 60 = .ok (.aload_n 0, 1) := dk_42 (dk_at dksX8_sue_2 14 rfl rfl)
theorem dX8_sue_61 : decode cX8_sue 61 = .ok (.invokevirtual 293, 3) := dk_182 1 37 (dk_at dksX8_sue_2 15 rfl rfl)
theorem dX8_sue_64 : decode cX8_sue 64 = .ok (.if_icmp .ne 11, 3) := dk_160 0 11 (dk_at dksX8_sue_2 18 rfl rfl)
theorem dX8_sue_67 : decode cX8_sue 67 = .ok (.aload 4, 2) := dk_25 4 (dk_at dksX8_sue_2 21 rfl rfl)
theorem dX8_sue_69 : decode cX8_sue 69 = .ok (.iconst 5, 1) := dk_8 (dk_at dksX8_sue_2 23 rfl rfl)
theorem dX8_sue_70 : decode cX8_sue 70 = .ok (.iaload, 1) := dk_46 (dk_at dksX8_sue_3 0 rfl rfl)
theorem dX8_sue_71 : decode cX8_sue 71 = .ok (.iconst 1, 1) := dk_4 (dk_at dksX8_sue_3 1 rfl rfl)
theorem dX8_sue_72 : decode cX8_sue 72 = .ok (.if_icmp .ne 7, 3) := dk_160 0 7 (dk_at dksX8_sue_3 2 rfl rfl)
theorem dX8_sue_75 : decode cX8_sue 75 = .ok (.iconst 1, 1) := dk_4 (dk_at dksX8_sue_3 5 rfl rfl)
theorem dX8_sue_76 : decode cX8_sue 76 = .ok (.goto 4, 3) := dk_167 0 4 (dk_at dksX8_sue_3 6 rfl rfl)
theorem dX8_sue_79 : decode cX8_sue 79 = .ok (.iconst 0, 1) := dk_3 (dk_at dksX8_sue_3 9 rfl rfl)
theorem dX8_sue_80 : decode cX8_sue 80 = .ok (.iconst 2, 1) := dk_5 (dk_at dksX8_sue_3 10 rfl rfl)
theorem dX8_sue_81 : decode cX8_sue 81 = .ok (.invokevirtual 52, 3) := dk_182 0 52 (dk_at dksX8_sue_3 11 rfl rfl)
theorem dX8_sue_84 : decode cX8_sue 84 = .ok (.ifCond .eq 5, 3) := dk_153 0 5 (dk_at dksX8_sue_3 14 rfl rfl)
theorem dX8_sue_87 : decode cX8_sue 87 = .ok (.iconst 0, 1) := dk_3 (dk_at dksX8_sue_3 17 rfl rfl)
theorem dX8_sue_88 : decode cX8_sue 88 = .ok (.ireturn, 1) := dk_172 (dk_at dksX8_sue_3 18 rfl rfl)
theorem dX8_sue_89 : decode cX8_sue 89 = .ok (.aload 4, 2) := dk_25 4 (dk_at dksX8_sue_3 19 rfl rfl)
theorem dX8_sue_91 : decode cX8_sue 91 = .ok (.iconst 5, 1) := dk_8 (dk_at dksX8_sue_3 21 rfl rfl)
theorem dX8_sue_92 : decode cX8_sue 92 = .ok (.iconst 1, 1) := dk_4 (dk_at dksX8_sue_3 22 rfl rfl)
theorem dX8_sue_93 : decode cX8_sue 93 = .ok (.iastore, 1) := dk_79 (dk_at dksX8_sue_3 23 rfl rfl)
theorem dX8_sue_94 : decode cX8_sue 94 = .ok (.aload 4, 2) := dk_25 4 (dk_at dksX8_sue_4 0 rfl rfl)
theorem dX8_sue_96 : decode cX8_sue 96 = .ok (.iconst 2, 1) := dk_5 (dk_at dksX8_sue_4 2 rfl rfl)
theorem dX8_sue_97 : decode cX8_sue 97 = .ok (.iaload, 1) := dk_46 (dk_at dksX8_sue_4 3 rfl rfl)
theorem dX8_sue_98 : decode cX8_sue 98 = .ok (.aload 4, 2) := dk_25 4 (dk_at dksX8_sue_4 4 rfl rfl)
theorem dX8_sue_100 : decode cX8_sue 100 = .ok (.iconst 3, 1) := dk_6 (dk_at dksX8_sue_4 6 rfl rfl)
theorem dX8_sue_101 : decode cX8_sue 101 = .ok (.iaload, 1) := dk_46 (dk_at dksX8_sue_4 7 rfl rfl)
theorem dX8_sue_102 : decode cX8_sue 102 = .ok (.isub, 1) := dk_100 (dk_at dksX8_sue_4 8 rfl rfl)
theorem dX8_sue_103 : decode cX8_sue 103 = .ok (.istore 5, 2) := dk_54 5 (dk_at dksX8_sue_4 9 rfl rfl)
theorem dX8_sue_105 : decode cX8_sue 105 = .ok (.iload 5, 2) := dk_21 5 (dk_at dksX8_sue_4 11 rfl rfl)
theorem dX8_sue_107 : decode cX8_sue 107 = .ok (.ifCond .le 21, 3) := dk_158 0 21 (dk_at dksX8_sue_4 13 rfl rfl)
theorem dX8_sue_110 : decode cX8_sue 110 = .ok (.aload_n 0, 1) := dk_42 (dk_at dksX8_sue_4 16 rfl rfl)
theorem dX8_sue_111 : decode cX8_sue 111 = .ok (.iload 5, 2) := dk_21 5 (dk_at dksX8_sue_4 17 rfl rfl)
theorem dX8_sue_113 : decode cX8_sue 113 = .ok (.aload 4, 2) := dk_25 4 (dk_at dksX8_sue_4 19 rfl rfl)
theorem dX8_sue_115 : decode cX8_sue 115 = .ok (.iconst 3, 1) := dk_6 (dk_at dksX8_sue_4 21 rfl rfl)
theorem dX8_sue_116 : decode cX8_sue 116 = .ok (.iaload, 1) := dk_46 (dk_at dksX8_sue_4 22 rfl rfl)
theorem dX8_sue_117 : decode cX8_sue 117 = .ok (.aload_n 0, 1) := dk_42 (dk_at dksX8_sue_4 23 rfl rfl)
theorem dX8_sue_118 : decode cX8_sue 118 = .ok (.getfield 46, 3) := dk_180 0 46 (dk_at dksX8_sue_5 0 rfl rfl)
theorem dX8_sue_121 : decode cX8_sue 121 = .ok (.invokevirtual 296, 3) := dk_182 1 40 (dk_at dksX8_sue_5 3 rfl rfl)
theorem dX8_sue_124 : decode cX8_sue 124 = .ok (.iconst 4, 1) := dk_7 (dk_at dksX8_sue_5 6 rfl rfl)
theorem dX8_sue_125 : decode cX8_sue 125 = .ok (.if_icmp .ge 20, 3) := dk_162 0 20 (dk_at dksX8_sue_5 7 rfl rfl)
theorem dX8_sue_128 : decode cX8_sue 128 = .ok (.aload_n 0, 1) := dk_42 (dk_at dksX8_sue_5 10 rfl rfl)
theorem dX8_sue_129 : decode cX8_sue 129 = .ok (.dup, 1) := dk_89 (dk_at dksX8_sue_5 11 rfl rfl)
theorem dX8_sue_130 : decode cX8_sue 130 = .ok (.getfield 300, 3) := dk_180 1 44 (dk_at dksX8_sue_5 12 rfl rfl)
theorem dX8_sue_133 : decode cX8_sue 133 = .ok (.iconst 1, 1) := dk_4 (dk_at dksX8_sue_5 15 rfl rfl)
theorem dX8_sue_134 : decode cX8_sue 134 = .ok (.iadd, 1) := dk_96 (dk_at dksX8_sue_5 16 rfl rfl)
theorem dX8_sue_135 : decode cX8_sue 135 = .ok (.putfield 300, 3) := dk_181 1 44 (dk_at dksX8_sue_5 17 rfl rfl)
theorem dX8_sue_138 : decode cX8_sue 138 = .ok (.aload_n 3, 1) := dk_45 (dk_at dksX8_sue_5 20 rfl rfl)
theorem dX8_sue_139 : decode cX8_sue 139 = .ok (.iconst 1, 1) := dk_4 (dk_at dksX8_sue_5 21 rfl rfl)
theorem dX8_sue_140 : decode cX8_sue 140 = .ok (.invokevirtual 303, 3) := dk_182 1 47 (dk_at dksX8_sue_6 0 rfl rfl)
theorem dX8_sue_143 : decode cX8_sue 143 = .ok (.iconst 0, 1) := dk_3 (dk_at dksX8_sue_6 3 rfl rfl)
theorem dX8_sue_144 : decode cX8_sue 144 = .ok (.ireturn, 1) := dk_172 (dk_at dksX8_sue_6 4 rfl rfl)
theorem dX8_sue_145 : decode cX8_sue 145 = .ok (.aload_n 0, 1) := dk_42 (dk_at dksX8_sue_6 5 rfl rfl)
theorem dX8_sue_146 : decode cX8_sue 146 = .ok (.getfield 20, 3) := dk_180 0 20 (dk_at dksX8_sue_6 6 rfl rfl)
theorem dX8_sue_149 : decode cX8_sue 149 = .ok (.aload_n 0, 1) := dk_42 (dk_at dksX8_sue_6 9 rfl rfl)
theorem dX8_sue_150 : decode cX8_sue 150 = .ok (.getfield 23, 3) := dk_180 0 23 (dk_at dksX8_sue_6 10 rfl rfl)
theorem dX8_sue_153 : decode cX8_sue 153 = .ok (.aload 4, 2) := dk_25 4 (dk_at dksX8_sue_6 13 rfl rfl)
theorem dX8_sue_155 : decode cX8_sue 155 = .ok (.iconst 4, 1) := dk_7 (dk_at dksX8_sue_6 15 rfl rfl)
theorem dX8_sue_156 : decode cX8_sue 156 = .ok (.iaload, 1) := dk_46 (dk_at dksX8_sue_6 16 rfl rfl)
theorem dX8_sue_157 : decode cX8_sue 157 = .ok (.invokevirtual 78, 3) := dk_182 0 78 (dk_at dksX8_sue_6 17 rfl rfl)
theorem dX8_sue_160 : decode cX8_sue 160 = .ok (.checkcast 208, 3) := dk_192 0 208 (dk_at dksX8_sue_6 20 rfl rfl)
theorem dX8_sue_163 : decode cX8_sue 163 = .ok (.getfield 228, 3) := dk_180 0 228 (dk_at dksX8_sue_7 0 rfl rfl)
theorem dX8_sue_166 : decode cX8_sue 166 = .ok (.invokevirtual 78, 3) := dk_182 0 78 (dk_at dksX8_sue_7 3 rfl rfl)
theorem dX8_sue_169 : decode cX8_sue 169 = .ok (.checkcast 152, 3) := dk_192 0 152 (dk_at dksX8_sue_7 6 rfl rfl)
theorem dX8_sue_172 : decode cX8_sue 172 = .ok (.astore 6, 2) := dk_58 6 (dk_at dksX8_sue_7 9 rfl rfl)
theorem dX8_sue_174 : decode cX8_sue 174 = .ok (.aload 6, 2) := dk_25 6 (dk_at dksX8_sue_7 11 rfl rfl)
theorem dX8_sue_176 : decode cX8_sue 176 = .ok (.getfield 306, 3) := dk_180 1 50 (dk_at dksX8_sue_7 13 rfl rfl)
theorem dX8_sue_179 : decode cX8_sue 179 = .ok (.bipush 50, 2) := dk_16 50 (dk_at dksX8_sue_7 16 rfl rfl)
theorem dX8_sue_181 : decode cX8_sue 181 = .ok (.if_icmp .lt 37, 3) := dk_161 0 37 (dk_at dksX8_sue_7 18 rfl rfl)
theorem dX8_sue_184 : decode cX8_sue 184 = .ok (.aload 6, 2) := dk_25 6 (dk_at dksX8_sue_7 21 rfl rfl)
theorem dX8_sue_186 : decode cX8_sue 186 = .ok (.dup, 1) := dk_89 (dk_at dksX8_sue_7 23 rfl rfl)
theorem dX8_sue_187 : decode cX8_sue 187 = .ok (.getfield 306, 3) := dk_180 1 50 (dk_at dksX8_sue_8 0 rfl rfl)
theorem dX8_sue_190 : decode cX8_sue 190 = .ok (.bipush 50, 2) := dk_16 50 (dk_at dksX8_sue_8 3 rfl rfl)
theorem dX8_sue_192 : decode cX8_sue 192 = .ok (.isub, 1) := dk_100 (dk_at dksX8_sue_8 5 rfl rfl)
theorem dX8_sue_193 : decode cX8_sue 193 = .ok (.putfield 306, 3) := dk_181 1 50 (dk_at dksX8_sue_8 6 rfl rfl)
theorem dX8_sue_196 : decode cX8_sue 196 = .ok (.aload_n 0, 1) := dk_42 (dk_at dksX8_sue_8 9 rfl rfl)
theorem dX8_sue_197 : decode cX8_sue 197 = .ok (.dup, 1) := dk_89 (dk_at dksX8_sue_8 10 rfl rfl)
theorem dX8_sue_198 : decode cX8_sue 198 = .ok (.getfield 309, 3) := dk_180 1 53 (dk_at dksX8_sue_8 11 rfl rfl)
theorem dX8_sue_201 : decode cX8_sue 201 = .ok (.iconst 1, 1) := dk_4 (dk_at dksX8_sue_8 14 rfl rfl)
theorem dX8_sue_202 : decode cX8_sue 202 = .ok (.iadd, 1) := dk_96 (dk_at dksX8_sue_8 15 rfl rfl)
theorem dX8_sue_203 : decode cX8_sue 203 = .ok (.putfield 309, 3) := dk_181 1 53 (dk_at dksX8_sue_8 16 rfl rfl)
theorem dX8_sue_206 : decode cX8_sue 206 = .ok (.aload_n 0, 1) := dk_42 (dk_at dksX8_sue_8 19 rfl rfl)
theorem dX8_sue_207 : decode cX8_sue 207 = .ok (.dup, 1) := dk_89 (dk_at dksX8_sue_8 20 rfl rfl)
theorem dX8_sue_208 : decode cX8_sue 208 = .ok (.getfield 312, 3) := dk_180 1 56 (dk_at dksX8_sue_8 21 rfl rfl)
theorem dX8_sue_211 : decode cX8_sue 211 = .ok (.iconst 1, 1) := dk_4 (dk_at dksX8_sue_9 0 rfl rfl)
theorem dX8_sue_212 : decode cX8_sue 212 = .ok (.iadd, 1) := dk_96 (dk_at dksX8_sue_9 1 rfl rfl)
theorem dX8_sue_213 : decode cX8_sue 213 = .ok (.putfield 312, 3) := dk_181 1 56 (dk_at dksX8_sue_9 2 rfl rfl)
theorem dX8_sue_216 : decode cX8_sue 216 = .ok (.iconst 2, 1) := dk_5 (dk_at dksX8_sue_9 5 rfl rfl)
theorem dX8_sue_217 : decode cX8_sue 217 = .ok (.ireturn, 1) := dk_172 (dk_at dksX8_sue_9 6 rfl rfl)
theorem dX8_sue_218 : decode cX8_sue 218 = .ok (.aload 6, 2) := dk_25 6 (dk_at dksX8_sue_9 7 rfl rfl)
theorem dX8_sue_220 : decode cX8_sue 220 = .ok (.getfield 176, 3) := dk_180 0 176 (dk_at dksX8_sue_9 9 rfl rfl)
theorem dX8_sue_223 : decode cX8_sue 223 = .ok (.iload_n 2, 1) := dk_28 (dk_at dksX8_sue_9 12 rfl rfl)
theorem dX8_sue_224 : decode cX8_sue 224 = .ok (.ifCond .ne 10, 3) := dk_154 0 10 (dk_at dksX8_sue_9 13 rfl rfl)
theorem dX8_sue_227 : decode cX8_sue 227 = .ok (.iconst 4, 1) := dk_7 (dk_at dksX8_sue_9 16 rfl rfl)
theorem dX8_sue_228 : decode cX8_sue 228 = .ok (.iload 5, 2) := dk_21 5 (dk_at dksX8_sue_9 17 rfl rfl)
theorem dX8_sue_230 : decode cX8_sue 230 = .ok (.imul, 1) := dk_104 (dk_at dksX8_sue_9 19 rfl rfl)
theorem dX8_sue_231 : decode cX8_sue 231 = .ok (.goto 7, 3) := dk_167 0 7 (dk_at dksX8_sue_9 20 rfl rfl)
theorem dX8_sue_234 : decode cX8_sue 234 = .ok (.iconst 2, 1) := dk_5 (dk_at dksX8_sue_9 23 rfl rfl)
theorem dX8_sue_235 : decode cX8_sue 235 = .ok (.iload 5, 2) := dk_21 5 (dk_at dksX8_sue_10 0 rfl rfl)
theorem dX8_sue_237 : decode cX8_sue 237 = .ok (.imul, 1) := dk_104 (dk_at dksX8_sue_10 2 rfl rfl)
theorem dX8_sue_238 : decode cX8_sue 238 = .ok (.invokestatic 93, 3) := dk_184 0 93 (dk_at dksX8_sue_10 3 rfl rfl)
theorem dX8_sue_241 : decode cX8_sue 241 = .ok (.istore 7, 2) := dk_54 7 (dk_at dksX8_sue_10 6 rfl rfl)
theorem dX8_sue_243 : decode cX8_sue 243 = .ok (.aload 6, 2) := dk_25 6 (dk_at dksX8_sue_10 8 rfl rfl)
theorem dX8_sue_245 : decode cX8_sue 245 = .ok (.dup, 1) := dk_89 (dk_at dksX8_sue_10 10 rfl rfl)
theorem dX8_sue_246 : decode cX8_sue 246 = .ok (.getfield 176, 3) := dk_180 0 176 (dk_at dksX8_sue_10 11 rfl rfl)
theorem dX8_sue_249 : decode cX8_sue 249 = .ok (.iload 7, 2) := dk_21 7 (dk_at dksX8_sue_10 14 rfl rfl)
theorem dX8_sue_251 : decode cX8_sue 251 = .ok (.isub, 1) := dk_100 (dk_at dksX8_sue_10 16 rfl rfl)
theorem dX8_sue_252 : decode cX8_sue 252 = .ok (.putfield 176, 3) := dk_181 0 176 (dk_at dksX8_sue_10 17 rfl rfl)
theorem dX8_sue_255 : decode cX8_sue 255 = .ok (.aload_n 3, 1) := dk_45 (dk_at dksX8_sue_10 20 rfl rfl)
theorem dX8_sue_256 : decode cX8_sue 256 = .ok (.dup, 1) := dk_89 (dk_at dksX8_sue_10 21 rfl rfl)
theorem dX8_sue_257 : decode cX8_sue 257 = .ok (.getfield 315, 3) := dk_180 1 59 (dk_at dksX8_sue_11 0 rfl rfl)
theorem dX8_sue_260 : decode cX8_sue 260 = .ok (.iload 7, 2) := dk_21 7 (dk_at dksX8_sue_11 3 rfl rfl)
theorem dX8_sue_262 : decode cX8_sue 262 = .ok (.iadd, 1) := dk_96 (dk_at dksX8_sue_11 5 rfl rfl)
theorem dX8_sue_263 : decode cX8_sue 263 = .ok (.putfield 315, 3) := dk_181 1 59 (dk_at dksX8_sue_11 6 rfl rfl)
theorem dX8_sue_266 : decode cX8_sue 266 = .ok (.aload_n 3, 1) := dk_45 (dk_at dksX8_sue_11 9 rfl rfl)
theorem dX8_sue_267 : decode cX8_sue 267 = .ok (.bipush (-2), 2) := dk_16 254 (dk_at dksX8_sue_11 10 rfl rfl)
theorem dX8_sue_269 : decode cX8_sue 269 = .ok (.invokevirtual 303, 3) := dk_182 1 47 (dk_at dksX8_sue_11 12 rfl rfl)
theorem dX8_sue_272 : decode cX8_sue 272 = .ok (.aload_n 0, 1) := dk_42 (dk_at dksX8_sue_11 15 rfl rfl)
theorem dX8_sue_273 : decode cX8_sue 273 = .ok (.dup, 1) := dk_89 (dk_at dksX8_sue_11 16 rfl rfl)
theorem dX8_sue_274 : decode cX8_sue 274 = .ok (.getfield 316, 3) := dk_180 1 60 (dk_at dksX8_sue_11 17 rfl rfl)
theorem dX8_sue_277 : decode cX8_sue 277 = .ok (.iconst 1, 1) := dk_4 (dk_at dksX8_sue_11 20 rfl rfl)
theorem dX8_sue_278 : decode cX8_sue 278 = .ok (.iadd, 1) := dk_96 (dk_at dksX8_sue_11 21 rfl rfl)
theorem dX8_sue_279 : decode cX8_sue 279 = .ok (.putfield 316, 3) := dk_181 1 60 (dk_at dksX8_sue_12 0 rfl rfl)
theorem dX8_sue_282 : decode cX8_sue 282 = .ok (.iconst 1, 1) := dk_4 (dk_at dksX8_sue_12 3 rfl rfl)
theorem dX8_sue_283 : decode cX8_sue 283 = .ok (.ireturn, 1) := dk_172 (dk_at dksX8_sue_12 4 rfl rfl)
abbrev cX8_year : ByteArray := prog_19_method_11_code
def yX8_year : MethodName := ⟨RX8, "year", "()I"⟩
def dkwX8_year_0 : List UInt8 := [42, 180, 0, 64, 7, 108, 172]
abbrev dktX8_year_0 : List UInt8 := dkwX8_year_0 ++ []
theorem dksX8_year_0 : cX8_year.data.toList.drop 0 = dktX8_year_0 := by decide +kernel
theorem dX8_year_0 : decode cX8_year 0 = .ok (.aload_n 0, 1) := dk_42 (dk_at dksX8_year_0 0 rfl rfl)
theorem dX8_year_1 : decode cX8_year 1 = .ok (.getfield 64, 3) := dk_180 0 64 (dk_at dksX8_year_0 1 rfl rfl)
theorem dX8_year_4 : decode cX8_year 4 = .ok (.iconst 4, 1) := dk_7 (dk_at dksX8_year_0 4 rfl rfl)
theorem dX8_year_5 : decode cX8_year 5 = .ok (.idiv, 1) := dk_108 (dk_at dksX8_year_0 5 rfl rfl)
theorem dX8_year_6 : decode cX8_year 6 = .ok (.ireturn, 1) := dk_172 (dk_at dksX8_year_0 6 rfl rfl)
abbrev cX8_votesNow : ByteArray := prog_19_method_42_code
def yX8_votesNow : MethodName := ⟨RX8, "votesNow", "(III)I"⟩
def dkwX8_votesNow_1 : List UInt8 := [96, 172]
abbrev dktX8_votesNow_1 : List UInt8 := dkwX8_votesNow_1 ++ []
def dkwX8_votesNow_0 : List UInt8 := [27, 158, 0, 10, 16, 7, 29, 100, 167, 0, 4, 3, 5, 27, 104, 28, 164, 0, 7, 29, 167, 0, 4, 3]
abbrev dktX8_votesNow_0 : List UInt8 := dkwX8_votesNow_0 ++ dktX8_votesNow_1
theorem dksX8_votesNow_0 : cX8_votesNow.data.toList.drop 0 = dktX8_votesNow_0 := by decide +kernel
theorem dksX8_votesNow_1 : cX8_votesNow.data.toList.drop 24 = dktX8_votesNow_1 := dk_seg dksX8_votesNow_0 24 rfl rfl
theorem dX8_votesNow_0 : decode cX8_votesNow 0 = .ok (.iload_n 1, 1) := dk_27 (dk_at dksX8_votesNow_0 0 rfl rfl)
theorem dX8_votesNow_1 : decode cX8_votesNow 1 = .ok (.ifCond .le 10, 3) := dk_158 0 10 (dk_at dksX8_votesNow_0 1 rfl rfl)
theorem dX8_votesNow_4 : decode cX8_votesNow 4 = .ok (.bipush 7, 2) := dk_16 7 (dk_at dksX8_votesNow_0 4 rfl rfl)
theorem dX8_votesNow_6 : decode cX8_votesNow 6 = .ok (.iload_n 3, 1) := dk_29 (dk_at dksX8_votesNow_0 6 rfl rfl)
theorem dX8_votesNow_7 : decode cX8_votesNow 7 = .ok (.isub, 1) := dk_100 (dk_at dksX8_votesNow_0 7 rfl rfl)
theorem dX8_votesNow_8 : decode cX8_votesNow 8 = .ok (.goto 4, 3) := dk_167 0 4 (dk_at dksX8_votesNow_0 8 rfl rfl)
theorem dX8_votesNow_11 : decode cX8_votesNow 11 = .ok (.iconst 0, 1) := dk_3 (dk_at dksX8_votesNow_0 11 rfl rfl)
theorem dX8_votesNow_12 : decode cX8_votesNow 12 = .ok (.iconst 2, 1) := dk_5 (dk_at dksX8_votesNow_0 12 rfl rfl)
theorem dX8_votesNow_13 : decode cX8_votesNow 13 = .ok (.iload_n 1, 1) := dk_27 (dk_at dksX8_votesNow_0 13 rfl rfl)
theorem dX8_votesNow_14 : decode cX8_votesNow 14 = .ok (.imul, 1) := dk_104 (dk_at dksX8_votesNow_0 14 rfl rfl)
theorem dX8_votesNow_15 : decode cX8_votesNow 15 = .ok (.iload_n 2, 1) := dk_28 (dk_at dksX8_votesNow_0 15 rfl rfl)
theorem dX8_votesNow_16 : decode cX8_votesNow 16 = .ok (.if_icmp .le 7, 3) := dk_164 0 7 (dk_at dksX8_votesNow_0 16 rfl rfl)
theorem dX8_votesNow_19 : decode cX8_votesNow 19 = .ok (.iload_n 3, 1) := dk_29 (dk_at dksX8_votesNow_0 19 rfl rfl)
theorem dX8_votesNow_20 : decode cX8_votesNow 20 = .ok (.goto 4, 3) := dk_167 0 4 (dk_at dksX8_votesNow_0 20 rfl rfl)
theorem dX8_votesNow_23 : decode cX8_votesNow 23 = .ok (.iconst 0, 1) := dk_3 (dk_at dksX8_votesNow_0 23 rfl rfl)
theorem dX8_votesNow_24 : decode cX8_votesNow 24 = .ok (.iadd, 1) := dk_96 (dk_at dksX8_votesNow_1 0 rfl rfl)
theorem dX8_votesNow_25 : decode cX8_votesNow 25 = .ok (.ireturn, 1) := dk_172 (dk_at dksX8_votesNow_1 1 rfl rfl)
abbrev cX8_bench : ByteArray := prog_19_method_44_code
def yX8_bench : MethodName := ⟨RX8, "bench", "(I)I"⟩
def dkwX8_bench_1 : List UInt8 := [172, 42, 180, 0, 46, 61, 42, 27, 181, 0, 46, 28, 172]
abbrev dktX8_bench_1 : List UInt8 := dkwX8_bench_1 ++ []
def dkwX8_bench_0 : List UInt8 := [42, 27, 3, 16, 7, 184, 0, 60, 154, 0, 7, 4, 167, 0, 4, 3, 4, 182, 0, 124, 153, 0, 5, 3]
abbrev dktX8_bench_0 : List UInt8 := dkwX8_bench_0 ++ dktX8_bench_1
theorem dksX8_bench_0 : cX8_bench.data.toList.drop 0 = dktX8_bench_0 := by decide +kernel
theorem dksX8_bench_1 : cX8_bench.data.toList.drop 24 = dktX8_bench_1 := dk_seg dksX8_bench_0 24 rfl rfl
theorem dX8_bench_0 : decode cX8_bench 0 = .ok (.aload_n 0, 1) := dk_42 (dk_at dksX8_bench_0 0 rfl rfl)
theorem dX8_bench_1 : decode cX8_bench 1 = .ok (.iload_n 1, 1) := dk_27 (dk_at dksX8_bench_0 1 rfl rfl)
theorem dX8_bench_2 : decode cX8_bench 2 = .ok (.iconst 0, 1) := dk_3 (dk_at dksX8_bench_0 2 rfl rfl)
theorem dX8_bench_3 : decode cX8_bench 3 = .ok (.bipush 7, 2) := dk_16 7 (dk_at dksX8_bench_0 3 rfl rfl)
theorem dX8_bench_5 : decode cX8_bench 5 = .ok (.invokestatic 60, 3) := dk_184 0 60 (dk_at dksX8_bench_0 5 rfl rfl)
theorem dX8_bench_8 : decode cX8_bench 8 = .ok (.ifCond .ne 7, 3) := dk_154 0 7 (dk_at dksX8_bench_0 8 rfl rfl)
theorem dX8_bench_11 : decode cX8_bench 11 = .ok (.iconst 1, 1) := dk_4 (dk_at dksX8_bench_0 11 rfl rfl)
theorem dX8_bench_12 : decode cX8_bench 12 = .ok (.goto 4, 3) := dk_167 0 4 (dk_at dksX8_bench_0 12 rfl rfl)
theorem dX8_bench_15 : decode cX8_bench 15 = .ok (.iconst 0, 1) := dk_3 (dk_at dksX8_bench_0 15 rfl rfl)
theorem dX8_bench_16 : decode cX8_bench 16 = .ok (.iconst 1, 1) := dk_4 (dk_at dksX8_bench_0 16 rfl rfl)
theorem dX8_bench_17 : decode cX8_bench 17 = .ok (.invokevirtual 124, 3) := dk_182 0 124 (dk_at dksX8_bench_0 17 rfl rfl)
theorem dX8_bench_20 : decode cX8_bench 20 = .ok (.ifCond .eq 5, 3) := dk_153 0 5 (dk_at dksX8_bench_0 20 rfl rfl)
theorem dX8_bench_23 : decode cX8_bench 23 = .ok (.iconst 0, 1) := dk_3 (dk_at dksX8_bench_0 23 rfl rfl)
theorem dX8_bench_24 : decode cX8_bench 24 = .ok (.ireturn, 1) := dk_172 (dk_at dksX8_bench_1 0 rfl rfl)
theorem dX8_bench_25 : decode cX8_bench 25 = .ok (.aload_n 0, 1) := dk_42 (dk_at dksX8_bench_1 1 rfl rfl)
theorem dX8_bench_26 : decode cX8_bench 26 = .ok (.getfield 46, 3) := dk_180 0 46 (dk_at dksX8_bench_1 2 rfl rfl)
theorem dX8_bench_29 : decode cX8_bench 29 = .ok (.istore_n 2, 1) := dk_61 (dk_at dksX8_bench_1 5 rfl rfl)
theorem dX8_bench_30 : decode cX8_bench 30 = .ok (.aload_n 0, 1) := dk_42 (dk_at dksX8_bench_1 6 rfl rfl)
theorem dX8_bench_31 : decode cX8_bench 31 = .ok (.iload_n 1, 1) := dk_27 (dk_at dksX8_bench_1 7 rfl rfl)
theorem dX8_bench_32 : decode cX8_bench 32 = .ok (.putfield 46, 3) := dk_181 0 46 (dk_at dksX8_bench_1 8 rfl rfl)
theorem dX8_bench_35 : decode cX8_bench 35 = .ok (.iload_n 2, 1) := dk_28 (dk_at dksX8_bench_1 11 rfl rfl)
theorem dX8_bench_36 : decode cX8_bench 36 = .ok (.ireturn, 1) := dk_172 (dk_at dksX8_bench_1 12 rfl rfl)
abbrev cX8_gift : ByteArray := prog_19_method_45_code
def yX8_gift : MethodName := ⟨RX8, "gift", "(II)I"⟩
def dkwX8_gift_4 : List UInt8 := [180, 1, 63, 28, 96, 181, 1, 63, 45, 89, 180, 1, 50, 28, 96, 181, 1, 50, 45, 180, 1, 50, 172]
abbrev dktX8_gift_4 : List UInt8 := dkwX8_gift_4 ++ []
def dkwX8_gift_3 : List UInt8 := [42, 180, 0, 20, 27, 182, 0, 78, 192, 0, 152, 78, 45, 89, 180, 0, 176, 28, 100, 181, 0, 176, 42, 89]
abbrev dktX8_gift_3 : List UInt8 := dkwX8_gift_3 ++ dktX8_gift_4
def dkwX8_gift_2 : List UInt8 := [192, 0, 152, 180, 0, 176, 28, 162, 0, 7, 4, 167, 0, 4, 3, 6, 182, 0, 52, 153, 0, 5, 3, 172]
abbrev dktX8_gift_2 : List UInt8 := dkwX8_gift_2 ++ dktX8_gift_3
def dkwX8_gift_1 : List UInt8 := [154, 0, 7, 4, 167, 0, 4, 3, 5, 182, 0, 52, 154, 0, 34, 42, 42, 180, 0, 20, 27, 182, 0, 78]
abbrev dktX8_gift_1 : List UInt8 := dkwX8_gift_1 ++ dktX8_gift_2
def dkwX8_gift_0 : List UInt8 := [42, 42, 27, 182, 0, 161, 4, 182, 0, 124, 154, 0, 58, 42, 28, 4, 17, 1, 244, 184, 0, 60]
abbrev dktX8_gift_0 : List UInt8 := dkwX8_gift_0 ++ dktX8_gift_1
theorem dksX8_gift_0 : cX8_gift.data.toList.drop 0 = dktX8_gift_0 := by decide +kernel
theorem dksX8_gift_1 : cX8_gift.data.toList.drop 22 = dktX8_gift_1 := dk_seg dksX8_gift_0 22 rfl rfl
theorem dksX8_gift_2 : cX8_gift.data.toList.drop 46 = dktX8_gift_2 := dk_seg dksX8_gift_1 24 rfl rfl
theorem dksX8_gift_3 : cX8_gift.data.toList.drop 70 = dktX8_gift_3 := dk_seg dksX8_gift_2 24 rfl rfl
theorem dksX8_gift_4 : cX8_gift.data.toList.drop 94 = dktX8_gift_4 := dk_seg dksX8_gift_3 24 rfl rfl
theorem dX8_gift_0 : decode cX8_gift 0 = .ok (.aload_n 0, 1) := dk_42 (dk_at dksX8_gift_0 0 rfl rfl)
theorem dX8_gift_1 : decode cX8_gift 1 = .ok (.aload_n 0, 1) := dk_42 (dk_at dksX8_gift_0 1 rfl rfl)
theorem dX8_gift_2 : decode cX8_gift 2 = .ok (.iload_n 1, 1) := dk_27 (dk_at dksX8_gift_0 2 rfl rfl)
theorem dX8_gift_3 : decode cX8_gift 3 = .ok (.invokevirtual 161, 3) := dk_182 0 161 (dk_at dksX8_gift_0 3 rfl rfl)
theorem dX8_gift_6 : decode cX8_gift 6 = .ok (.iconst 1, 1) := dk_4 (dk_at dksX8_gift_0 6 rfl rfl)
theorem dX8_gift_7 : decode cX8_gift 7 = .ok (.invokevirtual 124, 3) := dk_182 0 124 (dk_at dksX8_gift_0 7 rfl rfl)
theorem dX8_gift_10 : decode cX8_gift 10 = .ok (.ifCond .ne 58, 3) := dk_154 0 58 (dk_at dksX8_gift_0 10 rfl rfl)
theorem dX8_gift_13 : decode cX8_gift 13 = .ok (.aload_n 0, 1) := dk_42 (dk_at dksX8_gift_0 13 rfl rfl)
theorem dX8_gift_14 : decode cX8_gift 14 = .ok (.iload_n 2, 1) := dk_28 (dk_at dksX8_gift_0 14 rfl rfl)
theorem dX8_gift_15 : decode cX8_gift 15 = .ok (.iconst 1, 1) := dk_4 (dk_at dksX8_gift_0 15 rfl rfl)
theorem dX8_gift_16 : decode cX8_gift 16 = .ok (.sipush 500, 3) := dk_17 1 244 (dk_at dksX8_gift_0 16 rfl rfl)
theorem dX8_gift_19 : decode cX8_gift 19 = .ok (.invokestatic 60, 3) := dk_184 0 60 (dk_at dksX8_gift_0 19 rfl rfl)
theorem dX8_gift_22 : decode cX8_gift 22 = .ok (.ifCond .ne 7, 3) := dk_154 0 7 (dk_at dksX8_gift_1 0 rfl rfl)
theorem dX8_gift_25 : decode cX8_gift 25 = .ok (.iconst 1, 1) := dk_4 (dk_at dksX8_gift_1 3 rfl rfl)
theorem dX8_gift_26 : decode cX8_gift 26 = .ok (.goto 4, 3) := dk_167 0 4 (dk_at dksX8_gift_1 4 rfl rfl)
theorem dX8_gift_29 : decode cX8_gift 29 = .ok (.iconst 0, 1) := dk_3 (dk_at dksX8_gift_1 7 rfl rfl)
theorem dX8_gift_30 : decode cX8_gift 30 = .ok (.iconst 2, 1) := dk_5 (dk_at dksX8_gift_1 8 rfl rfl)
theorem dX8_gift_31 : decode cX8_gift 31 = .ok (.invokevirtual 52, 3) := dk_182 0 52 (dk_at dksX8_gift_1 9 rfl rfl)
theorem dX8_gift_34 : decode cX8_gift 34 = .ok (.ifCond .ne 34, 3) := dk_154 0 34 (dk_at dksX8_gift_1 12 rfl rfl)
theorem dX8_gift_37 : decode cX8_gift 37 = .ok (.aload_n 0, 1) := dk_42 (dk_at dksX8_gift_1 15 rfl rfl)
theorem dX8_gift_38 : decode cX8_gift 38 = .ok (.aload_n 0, 1) := dk_42 (dk_at dksX8_gift_1 16 rfl rfl)
theorem dX8_gift_39 : decode cX8_gift 39 = .ok (.getfield 20, 3) := dk_180 0 20 (dk_at dksX8_gift_1 17 rfl rfl)
theorem dX8_gift_42 : decode cX8_gift 42 = .ok (.iload_n 1, 1) := dk_27 (dk_at dksX8_gift_1 20 rfl rfl)
theorem dX8_gift_43 : decode cX8_gift 43 = .ok (.invokevirtual 78, 3) := dk_182 0 78 (dk_at dksX8_gift_1 21 rfl rfl)
theorem dX8_gift_46 : decode cX8_gift 46 = .ok (.checkcast 152, 3) := dk_192 0 152 (dk_at dksX8_gift_2 0 rfl rfl)
theorem dX8_gift_49 : decode cX8_gift 49 = .ok (.getfield 176, 3) := dk_180 0 176 (dk_at dksX8_gift_2 3 rfl rfl)
theorem dX8_gift_52 : decode cX8_gift 52 = .ok (.iload_n 2, 1) := dk_28 (dk_at dksX8_gift_2 6 rfl rfl)
theorem dX8_gift_53 : decode cX8_gift 53 = .ok (.if_icmp .ge 7, 3) := dk_162 0 7 (dk_at dksX8_gift_2 7 rfl rfl)
theorem dX8_gift_56 : decode cX8_gift 56 = .ok (.iconst 1, 1) := dk_4 (dk_at dksX8_gift_2 10 rfl rfl)
theorem dX8_gift_57 : decode cX8_gift 57 = .ok (.goto 4, 3) := dk_167 0 4 (dk_at dksX8_gift_2 11 rfl rfl)
theorem dX8_gift_60 : decode cX8_gift 60 = .ok (.iconst 0, 1) := dk_3 (dk_at dksX8_gift_2 14 rfl rfl)
theorem dX8_gift_61 : decode cX8_gift 61 = .ok (.iconst 3, 1) := dk_6 (dk_at dksX8_gift_2 15 rfl rfl)
theorem dX8_gift_62 : decode cX8_gift 62 = .ok (.invokevirtual 52, 3) := dk_182 0 52 (dk_at dksX8_gift_2 16 rfl rfl)
theorem dX8_gift_65 : decode cX8_gift 65 = .ok (.ifCond .eq 5, 3) := dk_153 0 5 (dk_at dksX8_gift_2 19 rfl rfl)
theorem dX8_gift_68 : decode cX8_gift 68 = .ok (.iconst 0, 1) := dk_3 (dk_at dksX8_gift_2 22 rfl rfl)
theorem dX8_gift_69 : decode cX8_gift 69 = .ok (.ireturn, 1) := dk_172 (dk_at dksX8_gift_2 23 rfl rfl)
theorem dX8_gift_70 : decode cX8_gift 70 = .ok (.aload_n 0, 1) := dk_42 (dk_at dksX8_gift_3 0 rfl rfl)
theorem dX8_gift_71 : decode cX8_gift 71 = .ok (.getfield 20, 3) := dk_180 0 20 (dk_at dksX8_gift_3 1 rfl rfl)
theorem dX8_gift_74 : decode cX8_gift 74 = .ok (.iload_n 1, 1) := dk_27 (dk_at dksX8_gift_3 4 rfl rfl)
theorem dX8_gift_75 : decode cX8_gift 75 = .ok (.invokevirtual 78, 3) := dk_182 0 78 (dk_at dksX8_gift_3 5 rfl rfl)
theorem dX8_gift_78 : decode cX8_gift 78 = .ok (.checkcast 152, 3) := dk_192 0 152 (dk_at dksX8_gift_3 8 rfl rfl)
theorem dX8_gift_81 : decode cX8_gift 81 = .ok (.astore_n 3, 1) := dk_78 (dk_at dksX8_gift_3 11 rfl rfl)
theorem dX8_gift_82 : decode cX8_gift 82 = .ok (.aload_n 3, 1) := dk_45 (dk_at dksX8_gift_3 12 rfl rfl)
theorem dX8_gift_83 : decode cX8_gift 83 = .ok (.dup, 1) := dk_89 (dk_at dksX8_gift_3 13 rfl rfl)
theorem dX8_gift_84 : decode cX8_gift 84 = .ok (.getfield 176, 3) := dk_180 0 176 (dk_at dksX8_gift_3 14 rfl rfl)
theorem dX8_gift_87 : decode cX8_gift 87 = .ok (.iload_n 2, 1) := dk_28 (dk_at dksX8_gift_3 17 rfl rfl)
theorem dX8_gift_88 : decode cX8_gift 88 = .ok (.isub, 1) := dk_100 (dk_at dksX8_gift_3 18 rfl rfl)
theorem dX8_gift_89 : decode cX8_gift 89 = .ok (.putfield 176, 3) := dk_181 0 176 (dk_at dksX8_gift_3 19 rfl rfl)
theorem dX8_gift_92 : decode cX8_gift 92 = .ok (.aload_n 0, 1) := dk_42 (dk_at dksX8_gift_3 22 rfl rfl)
theorem dX8_gift_93 : decode cX8_gift 93 = .ok (.dup, 1) := dk_89 (dk_at dksX8_gift_3 23 rfl rfl)
theorem dX8_gift_94 : decode cX8_gift 94 = .ok (.getfield 319, 3) := dk_180 1 63 (dk_at dksX8_gift_4 0 rfl rfl)
theorem dX8_gift_97 : decode cX8_gift 97 = .ok (.iload_n 2, 1) := dk_28 (dk_at dksX8_gift_4 3 rfl rfl)
theorem dX8_gift_98 : decode cX8_gift 98 = .ok (.iadd, 1) := dk_96 (dk_at dksX8_gift_4 4 rfl rfl)
theorem dX8_gift_99 : decode cX8_gift 99 = .ok (.putfield 319, 3) := dk_181 1 63 (dk_at dksX8_gift_4 5 rfl rfl)
theorem dX8_gift_102 : decode cX8_gift 102 = .ok (.aload_n 3, 1) := dk_45 (dk_at dksX8_gift_4 8 rfl rfl)
theorem dX8_gift_103 : decode cX8_gift 103 = .ok (.dup, 1) := dk_89 (dk_at dksX8_gift_4 9 rfl rfl)
theorem dX8_gift_104 : decode cX8_gift 104 = .ok (.getfield 306, 3) := dk_180 1 50 (dk_at dksX8_gift_4 10 rfl rfl)
theorem dX8_gift_107 : decode cX8_gift 107 = .ok (.iload_n 2, 1) := dk_28 (dk_at dksX8_gift_4 13 rfl rfl)
theorem dX8_gift_108 : decode cX8_gift 108 = .ok (.iadd, 1) := dk_96 (dk_at dksX8_gift_4 14 rfl rfl)
theorem dX8_gift_109 : decode cX8_gift 109 = .ok (.putfield 306, 3) := dk_181 1 50 (dk_at dksX8_gift_4 15 rfl rfl)
theorem dX8_gift_112 : decode cX8_gift 112 = .ok (.aload_n 3, 1) := dk_45 (dk_at dksX8_gift_4 18 rfl rfl)
theorem dX8_gift_113 : decode cX8_gift 113 = .ok (.getfield 306, 3) := dk_180 1 50 (dk_at dksX8_gift_4 19 rfl rfl)
theorem dX8_gift_116 : decode cX8_gift 116 = .ok (.ireturn, 1) := dk_172 (dk_at dksX8_gift_4 22 rfl rfl)
abbrev cX8_quarter : ByteArray := prog_19_method_46_code
def yX8_quarter : MethodName := ⟨RX8, "quarter", "(I)I"⟩
def dkwX8_quarter_3 : List UInt8 := [182, 1, 47, 29, 172]
abbrev dktX8_quarter_3 : List UInt8 := dkwX8_quarter_3 ++ []
def dkwX8_quarter_2 : List UInt8 := [181, 1, 59, 42, 89, 180, 1, 63, 29, 96, 181, 1, 63, 29, 44, 180, 0, 75, 162, 0, 8, 44, 6]
abbrev dktX8_quarter_2 : List UInt8 := dkwX8_quarter_2 ++ dktX8_quarter_3
def dkwX8_quarter_1 : List UInt8 := [192, 0, 68, 77, 44, 180, 1, 59, 44, 180, 0, 75, 184, 0, 93, 62, 44, 89, 180, 1, 59, 29, 100]
abbrev dktX8_quarter_1 : List UInt8 := dkwX8_quarter_1 ++ dktX8_quarter_2
def dkwX8_quarter_0 : List UInt8 := [42, 42, 27, 182, 0, 142, 4, 182, 0, 124, 153, 0, 5, 3, 172, 42, 180, 0, 16, 27, 182, 0, 78]
abbrev dktX8_quarter_0 : List UInt8 := dkwX8_quarter_0 ++ dktX8_quarter_1
theorem dksX8_quarter_0 : cX8_quarter.data.toList.drop 0 = dktX8_quarter_0 := by decide +kernel
theorem dksX8_quarter_1 : cX8_quarter.data.toList.drop 23 = dktX8_quarter_1 := dk_seg dksX8_quarter_0 23 rfl rfl
theorem dksX8_quarter_2 : cX8_quarter.data.toList.drop 46 = dktX8_quarter_2 := dk_seg dksX8_quarter_1 23 rfl rfl
theorem dksX8_quarter_3 : cX8_quarter.data.toList.drop 69 = dktX8_quarter_3 := dk_seg dksX8_quarter_2 23 rfl rfl
theorem dX8_quarter_0 : decode cX8_quarter 0 = .ok (.aload_n 0, 1) := dk_42 (dk_at dksX8_quarter_0 0 rfl rfl)
theorem dX8_quarter_1 : decode cX8_quarter 1 = .ok (.aload_n 0, 1) := dk_42 (dk_at dksX8_quarter_0 1 rfl rfl)
theorem dX8_quarter_2 : decode cX8_quarter 2 = .ok (.iload_n 1, 1) := dk_27 (dk_at dksX8_quarter_0 2 rfl rfl)
theorem dX8_quarter_3 : decode cX8_quarter 3 = .ok (.invokevirtual 142, 3) := dk_182 0 142 (dk_at dksX8_quarter_0 3 rfl rfl)
theorem dX8_quarter_6 : decode cX8_quarter 6 = .ok (.iconst 1, 1) := dk_4 (dk_at dksX8_quarter_0 6 rfl rfl)
theorem dX8_quarter_7 : decode cX8_quarter 7 = .ok (.invokevirtual 124, 3) := dk_182 0 124 (dk_at dksX8_quarter_0 7 rfl rfl)
theorem dX8_quarter_10 : decode cX8_quarter 10 = .ok (.ifCond .eq 5, 3) := dk_153 0 5 (dk_at dksX8_quarter_0 10 rfl rfl)
theorem dX8_quarter_13 : decode cX8_quarter 13 = .ok (.iconst 0, 1) := dk_3 (dk_at dksX8_quarter_0 13 rfl rfl)
theorem dX8_quarter_14 : decode cX8_quarter 14 = .ok (.ireturn, 1) := dk_172 (dk_at dksX8_quarter_0 14 rfl rfl)
theorem dX8_quarter_15 : decode cX8_quarter 15 = .ok (.aload_n 0, 1) := dk_42 (dk_at dksX8_quarter_0 15 rfl rfl)
theorem dX8_quarter_16 : decode cX8_quarter 16 = .ok (.getfield 16, 3) := dk_180 0 16 (dk_at dksX8_quarter_0 16 rfl rfl)
theorem dX8_quarter_19 : decode cX8_quarter 19 = .ok (.iload_n 1, 1) := dk_27 (dk_at dksX8_quarter_0 19 rfl rfl)
theorem dX8_quarter_20 : decode cX8_quarter 20 = .ok (.invokevirtual 78, 3) := dk_182 0 78 (dk_at dksX8_quarter_0 20 rfl rfl)
theorem dX8_quarter_23 : decode cX8_quarter 23 = .ok (.checkcast 68, 3) := dk_192 0 68 (dk_at dksX8_quarter_1 0 rfl rfl)
theorem dX8_quarter_26 : decode cX8_quarter 26 = .ok (.astore_n 2, 1) := dk_77 (dk_at dksX8_quarter_1 3 rfl rfl)
theorem dX8_quarter_27 : decode cX8_quarter 27 = .ok (.aload_n 2, 1) := dk_44 (dk_at dksX8_quarter_1 4 rfl rfl)
theorem dX8_quarter_28 : decode cX8_quarter 28 = .ok (.getfield 315, 3) := dk_180 1 59 (dk_at dksX8_quarter_1 5 rfl rfl)
theorem dX8_quarter_31 : decode cX8_quarter 31 = .ok (.aload_n 2, 1) := dk_44 (dk_at dksX8_quarter_1 8 rfl rfl)
theorem dX8_quarter_32 : decode cX8_quarter 32 = .ok (.getfield 75, 3) := dk_180 0 75 (dk_at dksX8_quarter_1 9 rfl rfl)
theorem dX8_quarter_35 : decode cX8_quarter 35 = .ok (.invokestatic 93, 3) := dk_184 0 93 (dk_at dksX8_quarter_1 12 rfl rfl)
theorem dX8_quarter_38 : decode cX8_quarter 38 = .ok (.istore_n 3, 1) := dk_62 (dk_at dksX8_quarter_1 15 rfl rfl)
theorem dX8_quarter_39 : decode cX8_quarter 39 = .ok (.aload_n 2, 1) := dk_44 (dk_at dksX8_quarter_1 16 rfl rfl)
theorem dX8_quarter_40 : decode cX8_quarter 40 = .ok (.dup, 1) := dk_89 (dk_at dksX8_quarter_1 17 rfl rfl)
theorem dX8_quarter_41 : decode cX8_quarter 41 = .ok (.getfield 315, 3) := dk_180 1 59 (dk_at dksX8_quarter_1 18 rfl rfl)
theorem dX8_quarter_44 : decode cX8_quarter 44 = .ok (.iload_n 3, 1) := dk_29 (dk_at dksX8_quarter_1 21 rfl rfl)
theorem dX8_quarter_45 : decode cX8_quarter 45 = .ok (.isub, 1) := dk_100 (dk_at dksX8_quarter_1 22 rfl rfl)
theorem dX8_quarter_46 : decode cX8_quarter 46 = .ok (.putfield 315, 3) := dk_181 1 59 (dk_at dksX8_quarter_2 0 rfl rfl)
theorem dX8_quarter_49 : decode cX8_quarter 49 = .ok (.aload_n 0, 1) := dk_42 (dk_at dksX8_quarter_2 3 rfl rfl)
theorem dX8_quarter_50 : decode cX8_quarter 50 = .ok (.dup, 1) := dk_89 (dk_at dksX8_quarter_2 4 rfl rfl)
theorem dX8_quarter_51 : decode cX8_quarter 51 = .ok (.getfield 319, 3) := dk_180 1 63 (dk_at dksX8_quarter_2 5 rfl rfl)
theorem dX8_quarter_54 : decode cX8_quarter 54 = .ok (.iload_n 3, 1) := dk_29 (dk_at dksX8_quarter_2 8 rfl rfl)
theorem dX8_quarter_55 : decode cX8_quarter 55 = .ok (.iadd, 1) := dk_96 (dk_at dksX8_quarter_2 9 rfl rfl)
theorem dX8_quarter_56 : decode cX8_quarter 56 = .ok (.putfield 319, 3) := dk_181 1 63 (dk_at dksX8_quarter_2 10 rfl rfl)
theorem dX8_quarter_59 : decode cX8_quarter 59 = .ok (.iload_n 3, 1) := dk_29 (dk_at dksX8_quarter_2 13 rfl rfl)
theorem dX8_quarter_60 : decode cX8_quarter 60 = .ok (.aload_n 2, 1) := dk_44 (dk_at dksX8_quarter_2 14 rfl rfl)
theorem dX8_quarter_61 : decode cX8_quarter 61 = .ok (.getfield 75, 3) := dk_180 0 75 (dk_at dksX8_quarter_2 15 rfl rfl)
theorem dX8_quarter_64 : decode cX8_quarter 64 = .ok (.if_icmp .ge 8, 3) := dk_162 0 8 (dk_at dksX8_quarter_2 18 rfl rfl)
theorem dX8_quarter_67 : decode cX8_quarter 67 = .ok (.aload_n 2, 1) := dk_44 (dk_at dksX8_quarter_2 21 rfl rfl)
theorem dX8_quarter_68 : decode cX8_quarter 68 = .ok (.iconst 3, 1) := dk_6 (dk_at dksX8_quarter_2 22 rfl rfl)
theorem dX8_quarter_69 : decode cX8_quarter 69 = .ok (.invokevirtual 303, 3) := dk_182 1 47 (dk_at dksX8_quarter_3 0 rfl rfl)
theorem dX8_quarter_72 : decode cX8_quarter 72 = .ok (.iload_n 3, 1) := dk_29 (dk_at dksX8_quarter_3 3 rfl rfl)
theorem dX8_quarter_73 : decode cX8_quarter 73 = .ok (.ireturn, 1) := dk_172 (dk_at dksX8_quarter_3 4 rfl rfl)
abbrev cX8_remit : ByteArray := prog_19_method_47_code
def yX8_remit : MethodName := ⟨RX8, "remit", "(I)I"⟩
def dkwX8_remit_11 : List UInt8 := [21, 5, 172]
abbrev dktX8_remit_11 : List UInt8 := dkwX8_remit_11 ++ []
def dkwX8_remit_10 : List UInt8 := [181, 1, 53, 21, 5, 21, 5, 5, 108, 96, 54, 5, 44, 89, 180, 1, 15, 21, 5, 96, 181, 1, 15]
abbrev dktX8_remit_10 : List UInt8 := dkwX8_remit_10 ++ dktX8_remit_11
def dkwX8_remit_9 : List UInt8 := [161, 0, 34, 25, 6, 89, 180, 1, 50, 16, 20, 100, 181, 1, 50, 42, 89, 180, 1, 53, 4, 96]
abbrev dktX8_remit_9 : List UInt8 := dkwX8_remit_9 ++ dktX8_remit_10
def dkwX8_remit_8 : List UInt8 := [180, 0, 20, 44, 180, 0, 228, 182, 0, 78, 192, 0, 152, 58, 6, 25, 6, 180, 1, 50, 16, 20]
abbrev dktX8_remit_8 : List UInt8 := dkwX8_remit_8 ++ dktX8_remit_9
def dkwX8_remit_7 : List UInt8 := [62, 132, 5, 1, 167, 255, 176, 44, 180, 0, 231, 44, 180, 0, 222, 108, 29, 104, 21, 4, 108, 54, 5, 42]
abbrev dktX8_remit_7 : List UInt8 := dkwX8_remit_7 ++ dktX8_remit_8
def dkwX8_remit_6 : List UInt8 := [180, 0, 131, 25, 6, 180, 0, 105, 104, 16, 7, 104, 16, 120, 108, 162, 0, 7, 4, 167, 0, 4, 3, 96]
abbrev dktX8_remit_6 : List UInt8 := dkwX8_remit_6 ++ dktX8_remit_7
def dkwX8_remit_5 : List UInt8 := [180, 0, 16, 21, 5, 182, 0, 78, 192, 0, 68, 58, 6, 132, 4, 1, 29, 25, 6, 180, 0, 67, 25, 6]
abbrev dktX8_remit_5 : List UInt8 := dkwX8_remit_5 ++ dktX8_remit_6
def dkwX8_remit_4 : List UInt8 := [182, 0, 56, 162, 0, 74, 44, 180, 0, 216, 21, 5, 184, 0, 82, 154, 0, 6, 167, 0, 53, 42]
abbrev dktX8_remit_4 : List UInt8 := dkwX8_remit_4 ++ dktX8_remit_5
def dkwX8_remit_3 : List UInt8 := [44, 42, 182, 1, 37, 181, 1, 66, 3, 62, 3, 54, 4, 3, 54, 5, 21, 5, 42, 180, 0, 16]
abbrev dktX8_remit_3 : List UInt8 := dkwX8_remit_3 ++ dktX8_remit_4
def dkwX8_remit_2 : List UInt8 := [180, 1, 66, 42, 182, 1, 37, 160, 0, 7, 4, 167, 0, 4, 3, 5, 182, 0, 52, 153, 0, 5, 3, 172]
abbrev dktX8_remit_2 : List UInt8 := dkwX8_remit_2 ++ dktX8_remit_3
def dkwX8_remit_1 : List UInt8 := [192, 0, 208, 77, 42, 44, 180, 0, 210, 4, 160, 0, 24, 42, 180, 0, 64, 7, 112, 6, 160, 0, 14, 44]
abbrev dktX8_remit_1 : List UInt8 := dkwX8_remit_1 ++ dktX8_remit_2
def dkwX8_remit_0 : List UInt8 := [42, 42, 27, 182, 0, 241, 4, 182, 0, 124, 153, 0, 5, 3, 172, 42, 180, 0, 23, 27, 182, 0, 78]
abbrev dktX8_remit_0 : List UInt8 := dkwX8_remit_0 ++ dktX8_remit_1
theorem dksX8_remit_0 : cX8_remit.data.toList.drop 0 = dktX8_remit_0 := by decide +kernel
theorem dksX8_remit_1 : cX8_remit.data.toList.drop 23 = dktX8_remit_1 := dk_seg dksX8_remit_0 23 rfl rfl
theorem dksX8_remit_2 : cX8_remit.data.toList.drop 47 = dktX8_remit_2 := dk_seg dksX8_remit_1 24 rfl rfl
theorem dksX8_remit_3 : cX8_remit.data.toList.drop 71 = dktX8_remit_3 := dk_seg dksX8_remit_2 24 rfl rfl
theorem dksX8_remit_4 : cX8_remit.data.toList.drop 93 = dktX8_remit_4 := dk_seg dksX8_remit_3 22 rfl rfl
theorem dksX8_remit_5 : cX8_remit.data.toList.drop 115 = dktX8_remit_5 := dk_seg dksX8_remit_4 22 rfl rfl
theorem dksX8_remit_6 : cX8_remit.data.toList.drop 139 = dktX8_remit_6 := dk_seg dksX8_remit_5 24 rfl rfl
theorem dksX8_remit_7 : cX8_remit.data.toList.drop 163 = dktX8_remit_7 := dk_seg dksX8_remit_6 24 rfl rfl
theorem dksX8_remit_8 : cX8_remit.data.toList.drop 187 = dktX8_remit_8 := dk_seg dksX8_remit_7 24 rfl rfl
theorem dksX8_remit_9 : cX8_remit.data.toList.drop 209 = dktX8_remit_9 := dk_seg dksX8_remit_8 22 rfl rfl
theorem dksX8_remit_10 : cX8_remit.data.toList.drop 231 = dktX8_remit_10 := dk_seg dksX8_remit_9 22 rfl rfl
theorem dksX8_remit_11 : cX8_remit.data.toList.drop 254 = dktX8_remit_11 := dk_seg dksX8_remit_10 23 rfl rfl
theorem dX8_remit_0 : decode cX8_remit 0 = .ok (.aload_n 0, 1) := dk_42 (dk_at dksX8_remit_0 0 rfl rfl)
theorem dX8_remit_1 : decode cX8_remit 1 = .ok (.aload_n 0, 1) := dk_42 (dk_at dksX8_remit_0 1 rfl rfl)
theorem dX8_remit_2 : decode cX8_remit 2 = .ok (.iload_n 1, 1) := dk_27 (dk_at dksX8_remit_0 2 rfl rfl)
theorem dX8_remit_3 : decode cX8_remit 3 = .ok (.invokevirtual 241, 3) := dk_182 0 241 (dk_at dksX8_remit_0 3 rfl rfl)
theorem dX8_remit_6 : decode cX8_remit 6 = .ok (.iconst 1, 1) := dk_4 (dk_at dksX8_remit_0 6 rfl rfl)
theorem dX8_remit_7 : decode cX8_remit 7 = .ok (.invokevirtual 124, 3) := dk_182 0 124 (dk_at dksX8_remit_0 7 rfl rfl)
theorem dX8_remit_10 : decode cX8_remit 10 = .ok (.ifCond .eq 5, 3) := dk_153 0 5 (dk_at dksX8_remit_0 10 rfl rfl)
theorem dX8_remit_13 : decode cX8_remit 13 = .ok (.iconst 0, 1) := dk_3 (dk_at dksX8_remit_0 13 rfl rfl)
theorem dX8_remit_14 : decode cX8_remit 14 = .ok (.ireturn, 1) := dk_172 (dk_at dksX8_remit_0 14 rfl rfl)
theorem dX8_remit_15 : decode cX8_remit 15 = .ok (.aload_n 0, 1) := dk_42 (dk_at dksX8_remit_0 15 rfl rfl)
theorem dX8_remit_16 : decode cX8_remit 16 = .ok (.getfield 23, 3) := dk_180 0 23 (dk_at dksX8_remit_0 16 rfl rfl)
theorem dX8_remit_19 : decode cX8_remit 19 = .ok (.iload_n 1, 1) := dk_27 (dk_at dksX8_remit_0 19 rfl rfl)
theorem dX8_remit_20 : decode cX8_remit 20 = .ok (.invokevirtual 78, 3) := dk_182 0 78 (dk_at dksX8_remit_0 20 rfl rfl)
theorem dX8_remit_23 : decode cX8_remit 23 = .ok (.checkcast 208, 3) := dk_192 0 208 (dk_at dksX8_remit_1 0 rfl rfl)
theorem dX8_remit_26 : decode cX8_remit 26 = .ok (.astore_n 2, 1) := dk_77 (dk_at dksX8_remit_1 3 rfl rfl)
theorem dX8_remit_27 : decode cX8_remit 27 = .ok (.aload_n 0, 1) := dk_42 (dk_at dksX8_remit_1 4 rfl rfl)
theorem dX8_remit_28 : decode cX8_remit 28 = .ok (.aload_n 2, 1) := dk_44 (dk_at dksX8_remit_1 5 rfl rfl)
theorem dX8_remit_29 : decode cX8_remit 29 = .ok (.getfield 210, 3) := dk_180 0 210 (dk_at dksX8_remit_1 6 rfl rfl)
theorem dX8_remit_32 : decode cX8_remit 32 = .ok (.iconst 1, 1) := dk_4 (dk_at dksX8_remit_1 9 rfl rfl)
theorem dX8_remit_33 : decode cX8_remit 33 = .ok (.if_icmp .ne 24, 3) := dk_160 0 24 (dk_at dksX8_remit_1 10 rfl rfl)
theorem dX8_remit_36 : decode cX8_remit 36 = .ok (.aload_n 0, 1) := dk_42 (dk_at dksX8_remit_1 13 rfl rfl)
theorem dX8_remit_37 : decode cX8_remit 37 = .ok (.getfield 64, 3) := dk_180 0 64 (dk_at dksX8_remit_1 14 rfl rfl)
theorem dX8_remit_40 : decode cX8_remit 40 = .ok (.iconst 4, 1) := dk_7 (dk_at dksX8_remit_1 17 rfl rfl)
theorem dX8_remit_41 : decode cX8_remit 41 = .ok (.irem, 1) := dk_112 (dk_at dksX8_remit_1 18 rfl rfl)
theorem dX8_remit_42 : decode cX8_remit 42 = .ok (.iconst 3, 1) := dk_6 (dk_at dksX8_remit_1 19 rfl rfl)
theorem dX8_remit_43 : decode cX8_remit 43 = .ok (.if_icmp .ne 14, 3) := dk_160 0 14 (dk_at dksX8_remit_1 20 rfl rfl)
theorem dX8_remit_46 : decode cX8_remit 46 = .ok (.aload_n 2, 1) := dk_44 (dk_at dksX8_remit_1 23 rfl rfl)
theorem dX8_remit_47 : decode cX8_remit 47 = .ok (.getfield 322, 3) := dk_180 1 66 (dk_at dksX8_remit_2 0 rfl rfl)
theorem dX8_remit_50 : decode cX8_remit 50 = .ok (.aload_n 0, 1) := dk_42 (dk_at dksX8_remit_2 3 rfl rfl)
theorem dX8_remit_51 : decode cX8_remit 51 = .ok (.invokevirtual 293, 3) := dk_182 1 37 (dk_at dksX8_remit_2 4 rfl rfl)
theorem dX8_remit_54 : decode cX8_remit 54 = .ok (.if_icmp .ne 7, 3) := dk_160 0 7 (dk_at dksX8_remit_2 7 rfl rfl)
theorem dX8_remit_57 : decode cX8_remit 57 = .ok (.iconst 1, 1) := dk_4 (dk_at dksX8_remit_2 10 rfl rfl)
theorem dX8_remit_58 : decode cX8_remit 58 = .ok (.goto 4, 3) := dk_167 0 4 (dk_at dksX8_remit_2 11 rfl rfl)
theorem dX8_remit_61 : decode cX8_remit 61 = .ok (.iconst 0, 1) := dk_3 (dk_at dksX8_remit_2 14 rfl rfl)
theorem dX8_remit_62 : decode cX8_remit 62 = .ok (.iconst 2, 1) := dk_5 (dk_at dksX8_remit_2 15 rfl rfl)
theorem dX8_remit_63 : decode cX8_remit 63 = .ok (.invokevirtual 52, 3) := dk_182 0 52 (dk_at dksX8_remit_2 16 rfl rfl)
theorem dX8_remit_66 : decode cX8_remit 66 = .ok (.ifCond .eq 5, 3) := dk_153 0 5 (dk_at dksX8_remit_2 19 rfl rfl)
theorem dX8_remit_69 : decode cX8_remit 69 = .ok (.iconst 0, 1) := dk_3 (dk_at dksX8_remit_2 22 rfl rfl)
theorem dX8_remit_70 : decode cX8_remit 70 = .ok (.ireturn, 1) := dk_172 (dk_at dksX8_remit_2 23 rfl rfl)
theorem dX8_remit_71 : decode cX8_remit 71 = .ok (.aload_n 2, 1) := dk_44 (dk_at dksX8_remit_3 0 rfl rfl)
theorem dX8_remit_72 : decode cX8_remit 72 = .ok (.aload_n 0, 1) := dk_42 (dk_at dksX8_remit_3 1 rfl rfl)
theorem dX8_remit_73 : decode cX8_remit 73 = .ok (.invokevirtual 293, 3) := dk_182 1 37 (dk_at dksX8_remit_3 2 rfl rfl)
theorem dX8_remit_76 : decode cX8_remit 76 = .ok (.putfield 322, 3) := dk_181 1 66 (dk_at dksX8_remit_3 5 rfl rfl)
theorem dX8_remit_79 : decode cX8_remit 79 = .ok (.iconst 0, 1) := dk_3 (dk_at dksX8_remit_3 8 rfl rfl)
theorem dX8_remit_80 : decode cX8_remit 80 = .ok (.istore_n 3, 1) := dk_62 (dk_at dksX8_remit_3 9 rfl rfl)
theorem dX8_remit_81 : decode cX8_remit 81 = .ok (.iconst 0, 1) := dk_3 (dk_at dksX8_remit_3 10 rfl rfl)
theorem dX8_remit_82 : decode cX8_remit 82 = .ok (.istore 4, 2) := dk_54 4 (dk_at dksX8_remit_3 11 rfl rfl)
theorem dX8_remit_84 : decode cX8_remit 84 = .ok (.iconst 0, 1) := dk_3 (dk_at dksX8_remit_3 13 rfl rfl)
theorem dX8_remit_85 : decode cX8_remit 85 = .ok (.istore 5, 2) := dk_54 5 (dk_at dksX8_remit_3 14 rfl rfl)
theorem dX8_remit_87 : decode cX8_remit 87 = .ok (.iload 5, 2) := dk_21 5 (dk_at dksX8_remit_3 16 rfl rfl)
theorem dX8_remit_89 : decode cX8_remit 89 = .ok (.aload_n 0, 1) := dk_42 (dk_at dksX8_remit_3 18 rfl rfl)
theorem dX8_remit_90 : decode cX8_remit 90 = .ok (.getfield 16, 3) := dk_180 0 16 (dk_at dksX8_remit_3 19 rfl rfl)
theorem dX8_remit_93 : decode cX8_remit 93 = .ok (.invokevirtual 56, 3) := dk_182 0 56 (dk_at dksX8_remit_4 0 rfl rfl)
theorem dX8_remit_96 : decode cX8_remit 96 = .ok (.if_icmp .ge 74, 3) := dk_162 0 74 (dk_at dksX8_remit_4 3 rfl rfl)
theorem dX8_remit_99 : decode cX8_remit 99 = .ok (.aload_n 2, 1) := dk_44 (dk_at dksX8_remit_4 6 rfl rfl)
theorem dX8_remit_100 : decode cX8_remit 100 = .ok (.getfield 216, 3) := dk_180 0 216 (dk_at dksX8_remit_4 7 rfl rfl)
theorem dX8_remit_103 : decode cX8_remit 103 = .ok (.iload 5, 2) := dk_21 5 (dk_at dksX8_remit_4 10 rfl rfl)
theorem dX8_remit_105 : decode cX8_remit 105 = .ok (.invokestatic 82, 3) := dk_184 0 82 (dk_at dksX8_remit_4 12 rfl rfl)
theorem dX8_remit_108 : decode cX8_remit 108 = .ok (.ifCond .ne 6, 3) := dk_154 0 6 (dk_at dksX8_remit_4 15 rfl rfl)
theorem dX8_remit_111 : decode cX8_remit 111 = .ok (.goto 53, 3) := dk_167 0 53 (dk_at dksX8_remit_4 18 rfl rfl)
theorem dX8_remit_114 : decode cX8_remit 114 = .ok (.aload_n 0, 1) := dk_42 (dk_at dksX8_remit_4 21 rfl rfl)
theorem dX8_remit_115 : decode cX8_remit 115 = .ok (.getfield 16, 3) := dk_180 0 16 (dk_at dksX8_remit_5 0 rfl rfl)
theorem dX8_remit_118 : decode cX8_remit 118 = .ok (.iload 5, 2) := dk_21 5 (dk_at dksX8_remit_5 3 rfl rfl)
theorem dX8_remit_120 : decode cX8_remit 120 = .ok (.invokevirtual 78, 3) := dk_182 0 78 (dk_at dksX8_remit_5 5 rfl rfl)
theorem dX8_remit_123 : decode cX8_remit 123 = .ok (.checkcast 68, 3) := dk_192 0 68 (dk_at dksX8_remit_5 8 rfl rfl)
theorem dX8_remit_126 : decode cX8_remit 126 = .ok (.astore 6, 2) := dk_58 6 (dk_at dksX8_remit_5 11 rfl rfl)
theorem dX8_remit_128 : decode cX8_remit 128 = .ok (.iinc 4 1, 3) := dk_132 4 1 (dk_at dksX8_remit_5 13 rfl rfl)
theorem dX8_remit_131 : decode cX8_remit 131 = .ok (.iload_n 3, 1) := dk_29 (dk_at dksX8_remit_5 16 rfl rfl)
theorem dX8_remit_132 : decode cX8_remit 132 = .ok (.aload 6, 2) := dk_25 6 (dk_at dksX8_remit_5 17 rfl rfl)
theorem dX8_remit_134 : decode cX8_remit 134 = .ok (.getfield 67, 3) := dk_180 0 67 (dk_at dksX8_remit_5 19 rfl rfl)
theorem dX8_remit_137 : decode cX8_remit 137 = .ok (.aload 6, 2) := dk_25 6 (dk_at dksX8_remit_5 22 rfl rfl)
theorem dX8_remit_139 : decode cX8_remit 139 = .ok (.getfield 131, 3) := dk_180 0 131 (dk_at dksX8_remit_6 0 rfl rfl)
theorem dX8_remit_142 : decode cX8_remit 142 = .ok (.aload 6, 2) := dk_25 6 (dk_at dksX8_remit_6 3 rfl rfl)
theorem dX8_remit_144 : decode cX8_remit 144 = .ok (.getfield 105, 3) := dk_180 0 105 (dk_at dksX8_remit_6 5 rfl rfl)
theorem dX8_remit_147 : decode cX8_remit 147 = .ok (.imul, 1) := dk_104 (dk_at dksX8_remit_6 8 rfl rfl)
theorem dX8_remit_148 : decode cX8_remit 148 = .ok (.bipush 7, 2) := dk_16 7 (dk_at dksX8_remit_6 9 rfl rfl)
theorem dX8_remit_150 : decode cX8_remit 150 = .ok (.imul, 1) := dk_104 (dk_at dksX8_remit_6 11 rfl rfl)
theorem dX8_remit_151 : decode cX8_remit 151 = .ok (.bipush 120, 2) := dk_16 120 (dk_at dksX8_remit_6 12 rfl rfl)
theorem dX8_remit_153 : decode cX8_remit 153 = .ok (.idiv, 1) := dk_108 (dk_at dksX8_remit_6 14 rfl rfl)
theorem dX8_remit_154 : decode cX8_remit 154 = .ok (.if_icmp .ge 7, 3) := dk_162 0 7 (dk_at dksX8_remit_6 15 rfl rfl)
theorem dX8_remit_157 : decode cX8_remit 157 = .ok (.iconst 1, 1) := dk_4 (dk_at dksX8_remit_6 18 rfl rfl)
theorem dX8_remit_158 : decode cX8_remit 158 = .ok (.goto 4, 3) := dk_167 0 4 (dk_at dksX8_remit_6 19 rfl rfl)
theorem dX8_remit_161 : decode cX8_remit 161 = .ok (.iconst 0, 1) := dk_3 (dk_at dksX8_remit_6 22 rfl rfl)
theorem dX8_remit_162 : decode cX8_remit 162 = .ok (.iadd, 1) := dk_96 (dk_at dksX8_remit_6 23 rfl rfl)
theorem dX8_remit_163 : decode cX8_remit 163 = .ok (.istore_n 3, 1) := dk_62 (dk_at dksX8_remit_7 0 rfl rfl)
theorem dX8_remit_164 : decode cX8_remit 164 = .ok (.iinc 5 1, 3) := dk_132 5 1 (dk_at dksX8_remit_7 1 rfl rfl)
theorem dX8_remit_167 : decode cX8_remit 167 = .ok (.goto (-80), 3) := dk_167 255 176 (dk_at dksX8_remit_7 4 rfl rfl)
theorem dX8_remit_170 : decode cX8_remit 170 = .ok (.aload_n 2, 1) := dk_44 (dk_at dksX8_remit_7 7 rfl rfl)
theorem dX8_remit_171 : decode cX8_remit 171 = .ok (.getfield 231, 3) := dk_180 0 231 (dk_at dksX8_remit_7 8 rfl rfl)
theorem dX8_remit_174 : decode cX8_remit 174 = .ok (.aload_n 2, 1) := dk_44 (dk_at dksX8_remit_7 11 rfl rfl)
theorem dX8_remit_175 : decode cX8_remit 175 = .ok (.getfield 222, 3) := dk_180 0 222 (dk_at dksX8_remit_7 12 rfl rfl)
theorem dX8_remit_178 : decode cX8_remit 178 = .ok (.idiv, 1) := dk_108 (dk_at dksX8_remit_7 15 rfl rfl)
theorem dX8_remit_179 : decode cX8_remit 179 = .ok (.iload_n 3, 1) := dk_29 (dk_at dksX8_remit_7 16 rfl rfl)
theorem dX8_remit_180 : decode cX8_remit 180 = .ok (.imul, 1) := dk_104 (dk_at dksX8_remit_7 17 rfl rfl)
theorem dX8_remit_181 : decode cX8_remit 181 = .ok (.iload 4, 2) := dk_21 4 (dk_at dksX8_remit_7 18 rfl rfl)
theorem dX8_remit_183 : decode cX8_remit 183 = .ok (.idiv, 1) := dk_108 (dk_at dksX8_remit_7 20 rfl rfl)
theorem dX8_remit_184 : decode cX8_remit 184 = .ok (.istore 5, 2) := dk_54 5 (dk_at dksX8_remit_7 21 rfl rfl)
theorem dX8_remit_186 : decode cX8_remit 186 = .ok (.aload_n 0, 1) := dk_42 (dk_at dksX8_remit_7 23 rfl rfl)
theorem dX8_remit_187 : decode cX8_remit 187 = .ok (.getfield 20, 3) := dk_180 0 20 (dk_at dksX8_remit_8 0 rfl rfl)
theorem dX8_remit_190 : decode cX8_remit 190 = .ok (.aload_n 2, 1) := dk_44 (dk_at dksX8_remit_8 3 rfl rfl)
theorem dX8_remit_191 : decode cX8_remit 191 = .ok (.getfield 228, 3) := dk_180 0 228 (dk_at dksX8_remit_8 4 rfl rfl)
theorem dX8_remit_194 : decode cX8_remit 194 = .ok (.invokevirtual 78, 3) := dk_182 0 78 (dk_at dksX8_remit_8 7 rfl rfl)
theorem dX8_remit_197 : decode cX8_remit 197 = .ok (.checkcast 152, 3) := dk_192 0 152 (dk_at dksX8_remit_8 10 rfl rfl)
theorem dX8_remit_200 : decode cX8_remit 200 = .ok (.astore 6, 2) := dk_58 6 (dk_at dksX8_remit_8 13 rfl rfl)
theorem dX8_remit_202 : decode cX8_remit 202 = .ok (.aload 6, 2) := dk_25 6 (dk_at dksX8_remit_8 15 rfl rfl)
theorem dX8_remit_204 : decode cX8_remit 204 = .ok (.getfield 306, 3) := dk_180 1 50 (dk_at dksX8_remit_8 17 rfl rfl)
theorem dX8_remit_207 : decode cX8_remit 207 = .ok (.bipush 20, 2) := dk_16 20 (dk_at dksX8_remit_8 20 rfl rfl)
theorem dX8_remit_209 : decode cX8_remit 209 = .ok (.if_icmp .lt 34, 3) := dk_161 0 34 (dk_at dksX8_remit_9 0 rfl rfl)
theorem dX8_remit_212 : decode cX8_remit 212 = .ok (.aload 6, 2) := dk_25 6 (dk_at dksX8_remit_9 3 rfl rfl)
theorem dX8_remit_214 : decode cX8_remit 214 = .ok (.dup, 1) := dk_89 (dk_at dksX8_remit_9 5 rfl rfl)
theorem dX8_remit_215 : decode cX8_remit 215 = .ok (.getfield 306, 3) := dk_180 1 50 (dk_at dksX8_remit_9 6 rfl rfl)
theorem dX8_remit_218 : decode cX8_remit 218 = .ok (.bipush 20, 2) := dk_16 20 (dk_at dksX8_remit_9 9 rfl rfl)
theorem dX8_remit_220 : decode cX8_remit 220 = .ok (.isub, 1) := dk_100 (dk_at dksX8_remit_9 11 rfl rfl)
theorem dX8_remit_221 : decode cX8_remit 221 = .ok (.putfield 306, 3) := dk_181 1 50 (dk_at dksX8_remit_9 12 rfl rfl)
theorem dX8_remit_224 : decode cX8_remit 224 = .ok (.aload_n 0, 1) := dk_42 (dk_at dksX8_remit_9 15 rfl rfl)
theorem dX8_remit_225 : decode cX8_remit 225 = .ok (.dup, 1) := dk_89 (dk_at dksX8_remit_9 16 rfl rfl)
theorem dX8_remit_226 : decode cX8_remit 226 = .ok (.getfield 309, 3) := dk_180 1 53 (dk_at dksX8_remit_9 17 rfl rfl)
theorem dX8_remit_229 : decode cX8_remit 229 = .ok (.iconst 1, 1) := dk_4 (dk_at dksX8_remit_9 20 rfl rfl)
theorem dX8_remit_230 : decode cX8_remit 230 = .ok (.iadd, 1) := dk_96 (dk_at dksX8_remit_9 21 rfl rfl)
theorem dX8_remit_231 : decode cX8_remit 231 = .ok (.putfield 309, 3) := dk_181 1 53 (dk_at dksX8_remit_10 0 rfl rfl)
theorem dX8_remit_234 : decode cX8_remit 234 = .ok (.iload 5, 2) := dk_21 5 (dk_at dksX8_remit_10 3 rfl rfl)
theorem dX8_remit_236 : decode cX8_remit 236 = .ok (.iload 5, 2) := dk_21 5 (dk_at dksX8_remit_10 5 rfl rfl)
theorem dX8_remit_238 : decode cX8_remit 238 = .ok (.iconst 2, 1) := dk_5 (dk_at dksX8_remit_10 7 rfl rfl)
theorem dX8_remit_239 : decode cX8_remit 239 = .ok (.idiv, 1) := dk_108 (dk_at dksX8_remit_10 8 rfl rfl)
theorem dX8_remit_240 : decode cX8_remit 240 = .ok (.iadd, 1) := dk_96 (dk_at dksX8_remit_10 9 rfl rfl)
theorem dX8_remit_241 : decode cX8_remit 241 = .ok (.istore 5, 2) := dk_54 5 (dk_at dksX8_remit_10 10 rfl rfl)
theorem dX8_remit_243 : decode cX8_remit 243 = .ok (.aload_n 2, 1) := dk_44 (dk_at dksX8_remit_10 12 rfl rfl)
theorem dX8_remit_244 : decode cX8_remit 244 = .ok (.dup, 1) := dk_89 (dk_at dksX8_remit_10 13 rfl rfl)
theorem dX8_remit_245 : decode cX8_remit 245 = .ok (.getfield 271, 3) := dk_180 1 15 (dk_at dksX8_remit_10 14 rfl rfl)
theorem dX8_remit_248 : decode cX8_remit 248 = .ok (.iload 5, 2) := dk_21 5 (dk_at dksX8_remit_10 17 rfl rfl)
theorem dX8_remit_250 : decode cX8_remit 250 = .ok (.iadd, 1) := dk_96 (dk_at dksX8_remit_10 19 rfl rfl)
theorem dX8_remit_251 : decode cX8_remit 251 = .ok (.putfield 271, 3) := dk_181 1 15 (dk_at dksX8_remit_10 20 rfl rfl)
theorem dX8_remit_254 : decode cX8_remit 254 = .ok (.iload 5, 2) := dk_21 5 (dk_at dksX8_remit_11 0 rfl rfl)
theorem dX8_remit_256 : decode cX8_remit 256 = .ok (.ireturn, 1) := dk_172 (dk_at dksX8_remit_11 2 rfl rfl)
abbrev cX8_recall : ByteArray := prog_19_method_48_code
def yX8_recall : MethodName := ⟨RX8, "recall", "()I"⟩
def dkwX8_recall_3 : List UInt8 := [153, 0, 21, 44, 185, 0, 204, 1, 0, 192, 0, 152, 78, 45, 3, 181, 1, 50, 167, 255, 232, 27, 172]
abbrev dktX8_recall_3 : List UInt8 := dkwX8_recall_3 ++ []
def dkwX8_recall_2 : List UInt8 := [3, 181, 1, 63, 42, 3, 181, 1, 53, 42, 180, 0, 20, 182, 0, 195, 77, 44, 185, 0, 199, 1, 0]
abbrev dktX8_recall_2 : List UInt8 := dkwX8_recall_2 ++ dktX8_recall_3
def dkwX8_recall_1 : List UInt8 := [180, 0, 118, 27, 96, 181, 0, 118, 42, 89, 180, 0, 121, 42, 180, 1, 63, 27, 100, 96, 181, 0, 121, 42]
abbrev dktX8_recall_1 : List UInt8 := dkwX8_recall_1 ++ dktX8_recall_2
def dkwX8_recall_0 : List UInt8 := [42, 3, 181, 0, 49, 42, 180, 1, 53, 5, 161, 0, 10, 42, 180, 1, 63, 167, 0, 4, 3, 60, 42, 89]
abbrev dktX8_recall_0 : List UInt8 := dkwX8_recall_0 ++ dktX8_recall_1
theorem dksX8_recall_0 : cX8_recall.data.toList.drop 0 = dktX8_recall_0 := by decide +kernel
theorem dksX8_recall_1 : cX8_recall.data.toList.drop 24 = dktX8_recall_1 := dk_seg dksX8_recall_0 24 rfl rfl
theorem dksX8_recall_2 : cX8_recall.data.toList.drop 48 = dktX8_recall_2 := dk_seg dksX8_recall_1 24 rfl rfl
theorem dksX8_recall_3 : cX8_recall.data.toList.drop 71 = dktX8_recall_3 := dk_seg dksX8_recall_2 23 rfl rfl
theorem dX8_recall_0 : decode cX8_recall 0 = .ok (.aload_n 0, 1) := dk_42 (dk_at dksX8_recall_0 0 rfl rfl)
theorem dX8_recall_1 : decode cX8_recall 1 = .ok (.iconst 0, 1) := dk_3 (dk_at dksX8_recall_0 1 rfl rfl)
theorem dX8_recall_2 : decode cX8_recall 2 = .ok (.putfield 49, 3) := dk_181 0 49 (dk_at dksX8_recall_0 2 rfl rfl)
theorem dX8_recall_5 : decode cX8_recall 5 = .ok (.aload_n 0, 1) := dk_42 (dk_at dksX8_recall_0 5 rfl rfl)
theorem dX8_recall_6 : decode cX8_recall 6 = .ok (.getfield 309, 3) := dk_180 1 53 (dk_at dksX8_recall_0 6 rfl rfl)
theorem dX8_recall_9 : decode cX8_recall 9 = .ok (.iconst 2, 1) := dk_5 (dk_at dksX8_recall_0 9 rfl rfl)
theorem dX8_recall_10 : decode cX8_recall 10 = .ok (.if_icmp .lt 10, 3) := dk_161 0 10 (dk_at dksX8_recall_0 10 rfl rfl)
theorem dX8_recall_13 : decode cX8_recall 13 = .ok (.aload_n 0, 1) := dk_42 (dk_at dksX8_recall_0 13 rfl rfl)
theorem dX8_recall_14 : decode cX8_recall 14 = .ok (.getfield 319, 3) := dk_180 1 63 (dk_at dksX8_recall_0 14 rfl rfl)
theorem dX8_recall_17 : decode cX8_recall 17 = .ok (.goto 4, 3) := dk_167 0 4 (dk_at dksX8_recall_0 17 rfl rfl)
theorem dX8_recall_20 : decode cX8_recall 20 = .ok (.iconst 0, 1) := dk_3 (dk_at dksX8_recall_0 20 rfl rfl)
theorem dX8_recall_21 : decode cX8_recall 21 = .ok (.istore_n 1, 1) := dk_60 (dk_at dksX8_recall_0 21 rfl rfl)
theorem dX8_recall_22 : decode cX8_recall 22 = .ok (.aload_n 0, 1) := dk_42 (dk_at dksX8_recall_0 22 rfl rfl)
theorem dX8_recall_23 : decode cX8_recall 23 = .ok (.dup, 1) := dk_89 (dk_at dksX8_recall_0 23 rfl rfl)
theorem dX8_recall_24 : decode cX8_recall 24 = .ok (.getfield 118, 3) := dk_180 0 118 (dk_at dksX8_recall_1 0 rfl rfl)
theorem dX8_recall_27 : decode cX8_recall 27 = .ok (.iload_n 1, 1) := dk_27 (dk_at dksX8_recall_1 3 rfl rfl)
theorem dX8_recall_28 : decode cX8_recall 28 = .ok (.iadd, 1) := dk_96 (dk_at dksX8_recall_1 4 rfl rfl)
theorem dX8_recall_29 : decode cX8_recall 29 = .ok (.putfield 118, 3) := dk_181 0 118 (dk_at dksX8_recall_1 5 rfl rfl)
theorem dX8_recall_32 : decode cX8_recall 32 = .ok (.aload_n 0, 1) := dk_42 (dk_at dksX8_recall_1 8 rfl rfl)
theorem dX8_recall_33 : decode cX8_recall 33 = .ok (.dup, 1) := dk_89 (dk_at dksX8_recall_1 9 rfl rfl)
theorem dX8_recall_34 : decode cX8_recall 34 = .ok (.getfield 121, 3) := dk_180 0 121 (dk_at dksX8_recall_1 10 rfl rfl)
theorem dX8_recall_37 : decode cX8_recall 37 = .ok (.aload_n 0, 1) := dk_42 (dk_at dksX8_recall_1 13 rfl rfl)
theorem dX8_recall_38 : decode cX8_recall 38 = .ok (.getfield 319, 3) := dk_180 1 63 (dk_at dksX8_recall_1 14 rfl rfl)
theorem dX8_recall_41 : decode cX8_recall 41 = .ok (.iload_n 1, 1) := dk_27 (dk_at dksX8_recall_1 17 rfl rfl)
theorem dX8_recall_42 : decode cX8_recall 42 = .ok (.isub, 1) := dk_100 (dk_at dksX8_recall_1 18 rfl rfl)
theorem dX8_recall_43 : decode cX8_recall 43 = .ok (.iadd, 1) := dk_96 (dk_at dksX8_recall_1 19 rfl rfl)
theorem dX8_recall_44 : decode cX8_recall 44 = .ok (.putfield 121, 3) := dk_181 0 121 (dk_at dksX8_recall_1 20 rfl rfl)
theorem dX8_recall_47 : decode cX8_recall 47 = .ok (.aload_n 0, 1) := dk_42 (dk_at dksX8_recall_1 23 rfl rfl)
theorem dX8_recall_48 : decode cX8_recall 48 = .ok (.iconst 0, 1) := dk_3 (dk_at dksX8_recall_2 0 rfl rfl)
theorem dX8_recall_49 : decode cX8_recall 49 = .ok (.putfield 319, 3) := dk_181 1 63 (dk_at dksX8_recall_2 1 rfl rfl)
theorem dX8_recall_52 : decode cX8_recall 52 = .ok (.aload_n 0, 1) := dk_42 (dk_at dksX8_recall_2 4 rfl rfl)
theorem dX8_recall_53 : decode cX8_recall 53 = .ok (.iconst 0, 1) := dk_3 (dk_at dksX8_recall_2 5 rfl rfl)
theorem dX8_recall_54 : decode cX8_recall 54 = .ok (.putfield 309, 3) := dk_181 1 53 (dk_at dksX8_recall_2 6 rfl rfl)
theorem dX8_recall_57 : decode cX8_recall 57 = .ok (.aload_n 0, 1) := dk_42 (dk_at dksX8_recall_2 9 rfl rfl)
theorem dX8_recall_58 : decode cX8_recall 58 = .ok (.getfield 20, 3) := dk_180 0 20 (dk_at dksX8_recall_2 10 rfl rfl)
theorem dX8_recall_61 : decode cX8_recall 61 = .ok (.invokevirtual 195, 3) := dk_182 0 195 (dk_at dksX8_recall_2 13 rfl rfl)
theorem dX8_recall_64 : decode cX8_recall 64 = .ok (.astore_n 2, 1) := dk_77 (dk_at dksX8_recall_2 16 rfl rfl)
theorem dX8_recall_65 : decode cX8_recall 65 = .ok (.aload_n 2, 1) := dk_44 (dk_at dksX8_recall_2 17 rfl rfl)
theorem dX8_recall_66 : decode cX8_recall 66 = .ok (.invokeinterface 199 1, 5) := by decide +kernel
theorem dX8_recall_71 : decode cX8_recall 71 = .ok (.ifCond .eq 21, 3) := dk_153 0 21 (dk_at dksX8_recall_3 0 rfl rfl)
theorem dX8_recall_74 : decode cX8_recall 74 = .ok (.aload_n 2, 1) := dk_44 (dk_at dksX8_recall_3 3 rfl rfl)
theorem dX8_recall_75 : decode cX8_recall 75 = .ok (.invokeinterface 204 1, 5) := by decide +kernel
theorem dX8_recall_80 : decode cX8_recall 80 = .ok (.checkcast 152, 3) := dk_192 0 152 (dk_at dksX8_recall_3 9 rfl rfl)
theorem dX8_recall_83 : decode cX8_recall 83 = .ok (.astore_n 3, 1) := dk_78 (dk_at dksX8_recall_3 12 rfl rfl)
theorem dX8_recall_84 : decode cX8_recall 84 = .ok (.aload_n 3, 1) := dk_45 (dk_at dksX8_recall_3 13 rfl rfl)
theorem dX8_recall_85 : decode cX8_recall 85 = .ok (.iconst 0, 1) := dk_3 (dk_at dksX8_recall_3 14 rfl rfl)
theorem dX8_recall_86 : decode cX8_recall 86 = .ok (.putfield 306, 3) := dk_181 1 50 (dk_at dksX8_recall_3 15 rfl rfl)
theorem dX8_recall_89 : decode cX8_recall 89 = .ok (.goto (-24), 3) := dk_167 255 232 (dk_at dksX8_recall_3 18 rfl rfl)
theorem dX8_recall_92 : decode cX8_recall 92 = .ok (.iload_n 1, 1) := dk_27 (dk_at dksX8_recall_3 21 rfl rfl)
theorem dX8_recall_93 : decode cX8_recall 93 = .ok (.ireturn, 1) := dk_172 (dk_at dksX8_recall_3 22 rfl rfl)
abbrev cX8_clerks : ByteArray := prog_19_method_49_code
def yX8_clerks : MethodName := ⟨RX8, "clerks", "(IZ)Z"⟩
def dkwX8_clerks_1 : List UInt8 := [180, 0, 39, 27, 28, 84, 29, 172]
abbrev dktX8_clerks_1 : List UInt8 := dkwX8_clerks_1 ++ []
def dkwX8_clerks_0 : List UInt8 := [42, 27, 184, 0, 149, 4, 182, 0, 124, 153, 0, 5, 3, 172, 42, 180, 0, 39, 27, 51, 62, 42]
abbrev dktX8_clerks_0 : List UInt8 := dkwX8_clerks_0 ++ dktX8_clerks_1
theorem dksX8_clerks_0 : cX8_clerks.data.toList.drop 0 = dktX8_clerks_0 := by decide +kernel
theorem dksX8_clerks_1 : cX8_clerks.data.toList.drop 22 = dktX8_clerks_1 := dk_seg dksX8_clerks_0 22 rfl rfl
theorem dX8_clerks_0 : decode cX8_clerks 0 = .ok (.aload_n 0, 1) := dk_42 (dk_at dksX8_clerks_0 0 rfl rfl)
theorem dX8_clerks_1 : decode cX8_clerks 1 = .ok (.iload_n 1, 1) := dk_27 (dk_at dksX8_clerks_0 1 rfl rfl)
theorem dX8_clerks_2 : decode cX8_clerks 2 = .ok (.invokestatic 149, 3) := dk_184 0 149 (dk_at dksX8_clerks_0 2 rfl rfl)
theorem dX8_clerks_5 : decode cX8_clerks 5 = .ok (.iconst 1, 1) := dk_4 (dk_at dksX8_clerks_0 5 rfl rfl)
theorem dX8_clerks_6 : decode cX8_clerks 6 = .ok (.invokevirtual 124, 3) := dk_182 0 124 (dk_at dksX8_clerks_0 6 rfl rfl)
theorem dX8_clerks_9 : decode cX8_clerks 9 = .ok (.ifCond .eq 5, 3) := dk_153 0 5 (dk_at dksX8_clerks_0 9 rfl rfl)
theorem dX8_clerks_12 : decode cX8_clerks 12 = .ok (.iconst 0, 1) := dk_3 (dk_at dksX8_clerks_0 12 rfl rfl)
theorem dX8_clerks_13 : decode cX8_clerks 13 = .ok (.ireturn, 1) := dk_172 (dk_at dksX8_clerks_0 13 rfl rfl)
theorem dX8_clerks_14 : decode cX8_clerks 14 = .ok (.aload_n 0, 1) := dk_42 (dk_at dksX8_clerks_0 14 rfl rfl)
theorem dX8_clerks_15 : decode cX8_clerks 15 = .ok (.getfield 39, 3) := dk_180 0 39 (dk_at dksX8_clerks_0 15 rfl rfl)
theorem dX8_clerks_18 : decode cX8_clerks 18 = .ok (.iload_n 1, 1) := dk_27 (dk_at dksX8_clerks_0 18 rfl rfl)
theorem dX8_clerks_19 : decode cX8_clerks 19 = .ok (.baload, 1) := dk_51 (dk_at dksX8_clerks_0 19 rfl rfl)
theorem dX8_clerks_20 : decode cX8_clerks 20 = .ok (.istore_n 3, 1) := dk_62 (dk_at dksX8_clerks_0 20 rfl rfl)
theorem dX8_clerks_21 : decode cX8_clerks 21 = .ok (.aload_n 0, 1) := dk_42 (dk_at dksX8_clerks_0 21 rfl rfl)
theorem dX8_clerks_22 : decode cX8_clerks 22 = .ok (.getfield 39, 3) := dk_180 0 39 (dk_at dksX8_clerks_1 0 rfl rfl)
theorem dX8_clerks_25 : decode cX8_clerks 25 = .ok (.iload_n 1, 1) := dk_27 (dk_at dksX8_clerks_1 3 rfl rfl)
theorem dX8_clerks_26 : decode cX8_clerks 26 = .ok (.iload_n 2, 1) := dk_28 (dk_at dksX8_clerks_1 4 rfl rfl)
theorem dX8_clerks_27 : decode cX8_clerks 27 = .ok (.bastore, 1) := dk_84 (dk_at dksX8_clerks_1 5 rfl rfl)
theorem dX8_clerks_28 : decode cX8_clerks 28 = .ok (.iload_n 3, 1) := dk_29 (dk_at dksX8_clerks_1 6 rfl rfl)
theorem dX8_clerks_29 : decode cX8_clerks 29 = .ok (.ireturn, 1) := dk_172 (dk_at dksX8_clerks_1 7 rfl rfl)
abbrev cX8_pass : ByteArray := prog_19_method_59_code
def yX8_pass : MethodName := ⟨RX8, "pass", "(I)I"⟩
def dkwX8_pass_11 : List UInt8 := [132, 2, 1, 167, 255, 51, 42, 180, 0, 64, 172]
abbrev dktX8_pass_11 : List UInt8 := dkwX8_pass_11 ++ []
def dkwX8_pass_10 : List UInt8 := [185, 0, 204, 1, 0, 192, 0, 68, 58, 5, 29, 6, 160, 0, 9, 42, 25, 5, 182, 1, 124, 167, 255, 223]
abbrev dktX8_pass_10 : List UInt8 := dkwX8_pass_10 ++ dktX8_pass_11
def dkwX8_pass_9 : List UInt8 := [42, 180, 0, 16, 182, 0, 195, 58, 4, 25, 4, 185, 0, 199, 1, 0, 153, 0, 29, 25, 4]
abbrev dktX8_pass_9 : List UInt8 := dkwX8_pass_9 ++ dktX8_pass_10
def dkwX8_pass_8 : List UInt8 := [153, 0, 24, 25, 4, 185, 0, 204, 1, 0, 192, 0, 68, 58, 5, 42, 25, 5, 182, 1, 120, 167, 255, 228]
abbrev dktX8_pass_8 : List UInt8 := dkwX8_pass_8 ++ dktX8_pass_9
def dkwX8_pass_7 : List UInt8 := [132, 4, 1, 167, 255, 226, 42, 180, 0, 16, 182, 0, 195, 58, 4, 25, 4, 185, 0, 199, 1, 0]
abbrev dktX8_pass_7 : List UInt8 := dkwX8_pass_7 ++ dktX8_pass_8
def dkwX8_pass_6 : List UInt8 := [21, 4, 6, 162, 0, 25, 42, 180, 0, 39, 21, 4, 51, 153, 0, 9, 42, 21, 4, 182, 1, 117]
abbrev dktX8_pass_6 : List UInt8 := dkwX8_pass_6 ++ dktX8_pass_7
def dkwX8_pass_5 : List UInt8 := [182, 0, 78, 192, 0, 208, 182, 1, 115, 132, 4, 1, 167, 255, 220, 3, 54, 4, 29, 5, 160, 0, 31]
abbrev dktX8_pass_5 : List UInt8 := dkwX8_pass_5 ++ dktX8_pass_6
def dkwX8_pass_4 : List UInt8 := [160, 0, 37, 21, 4, 42, 180, 0, 23, 182, 0, 56, 162, 0, 25, 42, 42, 180, 0, 23, 21, 4]
abbrev dktX8_pass_4 : List UInt8 := dkwX8_pass_4 ++ dktX8_pass_5
def dkwX8_pass_3 : List UInt8 := [112, 62, 29, 154, 0, 7, 42, 182, 1, 109, 29, 4, 160, 0, 7, 42, 182, 1, 112, 3, 54, 4, 29, 5]
abbrev dktX8_pass_3 : List UInt8 := dkwX8_pass_3 ++ dktX8_pass_4
def dkwX8_pass_2 : List UInt8 := [3, 172, 3, 61, 28, 27, 162, 0, 206, 42, 89, 180, 0, 64, 4, 96, 181, 0, 64, 42, 180, 0, 64, 7]
abbrev dktX8_pass_2 : List UInt8 := dkwX8_pass_2 ++ dktX8_pass_3
def dkwX8_pass_1 : List UInt8 := [42, 180, 0, 64, 27, 96, 17, 0, 160, 164, 0, 7, 4, 167, 0, 4, 3, 5, 182, 0, 52, 153, 0, 5]
abbrev dktX8_pass_1 : List UInt8 := dkwX8_pass_1 ++ dktX8_pass_2
def dkwX8_pass_0 : List UInt8 := [42, 27, 4, 16, 20, 184, 0, 60, 154, 0, 7, 4, 167, 0, 4, 3, 4, 182, 0, 124, 154, 0, 28, 42]
abbrev dktX8_pass_0 : List UInt8 := dkwX8_pass_0 ++ dktX8_pass_1
theorem dksX8_pass_0 : cX8_pass.data.toList.drop 0 = dktX8_pass_0 := by decide +kernel
theorem dksX8_pass_1 : cX8_pass.data.toList.drop 24 = dktX8_pass_1 := dk_seg dksX8_pass_0 24 rfl rfl
theorem dksX8_pass_2 : cX8_pass.data.toList.drop 48 = dktX8_pass_2 := dk_seg dksX8_pass_1 24 rfl rfl
theorem dksX8_pass_3 : cX8_pass.data.toList.drop 72 = dktX8_pass_3 := dk_seg dksX8_pass_2 24 rfl rfl
theorem dksX8_pass_4 : cX8_pass.data.toList.drop 96 = dktX8_pass_4 := dk_seg dksX8_pass_3 24 rfl rfl
theorem dksX8_pass_5 : cX8_pass.data.toList.drop 118 = dktX8_pass_5 := dk_seg dksX8_pass_4 22 rfl rfl
theorem dksX8_pass_6 : cX8_pass.data.toList.drop 141 = dktX8_pass_6 := dk_seg dksX8_pass_5 23 rfl rfl
theorem dksX8_pass_7 : cX8_pass.data.toList.drop 163 = dktX8_pass_7 := dk_seg dksX8_pass_6 22 rfl rfl
theorem dksX8_pass_8 : cX8_pass.data.toList.drop 185 = dktX8_pass_8 := dk_seg dksX8_pass_7 22 rfl rfl
theorem dksX8_pass_9 : cX8_pass.data.toList.drop 209 = dktX8_pass_9 := dk_seg dksX8_pass_8 24 rfl rfl
theorem dksX8_pass_10 : cX8_pass.data.toList.drop 230 = dktX8_pass_10 := dk_seg dksX8_pass_9 21 rfl rfl
theorem dksX8_pass_11 : cX8_pass.data.toList.drop 254 = dktX8_pass_11 := dk_seg dksX8_pass_10 24 rfl rfl
theorem dX8_pass_0 : decode cX8_pass 0 = .ok (.aload_n 0, 1) := dk_42 (dk_at dksX8_pass_0 0 rfl rfl)
theorem dX8_pass_1 : decode cX8_pass 1 = .ok (.iload_n 1, 1) := dk_27 (dk_at dksX8_pass_0 1 rfl rfl)
theorem dX8_pass_2 : decode cX8_pass 2 = .ok (.iconst 1, 1) := dk_4 (dk_at dksX8_pass_0 2 rfl rfl)
theorem dX8_pass_3 : decode cX8_pass 3 = .ok (.bipush 20, 2) := dk_16 20 (dk_at dksX8_pass_0 3 rfl rfl)
theorem dX8_pass_5 : decode cX8_pass 5 = .ok (.invokestatic 60, 3) := dk_184 0 60 (dk_at dksX8_pass_0 5 rfl rfl)
theorem dX8_pass_8 : decode cX8_pass 8 = .ok (.ifCond .ne 7, 3) := dk_154 0 7 (dk_at dksX8_pass_0 8 rfl rfl)
theorem dX8_pass_11 : decode cX8_pass 11 = .ok (.iconst 1, 1) := dk_4 (dk_at dksX8_pass_0 11 rfl rfl)
theorem dX8_pass_12 : decode cX8_pass 12 = .ok (.goto 4, 3) := dk_167 0 4 (dk_at dksX8_pass_0 12 rfl rfl)
theorem dX8_pass_15 : decode cX8_pass 15 = .ok (.iconst 0, 1) := dk_3 (dk_at dksX8_pass_0 15 rfl rfl)
theorem dX8_pass_16 : decode cX8_pass 16 = .ok (.iconst 1, 1) := dk_4 (dk_at dksX8_pass_0 16 rfl rfl)
theorem dX8_pass_17 : decode cX8_pass 17 = .ok (.invokevirtual 124, 3) := dk_182 0 124 (dk_at dksX8_pass_0 17 rfl rfl)
theorem dX8_pass_20 : decode cX8_pass 20 = .ok (.ifCond .ne 28, 3) := dk_154 0 28 (dk_at dksX8_pass_0 20 rfl rfl)
theorem dX8_pass_23 : decode cX8_pass 23 = .ok (.aload_n 0, 1) := dk_42 (dk_at dksX8_pass_0 23 rfl rfl)
theorem dX8_pass_24 : decode cX8_pass 24 = .ok (.aload_n 0, 1) := dk_42 (dk_at dksX8_pass_1 0 rfl rfl)
theorem dX8_pass_25 : decode cX8_pass 25 = .ok (.getfield 64, 3) := dk_180 0 64 (dk_at dksX8_pass_1 1 rfl rfl)
theorem dX8_pass_28 : decode cX8_pass 28 = .ok (.iload_n 1, 1) := dk_27 (dk_at dksX8_pass_1 4 rfl rfl)
theorem dX8_pass_29 : decode cX8_pass 29 = .ok (.iadd, 1) := dk_96 (dk_at dksX8_pass_1 5 rfl rfl)
theorem dX8_pass_30 : decode cX8_pass 30 = .ok (.sipush 160, 3) := dk_17 0 160 (dk_at dksX8_pass_1 6 rfl rfl)
theorem dX8_pass_33 : decode cX8_pass 33 = .ok (.if_icmp .le 7, 3) := dk_164 0 7 (dk_at dksX8_pass_1 9 rfl rfl)
theorem dX8_pass_36 : decode cX8_pass 36 = .ok (.iconst 1, 1) := dk_4 (dk_at dksX8_pass_1 12 rfl rfl)
theorem dX8_pass_37 : decode cX8_pass 37 = .ok (.goto 4, 3) := dk_167 0 4 (dk_at dksX8_pass_1 13 rfl rfl)
theorem dX8_pass_40 : decode cX8_pass 40 = .ok (.iconst 0, 1) := dk_3 (dk_at dksX8_pass_1 16 rfl rfl)
theorem dX8_pass_41 : decode cX8_pass 41 = .ok (.iconst 2, 1) := dk_5 (dk_at dksX8_pass_1 17 rfl rfl)
theorem dX8_pass_42 : decode cX8_pass 42 = .ok (.invokevirtual 52, 3) := dk_182 0 52 (dk_at dksX8_pass_1 18 rfl rfl)
theorem dX8_pass_45 : decode cX8_pass 45 = .ok (.ifCond .eq 5, 3) := dk_153 0 5 (dk_at dksX8_pass_1 21 rfl rfl)
theorem dX8_pass_48 : decode cX8_pass 48 = .ok (.iconst 0, 1) := dk_3 (dk_at dksX8_pass_2 0 rfl rfl)
theorem dX8_pass_49 : decode cX8_pass 49 = .ok (.ireturn, 1) := dk_172 (dk_at dksX8_pass_2 1 rfl rfl)
theorem dX8_pass_50 : decode cX8_pass 50 = .ok (.iconst 0, 1) := dk_3 (dk_at dksX8_pass_2 2 rfl rfl)
theorem dX8_pass_51 : decode cX8_pass 51 = .ok (.istore_n 2, 1) := dk_61 (dk_at dksX8_pass_2 3 rfl rfl)
theorem dX8_pass_52 : decode cX8_pass 52 = .ok (.iload_n 2, 1) := dk_28 (dk_at dksX8_pass_2 4 rfl rfl)
theorem dX8_pass_53 : decode cX8_pass 53 = .ok (.iload_n 1, 1) := dk_27 (dk_at dksX8_pass_2 5 rfl rfl)
theorem dX8_pass_54 : decode cX8_pass 54 = .ok (.if_icmp .ge 206, 3) := dk_162 0 206 (dk_at dksX8_pass_2 6 rfl rfl)
theorem dX8_pass_57 : decode cX8_pass 57 = .ok (.aload_n 0, 1) := dk_42 (dk_at dksX8_pass_2 9 rfl rfl)
theorem dX8_pass_58 : decode cX8_pass 58 = .ok (.dup, 1) := dk_89 (dk_at dksX8_pass_2 10 rfl rfl)
theorem dX8_pass_59 : decode cX8_pass 59 = .ok (.getfield 64, 3) := dk_180 0 64 (dk_at dksX8_pass_2 11 rfl rfl)
theorem dX8_pass_62 : decode cX8_pass 62 = .ok (.iconst 1, 1) := dk_4 (dk_at dksX8_pass_2 14 rfl rfl)
theorem dX8_pass_63 : decode cX8_pass 63 = .ok (.iadd, 1) := dk_96 (dk_at dksX8_pass_2 15 rfl rfl)
theorem dX8_pass_64 : decode cX8_pass 64 = .ok (.putfield 64, 3) := dk_181 0 64 (dk_at dksX8_pass_2 16 rfl rfl)
theorem dX8_pass_67 : decode cX8_pass 67 = .ok (.aload_n 0, 1) := dk_42 (dk_at dksX8_pass_2 19 rfl rfl)
theorem dX8_pass_68 : decode cX8_pass 68 = .ok (.getfield 64, 3) := dk_180 0 64 (dk_at dksX8_pass_2 20 rfl rfl)
theorem dX8_pass_71 : decode cX8_pass 71 = .ok (.iconst 4, 1) := dk_7 (dk_at dksX8_pass_2 23 rfl rfl)
theorem dX8_pass_72 : decode cX8_pass 72 = .ok (.irem, 1) := dk_112 (dk_at dksX8_pass_3 0 rfl rfl)
theorem dX8_pass_73 : decode cX8_pass 73 = .ok (.istore_n 3, 1) := dk_62 (dk_at dksX8_pass_3 1 rfl rfl)
theorem dX8_pass_74 : decode cX8_pass 74 = .ok (.iload_n 3, 1) := dk_29 (dk_at dksX8_pass_3 2 rfl rfl)
theorem dX8_pass_75 : decode cX8_pass 75 = .ok (.ifCond .ne 7, 3) := dk_154 0 7 (dk_at dksX8_pass_3 3 rfl rfl)
theorem dX8_pass_78 : decode cX8_pass 78 = .ok (.aload_n 0, 1) := dk_42 (dk_at dksX8_pass_3 6 rfl rfl)
theorem dX8_pass_79 : decode cX8_pass 79 = .ok (.invokevirtual 365, 3) := dk_182 1 109 (dk_at dksX8_pass_3 7 rfl rfl)
theorem dX8_pass_82 : decode cX8_pass 82 = .ok (.iload_n 3, 1) := dk_29 (dk_at dksX8_pass_3 10 rfl rfl)
theorem dX8_pass_83 : decode cX8_pass 83 = .ok (.iconst 1, 1) := dk_4 (dk_at dksX8_pass_3 11 rfl rfl)
theorem dX8_pass_84 : decode cX8_pass 84 = .ok (.if_icmp .ne 7, 3) := dk_160 0 7 (dk_at dksX8_pass_3 12 rfl rfl)
theorem dX8_pass_87 : decode cX8_pass 87 = .ok (.aload_n 0, 1) := dk_42 (dk_at dksX8_pass_3 15 rfl rfl)
theorem dX8_pass_88 : decode cX8_pass 88 = .ok (.invokevirtual 368, 3) := dk_182 1 112 (dk_at dksX8_pass_3 16 rfl rfl)
theorem dX8_pass_91 : decode cX8_pass 91 = .ok (.iconst 0, 1) := dk_3 (dk_at dksX8_pass_3 19 rfl rfl)
theorem dX8_pass_92 : decode cX8_pass 92 = .ok (.istore 4, 2) := dk_54 4 (dk_at dksX8_pass_3 20 rfl rfl)
theorem dX8_pass_94 : decode cX8_pass 94 = .ok (.iload_n 3, 1) := dk_29 (dk_at dksX8_pass_3 22 rfl rfl)
theorem dX8_pass_95 : decode cX8_pass 95 = .ok (.iconst 2, 1) := dk_5 (dk_at dksX8_pass_3 23 rfl rfl)
theorem dX8_pass_96 : decode cX8_pass 96 = .ok (.if_icmp .ne 37, 3) := dk_160 0 37 (dk_at dksX8_pass_4 0 rfl rfl)
theorem dX8_pass_99 : decode cX8_pass 99 = .ok (.iload 4, 2) := dk_21 4 (dk_at dksX8_pass_4 3 rfl rfl)
theorem dX8_pass_101 : decode cX8_pass 101 = .ok (.aload_n 0, 1) := dk_42 (dk_at dksX8_pass_4 5 rfl rfl)
theorem dX8_pass_102 : decode cX8_pass 102 = .ok (.getfield 23, 3) := dk_180 0 23 (dk_at dksX8_pass_4 6 rfl rfl)
theorem dX8_pass_105 : decode cX8_pass 105 = .ok (.invokevirtual 56, 3) := dk_182 0 56 (dk_at dksX8_pass_4 9 rfl rfl)
theorem dX8_pass_108 : decode cX8_pass 108 = .ok (.if_icmp .ge 25, 3) := dk_162 0 25 (dk_at dksX8_pass_4 12 rfl rfl)
theorem dX8_pass_111 : decode cX8_pass 111 = .ok (.aload_n 0, 1) := dk_42 (dk_at dksX8_pass_4 15 rfl rfl)
theorem dX8_pass_112 : decode cX8_pass 112 = .ok (.aload_n 0, 1) := dk_42 (dk_at dksX8_pass_4 16 rfl rfl)
theorem dX8_pass_113 : decode cX8_pass 113 = .ok (.getfield 23, 3) := dk_180 0 23 (dk_at dksX8_pass_4 17 rfl rfl)
theorem dX8_pass_116 : decode cX8_pass 116 = .ok (.iload 4, 2) := dk_21 4 (dk_at dksX8_pass_4 20 rfl rfl)
theorem dX8_pass_118 : decode cX8_pass 118 = .ok (.invokevirtual 78, 3) := dk_182 0 78 (dk_at dksX8_pass_5 0 rfl rfl)
theorem dX8_pass_121 : decode cX8_pass 121 = .ok (.checkcast 208, 3) := dk_192 0 208 (dk_at dksX8_pass_5 3 rfl rfl)
theorem dX8_pass_124 : decode cX8_pass 124 = .ok (.invokevirtual 371, 3) := dk_182 1 115 (dk_at dksX8_pass_5 6 rfl rfl)
theorem dX8_pass_127 : decode cX8_pass 127 = .ok (.iinc 4 1, 3) := dk_132 4 1 (dk_at dksX8_pass_5 9 rfl rfl)
theorem dX8_pass_130 : decode cX8_pass 130 = .ok (.goto (-36), 3) := dk_167 255 220 (dk_at dksX8_pass_5 12 rfl rfl)
theorem dX8_pass_133 : decode cX8_pass 133 = .ok (.iconst 0, 1) := dk_3 (dk_at dksX8_pass_5 15 rfl rfl)
theorem dX8_pass_134 : decode cX8_pass 134 = .ok (.istore 4, 2) := dk_54 4 (dk_at dksX8_pass_5 16 rfl rfl)
theorem dX8_pass_136 : decode cX8_pass 136 = .ok (.iload_n 3, 1) := dk_29 (dk_at dksX8_pass_5 18 rfl rfl)
theorem dX8_pass_137 : decode cX8_pass 137 = .ok (.iconst 2, 1) := dk_5 (dk_at dksX8_pass_5 19 rfl rfl)
theorem dX8_pass_138 : decode cX8_pass 138 = .ok (.if_icmp .ne 31, 3) := dk_160 0 31 (dk_at dksX8_pass_5 20 rfl rfl)
theorem dX8_pass_141 : decode cX8_pass 141 = .ok (.iload 4, 2) := dk_21 4 (dk_at dksX8_pass_6 0 rfl rfl)
theorem dX8_pass_143 : decode cX8_pass 143 = .ok (.iconst 3, 1) := dk_6 (dk_at dksX8_pass_6 2 rfl rfl)
theorem dX8_pass_144 : decode cX8_pass 144 = .ok (.if_icmp .ge 25, 3) := dk_162 0 25 (dk_at dksX8_pass_6 3 rfl rfl)
theorem dX8_pass_147 : decode cX8_pass 147 = .ok (.aload_n 0, 1) := dk_42 (dk_at dksX8_pass_6 6 rfl rfl)
theorem dX8_pass_148 : decode cX8_pass 148 = .ok (.getfield 39, 3) := dk_180 0 39 (dk_at dksX8_pass_6 7 rfl rfl)
theorem dX8_pass_151 : decode cX8_pass 151 = .ok (.iload 4, 2) := dk_21 4 (dk_at dksX8_pass_6 10 rfl rfl)
theorem dX8_pass_153 : decode cX8_pass 153 = .ok (.baload, 1) := dk_51 (dk_at dksX8_pass_6 12 rfl rfl)
theorem dX8_pass_154 : decode cX8_pass 154 = .ok (.ifCond .eq 9, 3) := dk_153 0 9 (dk_at dksX8_pass_6 13 rfl rfl)
theorem dX8_pass_157 : decode cX8_pass 157 = .ok (.aload_n 0, 1) := dk_42 (dk_at dksX8_pass_6 16 rfl rfl)
theorem dX8_pass_158 : decode cX8_pass 158 = .ok (.iload 4, 2) := dk_21 4 (dk_at dksX8_pass_6 17 rfl rfl)
theorem dX8_pass_160 : decode cX8_pass 160 = .ok (.invokevirtual 373, 3) := dk_182 1 117 (dk_at dksX8_pass_6 19 rfl rfl)
theorem dX8_pass_163 : decode cX8_pass 163 = .ok (.iinc 4 1, 3) := dk_132 4 1 (dk_at dksX8_pass_7 0 rfl rfl)
theorem dX8_pass_166 : decode cX8_pass 166 = .ok (.goto (-30), 3) := dk_167 255 226 (dk_at dksX8_pass_7 3 rfl rfl)
theorem dX8_pass_169 : decode cX8_pass 169 = .ok (.aload_n 0, 1) := dk_42 (dk_at dksX8_pass_7 6 rfl rfl)
theorem dX8_pass_170 : decode cX8_pass 170 = .ok (.getfield 16, 3) := dk_180 0 16 (dk_at dksX8_pass_7 7 rfl rfl)
theorem dX8_pass_173 : decode cX8_pass 173 = .ok (.invokevirtual 195, 3) := dk_182 0 195 (dk_at dksX8_pass_7 10 rfl rfl)
theorem dX8_pass_176 : decode cX8_pass 176 = .ok (.astore 4, 2) := dk_58 4 (dk_at dksX8_pass_7 13 rfl rfl)
theorem dX8_pass_178 : decode cX8_pass 178 = .ok (.aload 4, 2) := dk_25 4 (dk_at dksX8_pass_7 15 rfl rfl)
theorem dX8_pass_180 : decode cX8_pass 180 = .ok (.invokeinterface 199 1, 5) := by decide +kernel
theorem dX8_pass_185 : decode cX8_pass 185 = .ok (.ifCond .eq 24, 3) := dk_153 0 24 (dk_at dksX8_pass_8 0 rfl rfl)
theorem dX8_pass_188 : decode cX8_pass 188 = .ok (.aload 4, 2) := dk_25 4 (dk_at dksX8_pass_8 3 rfl rfl)
theorem dX8_pass_190 : decode cX8_pass 190 = .ok (.invokeinterface 204 1, 5) := by decide +kernel
theorem dX8_pass_195 : decode cX8_pass 195 = .ok (.checkcast 68, 3) := dk_192 0 68 (dk_at dksX8_pass_8 10 rfl rfl)
theorem dX8_pass_198 : decode cX8_pass 198 = .ok (.astore 5, 2) := dk_58 5 (dk_at dksX8_pass_8 13 rfl rfl)
theorem dX8_pass_200 : decode cX8_pass 200 = .ok (.aload_n 0, 1) := dk_42 (dk_at dksX8_pass_8 15 rfl rfl)
theorem dX8_pass_201 : decode cX8_pass 201 = .ok (.aload 5, 2) := dk_25 5 (dk_at dksX8_pass_8 16 rfl rfl)
theorem dX8_pass_203 : decode cX8_pass 203 = .ok (.invokevirtual 376, 3) := dk_182 1 120 (dk_at dksX8_pass_8 18 rfl rfl)
theorem dX8_pass_206 : decode cX8_pass 206 = .ok (.goto (-28), 3) := dk_167 255 228 (dk_at dksX8_pass_8 21 rfl rfl)
theorem dX8_pass_209 : decode cX8_pass 209 = .ok (.aload_n 0, 1) := dk_42 (dk_at dksX8_pass_9 0 rfl rfl)
theorem dX8_pass_210 : decode cX8_pass 210 = .ok (.getfield 16, 3) := dk_180 0 16 (dk_at dksX8_pass_9 1 rfl rfl)
theorem dX8_pass_213 : decode cX8_pass 213 = .ok (.invokevirtual 195, 3) := dk_182 0 195 (dk_at dksX8_pass_9 4 rfl rfl)
theorem dX8_pass_216 : decode cX8_pass 216 = .ok (.astore 4, 2) := dk_58 4 (dk_at dksX8_pass_9 7 rfl rfl)
theorem dX8_pass_218 : decode cX8_pass 218 = .ok (.aload 4, 2) := dk_25 4 (dk_at dksX8_pass_9 9 rfl rfl)
theorem dX8_pass_220 : decode cX8_pass 220 = .ok (.invokeinterface 199 1, 5) := by decide +kernel
theorem dX8_pass_225 : decode cX8_pass 225 = .ok (.ifCond .eq 29, 3) := dk_153 0 29 (dk_at dksX8_pass_9 16 rfl rfl)
theorem dX8_pass_228 : decode cX8_pass 228 = .ok (.aload 4, 2) := dk_25 4 (dk_at dksX8_pass_9 19 rfl rfl)
theorem dX8_pass_230 : decode cX8_pass 230 = .ok (.invokeinterface 204 1, 5) := by decide +kernel
theorem dX8_pass_235 : decode cX8_pass 235 = .ok (.checkcast 68, 3) := dk_192 0 68 (dk_at dksX8_pass_10 5 rfl rfl)
theorem dX8_pass_238 : decode cX8_pass 238 = .ok (.astore 5, 2) := dk_58 5 (dk_at dksX8_pass_10 8 rfl rfl)
theorem dX8_pass_240 : decode cX8_pass 240 = .ok (.iload_n 3, 1) := dk_29 (dk_at dksX8_pass_10 10 rfl rfl)
theorem dX8_pass_241 : decode cX8_pass 241 = .ok (.iconst 3, 1) := dk_6 (dk_at dksX8_pass_10 11 rfl rfl)
theorem dX8_pass_242 : decode cX8_pass 242 = .ok (.if_icmp .ne 9, 3) := dk_160 0 9 (dk_at dksX8_pass_10 12 rfl rfl)
theorem dX8_pass_245 : decode cX8_pass 245 = .ok (.aload_n 0, 1) := dk_42 (dk_at dksX8_pass_10 15 rfl rfl)
theorem dX8_pass_246 : decode cX8_pass 246 = .ok (.aload 5, 2) := dk_25 5 (dk_at dksX8_pass_10 16 rfl rfl)
theorem dX8_pass_248 : decode cX8_pass 248 = .ok (.invokevirtual 380, 3) := dk_182 1 124 (dk_at dksX8_pass_10 18 rfl rfl)
theorem dX8_pass_251 : decode cX8_pass 251 = .ok (.goto (-33), 3) := dk_167 255 223 (dk_at dksX8_pass_10 21 rfl rfl)
theorem dX8_pass_254 : decode cX8_pass 254 = .ok (.iinc 2 1, 3) := dk_132 2 1 (dk_at dksX8_pass_11 0 rfl rfl)
theorem dX8_pass_257 : decode cX8_pass 257 = .ok (.goto (-205), 3) := dk_167 255 51 (dk_at dksX8_pass_11 3 rfl rfl)
theorem dX8_pass_260 : decode cX8_pass 260 = .ok (.aload_n 0, 1) := dk_42 (dk_at dksX8_pass_11 6 rfl rfl)
theorem dX8_pass_261 : decode cX8_pass 261 = .ok (.getfield 64, 3) := dk_180 0 64 (dk_at dksX8_pass_11 7 rfl rfl)
theorem dX8_pass_264 : decode cX8_pass 264 = .ok (.ireturn, 1) := dk_172 (dk_at dksX8_pass_11 10 rfl rfl)
abbrev cX8_spring : ByteArray := prog_19_method_57_code
def yX8_spring : MethodName := ⟨RX8, "spring", "()V"⟩
def dkwX8_spring_8 : List UInt8 := [160, 0, 19, 45, 180, 1, 13, 45, 180, 0, 222, 162, 0, 8, 42, 45, 182, 1, 9, 167, 255, 213, 177]
abbrev dktX8_spring_8 : List UInt8 := dkwX8_spring_8 ++ []
def dkwX8_spring_7 : List UInt8 := [44, 185, 0, 199, 1, 0, 153, 0, 40, 44, 185, 0, 204, 1, 0, 192, 0, 208, 78, 45, 180, 0, 210, 4]
abbrev dktX8_spring_7 : List UInt8 := dkwX8_spring_7 ++ dktX8_spring_8
def dkwX8_spring_6 : List UInt8 := [45, 180, 1, 90, 6, 104, 16, 20, 108, 96, 181, 1, 90, 167, 255, 209, 42, 180, 0, 23, 182, 0, 195, 77]
abbrev dktX8_spring_6 : List UInt8 := dkwX8_spring_6 ++ dktX8_spring_7
def dkwX8_spring_5 : List UInt8 := [185, 0, 204, 1, 0, 192, 0, 68, 78, 45, 3, 181, 0, 108, 45, 3, 181, 0, 67, 45, 89, 180, 1, 90]
abbrev dktX8_spring_5 : List UInt8 := dkwX8_spring_5 ++ dktX8_spring_6
def dkwX8_spring_4 : List UInt8 := [181, 0, 112, 42, 180, 0, 16, 182, 0, 195, 77, 44, 185, 0, 199, 1, 0, 153, 0, 44, 44]
abbrev dktX8_spring_4 : List UInt8 := dkwX8_spring_4 ++ dktX8_spring_5
def dkwX8_spring_3 : List UInt8 := [79, 4, 60, 132, 2, 1, 167, 255, 202, 42, 89, 180, 0, 112, 27, 153, 0, 7, 4, 167, 0, 4, 3, 96]
abbrev dktX8_spring_3 : List UInt8 := dkwX8_spring_3 ++ dktX8_spring_4
def dkwX8_spring_2 : List UInt8 := [180, 0, 33, 28, 46, 79, 42, 180, 0, 30, 28, 42, 180, 0, 36, 28, 46, 79, 42, 180, 0, 33, 28, 2]
abbrev dktX8_spring_2 : List UInt8 := dkwX8_spring_2 ++ dktX8_spring_3
def dkwX8_spring_1 : List UInt8 := [162, 0, 55, 42, 180, 0, 33, 28, 46, 2, 160, 0, 6, 167, 0, 36, 42, 180, 0, 26, 28, 42]
abbrev dktX8_spring_1 : List UInt8 := dkwX8_spring_1 ++ dktX8_spring_2
def dkwX8_spring_0 : List UInt8 := [42, 16, 7, 42, 180, 0, 7, 104, 7, 96, 16, 11, 112, 181, 0, 7, 3, 60, 3, 61, 28, 6]
abbrev dktX8_spring_0 : List UInt8 := dkwX8_spring_0 ++ dktX8_spring_1
theorem dksX8_spring_0 : cX8_spring.data.toList.drop 0 = dktX8_spring_0 := by decide +kernel
theorem dksX8_spring_1 : cX8_spring.data.toList.drop 22 = dktX8_spring_1 := dk_seg dksX8_spring_0 22 rfl rfl
theorem dksX8_spring_2 : cX8_spring.data.toList.drop 44 = dktX8_spring_2 := dk_seg dksX8_spring_1 22 rfl rfl
theorem dksX8_spring_3 : cX8_spring.data.toList.drop 68 = dktX8_spring_3 := dk_seg dksX8_spring_2 24 rfl rfl
theorem dksX8_spring_4 : cX8_spring.data.toList.drop 92 = dktX8_spring_4 := dk_seg dksX8_spring_3 24 rfl rfl
theorem dksX8_spring_5 : cX8_spring.data.toList.drop 113 = dktX8_spring_5 := dk_seg dksX8_spring_4 21 rfl rfl
theorem dksX8_spring_6 : cX8_spring.data.toList.drop 137 = dktX8_spring_6 := dk_seg dksX8_spring_5 24 rfl rfl
theorem dksX8_spring_7 : cX8_spring.data.toList.drop 161 = dktX8_spring_7 := dk_seg dksX8_spring_6 24 rfl rfl
theorem dksX8_spring_8 : cX8_spring.data.toList.drop 185 = dktX8_spring_8 := dk_seg dksX8_spring_7 24 rfl rfl
theorem dX8_spring_0 : decode cX8_spring 0 = .ok (.aload_n 0, 1) := dk_42 (dk_at dksX8_spring_0 0 rfl rfl)
theorem dX8_spring_1 : decode cX8_spring 1 = .ok (.bipush 7, 2) := dk_16 7 (dk_at dksX8_spring_0 1 rfl rfl)
theorem dX8_spring_3 : decode cX8_spring 3 = .ok (.aload_n 0, 1) := dk_42 (dk_at dksX8_spring_0 3 rfl rfl)
theorem dX8_spring_4 : decode cX8_spring 4 = .ok (.getfield 7, 3) := dk_180 0 7 (dk_at dksX8_spring_0 4 rfl rfl)
theorem dX8_spring_7 : decode cX8_spring 7 = .ok (.imul, 1) := dk_104 (dk_at dksX8_spring_0 7 rfl rfl)
theorem dX8_spring_8 : decode cX8_spring 8 = .ok (.iconst 4, 1) := dk_7 (dk_at dksX8_spring_0 8 rfl rfl)
theorem dX8_spring_9 : decode cX8_spring 9 = .ok (.iadd, 1) := dk_96 (dk_at dksX8_spring_0 9 rfl rfl)
theorem dX8_spring_10 : decode cX8_spring 10 = .ok (.bipush 11, 2) := dk_16 11 (dk_at dksX8_spring_0 10 rfl rfl)
theorem dX8_spring_12 : decode cX8_spring 12 = .ok (.irem, 1) := dk_112 (dk_at dksX8_spring_0 12 rfl rfl)
theorem dX8_spring_13 : decode cX8_spring 13 = .ok (.putfield 7, 3) := dk_181 0 7 (dk_at dksX8_spring_0 13 rfl rfl)
theorem dX8_spring_16 : decode cX8_spring 16 = .ok (.iconst 0, 1) := dk_3 (dk_at dksX8_spring_0 16 rfl rfl)
theorem dX8_spring_17 : decode cX8_spring 17 = .ok (.istore_n 1, 1) := dk_60 (dk_at dksX8_spring_0 17 rfl rfl)
theorem dX8_spring_18 : decode cX8_spring 18 = .ok (.iconst 0, 1) := dk_3 (dk_at dksX8_spring_0 18 rfl rfl)
theorem dX8_spring_19 : decode cX8_spring 19 = .ok (.istore_n 2, 1) := dk_61 (dk_at dksX8_spring_0 19 rfl rfl)
theorem dX8_spring_20 : decode cX8_spring 20 = .ok (.iload_n 2, 1) := dk_28 (dk_at dksX8_spring_0 20 rfl rfl)
theorem dX8_spring_21 : decode cX8_spring 21 = .ok (.iconst 3, 1) := dk_6 (dk_at dksX8_spring_0 21 rfl rfl)
theorem dX8_spring_22 : decode cX8_spring 22 = .ok (.if_icmp .ge 55, 3) := dk_162 0 55 (dk_at dksX8_spring_1 0 rfl rfl)
theorem dX8_spring_25 : decode cX8_spring 25 = .ok (.aload_n 0, 1) := dk_42 (dk_at dksX8_spring_1 3 rfl rfl)
theorem dX8_spring_26 : decode cX8_spring 26 = .ok (.getfield 33, 3) := dk_180 0 33 (dk_at dksX8_spring_1 4 rfl rfl)
theorem dX8_spring_29 : decode cX8_spring 29 = .ok (.iload_n 2, 1) := dk_28 (dk_at dksX8_spring_1 7 rfl rfl)
theorem dX8_spring_30 : decode cX8_spring 30 = .ok (.iaload, 1) := dk_46 (dk_at dksX8_spring_1 8 rfl rfl)
theorem dX8_spring_31 : decode cX8_spring 31 = .ok (.iconst (-1), 1) := dk_2 (dk_at dksX8_spring_1 9 rfl rfl)
theorem dX8_spring_32 : decode cX8_spring 32 = .ok (.if_icmp .ne 6, 3) := dk_160 0 6 (dk_at dksX8_spring_1 10 rfl rfl)
theorem dX8_spring_35 : decode cX8_spring 35 = .ok (.goto 36, 3) := dk_167 0 36 (dk_at dksX8_spring_1 13 rfl rfl)
theorem dX8_spring_38 : decode cX8_spring 38 = .ok (.aload_n 0, 1) := dk_42 (dk_at dksX8_spring_1 16 rfl rfl)
theorem dX8_spring_39 : decode cX8_spring 39 = .ok (.getfield 26, 3) := dk_180 0 26 (dk_at dksX8_spring_1 17 rfl rfl)
theorem dX8_spring_42 : decode cX8_spring 42 = .ok (.iload_n 2, 1) := dk_28 (dk_at dksX8_spring_1 20 rfl rfl)
theorem dX8_spring_43 : decode cX8_spring 43 = .ok (.aload_n 0, 1) := dk_42 (dk_at dksX8_spring_1 21 rfl rfl)
theorem dX8_spring_44 : decode cX8_spring 44 = .ok (.getfield 33, 3) := dk_180 0 33 (dk_at dksX8_spring_2 0 rfl rfl)
theorem dX8_spring_47 : decode cX8_spring 47 = .ok (.iload_n 2, 1) := dk_28 (dk_at dksX8_spring_2 3 rfl rfl)
theorem dX8_spring_48 : decode cX8_spring 48 = .ok (.iaload, 1) := dk_46 (dk_at dksX8_spring_2 4 rfl rfl)
theorem dX8_spring_49 : decode cX8_spring 49 = .ok (.iastore, 1) := dk_79 (dk_at dksX8_spring_2 5 rfl rfl)
theorem dX8_spring_50 : decode cX8_spring 50 = .ok (.aload_n 0, 1) := dk_42 (dk_at dksX8_spring_2 6 rfl rfl)
theorem dX8_spring_51 : decode cX8_spring 51 = .ok (.getfield 30, 3) := dk_180 0 30 (dk_at dksX8_spring_2 7 rfl rfl)
theorem dX8_spring_54 : decode cX8_spring 54 = .ok (.iload_n 2, 1) := dk_28 (dk_at dksX8_spring_2 10 rfl rfl)
theorem dX8_spring_55 : decode cX8_spring 55 = .ok (.aload_n 0, 1) := dk_42 (dk_at dksX8_spring_2 11 rfl rfl)
theorem dX8_spring_56 : decode cX8_spring 56 = .ok (.getfield 36, 3) := dk_180 0 36 (dk_at dksX8_spring_2 12 rfl rfl)
theorem dX8_spring_59 : decode cX8_spring 59 = .ok (.iload_n 2, 1) := dk_28 (dk_at dksX8_spring_2 15 rfl rfl)
theorem dX8_spring_60 : decode cX8_spring 60 = .ok (.iaload, 1) := dk_46 (dk_at dksX8_spring_2 16 rfl rfl)
theorem dX8_spring_61 : decode cX8_spring 61 = .ok (.iastore, 1) := dk_79 (dk_at dksX8_spring_2 17 rfl rfl)
theorem dX8_spring_62 : decode cX8_spring 62 = .ok (.aload_n 0, 1) := dk_42 (dk_at dksX8_spring_2 18 rfl rfl)
theorem dX8_spring_63 : decode cX8_spring 63 = .ok (.getfield 33, 3) := dk_180 0 33 (dk_at dksX8_spring_2 19 rfl rfl)
theorem dX8_spring_66 : decode cX8_spring 66 = .ok (.iload_n 2, 1) := dk_28 (dk_at dksX8_spring_2 22 rfl rfl)
theorem dX8_spring_67 : decode cX8_spring 67 = .ok (.iconst (-1), 1) := dk_2 (dk_at dksX8_spring_2 23 rfl rfl)
theorem dX8_spring_68 : decode cX8_spring 68 = .ok (.iastore, 1) := dk_79 (dk_at dksX8_spring_3 0 rfl rfl)
theorem dX8_spring_69 : decode cX8_spring 69 = .ok (.iconst 1, 1) := dk_4 (dk_at dksX8_spring_3 1 rfl rfl)
theorem dX8_spring_70 : decode cX8_spring 70 = .ok (.istore_n 1, 1) := dk_60 (dk_at dksX8_spring_3 2 rfl rfl)
theorem dX8_spring_71 : decode cX8_spring 71 = .ok (.iinc 2 1, 3) := dk_132 2 1 (dk_at dksX8_spring_3 3 rfl rfl)
theorem dX8_spring_74 : decode cX8_spring 74 = .ok (.goto (-54), 3) := dk_167 255 202 (dk_at dksX8_spring_3 6 rfl rfl)
theorem dX8_spring_77 : decode cX8_spring 77 = .ok (.aload_n 0, 1) := dk_42 (dk_at dksX8_spring_3 9 rfl rfl)
theorem dX8_spring_78 : decode cX8_spring 78 = .ok (.dup, 1) := dk_89 (dk_at dksX8_spring_3 10 rfl rfl)
theorem dX8_spring_79 : decode cX8_spring 79 = .ok (.getfield 112, 3) := dk_180 0 112 (dk_at dksX8_spring_3 11 rfl rfl)
theorem dX8_spring_82 : decode cX8_spring 82 = .ok (.iload_n 1, 1) := dk_27 (dk_at dksX8_spring_3 14 rfl rfl)
theorem dX8_spring_83 : decode cX8_spring 83 = .ok (.ifCond .eq 7, 3) := dk_153 0 7 (dk_at dksX8_spring_3 15 rfl rfl)
theorem dX8_spring_86 : decode cX8_spring 86 = .ok (.iconst 1, 1) := dk_4 (dk_at dksX8_spring_3 18 rfl rfl)
theorem dX8_spring_87 : decode cX8_spring 87 = .ok (.goto 4, 3) := dk_167 0 4 (dk_at dksX8_spring_3 19 rfl rfl)
theorem dX8_spring_90 : decode cX8_spring 90 = .ok (.iconst 0, 1) := dk_3 (dk_at dksX8_spring_3 22 rfl rfl)
theorem dX8_spring_91 : decode cX8_spring 91 = .ok (.iadd, 1) := dk_96 (dk_at dksX8_spring_3 23 rfl rfl)
theorem dX8_spring_92 : decode cX8_spring 92 = .ok (.putfield 112, 3) := dk_181 0 112 (dk_at dksX8_spring_4 0 rfl rfl)
theorem dX8_spring_95 : decode cX8_spring 95 = .ok (.aload_n 0, 1) := dk_42 (dk_at dksX8_spring_4 3 rfl rfl)
theorem dX8_spring_96 : decode cX8_spring 96 = .ok (.getfield 16, 3) := dk_180 0 16 (dk_at dksX8_spring_4 4 rfl rfl)
theorem dX8_spring_99 : decode cX8_spring 99 = .ok (.invokevirtual 195, 3) := dk_182 0 195 (dk_at dksX8_spring_4 7 rfl rfl)
theorem dX8_spring_102 : decode cX8_spring 102 = .ok (.astore_n 2, 1) := dk_77 (dk_at dksX8_spring_4 10 rfl rfl)
theorem dX8_spring_103 : decode cX8_spring 103 = .ok (.aload_n 2, 1) := dk_44 (dk_at dksX8_spring_4 11 rfl rfl)
theorem dX8_spring_104 : decode cX8_spring 104 = .ok (.invokeinterface 199 1, 5) := by decide +kernel
theorem dX8_spring_109 : decode cX8_spring 109 = .ok (.ifCond .eq 44, 3) := dk_153 0 44 (dk_at dksX8_spring_4 17 rfl rfl)
theorem dX8_spring_112 : decode cX8_spring 112 = .ok (.aload_n 2, 1) := dk_44 (dk_at dksX8_spring_4 20 rfl rfl)
theorem dX8_spring_113 : decode cX8_spring 113 = .ok (.invokeinterface 204 1, 5) := by decide +kernel
theorem dX8_spring_118 : decode cX8_spring 118 = .ok (.checkcast 68, 3) := dk_192 0 68 (dk_at dksX8_spring_5 5 rfl rfl)
theorem dX8_spring_121 : decode cX8_spring 121 = .ok (.astore_n 3, 1) := dk_78 (dk_at dksX8_spring_5 8 rfl rfl)
theorem dX8_spring_122 : decode cX8_spring 122 = .ok (.aload_n 3, 1) := dk_45 (dk_at dksX8_spring_5 9 rfl rfl)
theorem dX8_spring_123 : decode cX8_spring 123 = .ok (.iconst 0, 1) := dk_3 (dk_at dksX8_spring_5 10 rfl rfl)
theorem dX8_spring_124 : decode cX8_spring 124 = .ok (.putfield 108, 3) := dk_181 0 108 (dk_at dksX8_spring_5 11 rfl rfl)
theorem dX8_spring_127 : decode cX8_spring 127 = .ok (.aload_n 3, 1) := dk_45 (dk_at dksX8_spring_5 14 rfl rfl)
theorem dX8_spring_128 : decode cX8_spring 128 = .ok (.iconst 0, 1) := dk_3 (dk_at dksX8_spring_5 15 rfl rfl)
theorem dX8_spring_129 : decode cX8_spring 129 = .ok (.putfield 67, 3) := dk_181 0 67 (dk_at dksX8_spring_5 16 rfl rfl)
theorem dX8_spring_132 : decode cX8_spring 132 = .ok (.aload_n 3, 1) := dk_45 (dk_at dksX8_spring_5 19 rfl rfl)
theorem dX8_spring_133 : decode cX8_spring 133 = .ok (.dup, 1) := dk_89 (dk_at dksX8_spring_5 20 rfl rfl)
theorem dX8_spring_134 : decode cX8_spring 134 = .ok (.getfield 346, 3) := dk_180 1 90 (dk_at dksX8_spring_5 21 rfl rfl)
theorem dX8_spring_137 : decode cX8_spring 137 = .ok (.aload_n 3, 1) := dk_45 (dk_at dksX8_spring_6 0 rfl rfl)
theorem dX8_spring_138 : decode cX8_spring 138 = .ok (.getfield 346, 3) := dk_180 1 90 (dk_at dksX8_spring_6 1 rfl rfl)
theorem dX8_spring_141 : decode cX8_spring 141 = .ok (.iconst 3, 1) := dk_6 (dk_at dksX8_spring_6 4 rfl rfl)
theorem dX8_spring_142 : decode cX8_spring 142 = .ok (.imul, 1) := dk_104 (dk_at dksX8_spring_6 5 rfl rfl)
theorem dX8_spring_143 : decode cX8_spring 143 = .ok (.bipush 20, 2) := dk_16 20 (dk_at dksX8_spring_6 6 rfl rfl)
theorem dX8_spring_145 : decode cX8_spring 145 = .ok (.idiv, 1) := dk_108 (dk_at dksX8_spring_6 8 rfl rfl)
theorem dX8_spring_146 : decode cX8_spring 146 = .ok (.iadd, 1) := dk_96 (dk_at dksX8_spring_6 9 rfl rfl)
theorem dX8_spring_147 : decode cX8_spring 147 = .ok (.putfield 346, 3) := dk_181 1 90 (dk_at dksX8_spring_6 10 rfl rfl)
theorem dX8_spring_150 : decode cX8_spring 150 = .ok (.goto (-47), 3) := dk_167 255 209 (dk_at dksX8_spring_6 13 rfl rfl)
theorem dX8_spring_153 : decode cX8_spring 153 = .ok (.aload_n 0, 1) := dk_42 (dk_at dksX8_spring_6 16 rfl rfl)
theorem dX8_spring_154 : decode cX8_spring 154 = .ok (.getfield 23, 3) := dk_180 0 23 (dk_at dksX8_spring_6 17 rfl rfl)
theorem dX8_spring_157 : decode cX8_spring 157 = .ok (.invokevirtual 195, 3) := dk_182 0 195 (dk_at dksX8_spring_6 20 rfl rfl)
theorem dX8_spring_160 : decode cX8_spring 160 = .ok (.astore_n 2, 1) := dk_77 (dk_at dksX8_spring_6 23 rfl rfl)
theorem dX8_spring_161 : decode cX8_spring 161 = .ok (.aload_n 2, 1) := dk_44 (dk_at dksX8_spring_7 0 rfl rfl)
theorem dX8_spring_162 : decode cX8_spring 162 = .ok (.invokeinterface 199 1, 5) := by decide +kernel
theorem dX8_spring_167 : decode cX8_spring 167 = .ok (.ifCond .eq 40, 3) := dk_153 0 40 (dk_at dksX8_spring_7 6 rfl rfl)
theorem dX8_spring_170 : decode cX8_spring 170 = .ok (.aload_n 2, 1) := dk_44 (dk_at dksX8_spring_7 9 rfl rfl)
theorem dX8_spring_171 : decode cX8_spring 171 = .ok (.invokeinterface 204 1, 5) := by decide +kernel
theorem dX8_spring_176 : decode cX8_spring 176 = .ok (.checkcast 208, 3) := dk_192 0 208 (dk_at dksX8_spring_7 15 rfl rfl)
theorem dX8_spring_179 : decode cX8_spring 179 = .ok (.astore_n 3, 1) := dk_78 (dk_at dksX8_spring_7 18 rfl rfl)
theorem dX8_spring_180 : decode cX8_spring 180 = .ok (.aload_n 3, 1) := dk_45 (dk_at dksX8_spring_7 19 rfl rfl)
theorem dX8_spring_181 : decode cX8_spring 181 = .ok (.getfield 210, 3) := dk_180 0 210 (dk_at dksX8_spring_7 20 rfl rfl)
theorem dX8_spring_184 : decode cX8_spring 184 = .ok (.iconst 1, 1) := dk_4 (dk_at dksX8_spring_7 23 rfl rfl)
theorem dX8_spring_185 : decode cX8_spring 185 = .ok (.if_icmp .ne 19, 3) := dk_160 0 19 (dk_at dksX8_spring_8 0 rfl rfl)
theorem dX8_spring_188 : decode cX8_spring 188 = .ok (.aload_n 3, 1) := dk_45 (dk_at dksX8_spring_8 3 rfl rfl)
theorem dX8_spring_189 : decode cX8_spring 189 = .ok (.getfield 269, 3) := dk_180 1 13 (dk_at dksX8_spring_8 4 rfl rfl)
theorem dX8_spring_192 : decode cX8_spring 192 = .ok (.aload_n 3, 1) := dk_45 (dk_at dksX8_spring_8 7 rfl rfl)
theorem dX8_spring_193 : decode cX8_spring 193 = .ok (.getfield 222, 3) := dk_180 0 222 (dk_at dksX8_spring_8 8 rfl rfl)
theorem dX8_spring_196 : decode cX8_spring 196 = .ok (.if_icmp .ge 8, 3) := dk_162 0 8 (dk_at dksX8_spring_8 11 rfl rfl)
theorem dX8_spring_199 : decode cX8_spring 199 = .ok (.aload_n 0, 1) := dk_42 (dk_at dksX8_spring_8 14 rfl rfl)
theorem dX8_spring_200 : decode cX8_spring 200 = .ok (.aload_n 3, 1) := dk_45 (dk_at dksX8_spring_8 15 rfl rfl)
theorem dX8_spring_201 : decode cX8_spring 201 = .ok (.invokevirtual 265, 3) := dk_182 1 9 (dk_at dksX8_spring_8 16 rfl rfl)
theorem dX8_spring_204 : decode cX8_spring 204 = .ok (.goto (-43), 3) := dk_167 255 213 (dk_at dksX8_spring_8 19 rfl rfl)
theorem dX8_spring_207 : decode cX8_spring 207 = .ok (.return_, 1) := dk_177 (dk_at dksX8_spring_8 22 rfl rfl)
abbrev cX8_summer : ByteArray := prog_19_method_58_code
def yX8_summer : MethodName := ⟨RX8, "summer", "()V"⟩
def dkwX8_summer_3 : List UInt8 := [184, 0, 93, 181, 0, 72, 167, 255, 190, 177]
abbrev dktX8_summer_3 : List UInt8 := dkwX8_summer_3 ++ []
def dkwX8_summer_2 : List UInt8 := [180, 0, 67, 96, 181, 0, 128, 44, 17, 2, 88, 44, 180, 0, 72, 44, 180, 0, 72, 16, 10, 108, 96]
abbrev dktX8_summer_2 : List UInt8 := dkwX8_summer_2 ++ dktX8_summer_3
def dkwX8_summer_1 : List UInt8 := [192, 0, 68, 77, 44, 44, 42, 180, 0, 7, 184, 1, 105, 181, 0, 67, 44, 89, 180, 0, 128, 44]
abbrev dktX8_summer_1 : List UInt8 := dkwX8_summer_1 ++ dktX8_summer_2
def dkwX8_summer_0 : List UInt8 := [42, 180, 0, 16, 182, 0, 195, 76, 43, 185, 0, 199, 1, 0, 153, 0, 63, 43, 185, 0, 204, 1, 0]
abbrev dktX8_summer_0 : List UInt8 := dkwX8_summer_0 ++ dktX8_summer_1
theorem dksX8_summer_0 : cX8_summer.data.toList.drop 0 = dktX8_summer_0 := by decide +kernel
theorem dksX8_summer_1 : cX8_summer.data.toList.drop 23 = dktX8_summer_1 := dk_seg dksX8_summer_0 23 rfl rfl
theorem dksX8_summer_2 : cX8_summer.data.toList.drop 45 = dktX8_summer_2 := dk_seg dksX8_summer_1 22 rfl rfl
theorem dksX8_summer_3 : cX8_summer.data.toList.drop 68 = dktX8_summer_3 := dk_seg dksX8_summer_2 23 rfl rfl
theorem dX8_summer_0 : decode cX8_summer 0 = .ok (.aload_n 0, 1) := dk_42 (dk_at dksX8_summer_0 0 rfl rfl)
theorem dX8_summer_1 : decode cX8_summer 1 = .ok (.getfield 16, 3) := dk_180 0 16 (dk_at dksX8_summer_0 1 rfl rfl)
theorem dX8_summer_4 : decode cX8_summer 4 = .ok (.invokevirtual 195, 3) := dk_182 0 195 (dk_at dksX8_summer_0 4 rfl rfl)
theorem dX8_summer_7 : decode cX8_summer 7 = .ok (.astore_n 1, 1) := dk_76 (dk_at dksX8_summer_0 7 rfl rfl)
theorem dX8_summer_8 : decode cX8_summer 8 = .ok (.aload_n 1, 1) := dk_43 (dk_at dksX8_summer_0 8 rfl rfl)
theorem dX8_summer_9 : decode cX8_summer 9 = .ok (.invokeinterface 199 1, 5) := by decide +kernel
theorem dX8_summer_14 : decode cX8_summer 14 = .ok (.ifCond .eq 63, 3) := dk_153 0 63 (dk_at dksX8_summer_0 14 rfl rfl)
theorem dX8_summer_17 : decode cX8_summer 17 = .ok (.aload_n 1, 1) := dk_43 (dk_at dksX8_summer_0 17 rfl rfl)
theorem dX8_summer_18 : decode cX8_summer 18 = .ok (.invokeinterface 204 1, 5) := by decide +kernel
theorem dX8_summer_23 : decode cX8_summer 23 = .ok (.checkcast 68, 3) := dk_192 0 68 (dk_at dksX8_summer_1 0 rfl rfl)
theorem dX8_summer_26 : decode cX8_summer 26 = .ok (.astore_n 2, 1) := dk_77 (dk_at dksX8_summer_1 3 rfl rfl)
theorem dX8_summer_27 : decode cX8_summer 27 = .ok (.aload_n 2, 1) := dk_44 (dk_at dksX8_summer_1 4 rfl rfl)
theorem dX8_summer_28 : decode cX8_summer 28 = .ok (.aload_n 2, 1) := dk_44 (dk_at dksX8_summer_1 5 rfl rfl)
theorem dX8_summer_29 : decode cX8_summer 29 = .ok (.aload_n 0, 1) := dk_42 (dk_at dksX8_summer_1 6 rfl rfl)
theorem dX8_summer_30 : decode cX8_summer 30 = .ok (.getfield 7, 3) := dk_180 0 7 (dk_at dksX8_summer_1 7 rfl rfl)
theorem dX8_summer_33 : decode cX8_summer 33 = .ok (.invokestatic 361, 3) := dk_184 1 105 (dk_at dksX8_summer_1 10 rfl rfl)
theorem dX8_summer_36 : decode cX8_summer 36 = .ok (.putfield 67, 3) := dk_181 0 67 (dk_at dksX8_summer_1 13 rfl rfl)
theorem dX8_summer_39 : decode cX8_summer 39 = .ok (.aload_n 2, 1) := dk_44 (dk_at dksX8_summer_1 16 rfl rfl)
theorem dX8_summer_40 : decode cX8_summer 40 = .ok (.dup, 1) := dk_89 (dk_at dksX8_summer_1 17 rfl rfl)
theorem dX8_summer_41 : decode cX8_summer 41 = .ok (.getfield 128, 3) := dk_180 0 128 (dk_at dksX8_summer_1 18 rfl rfl)
theorem dX8_summer_44 : decode cX8_summer 44 = .ok (.aload_n 2, 1) := dk_44 (dk_at dksX8_summer_1 21 rfl rfl)
theorem dX8_summer_45 : decode cX8_summer 45 = .ok (.getfield 67, 3) := dk_180 0 67 (dk_at dksX8_summer_2 0 rfl rfl)
theorem dX8_summer_48 : decode cX8_summer 48 = .ok (.iadd, 1) := dk_96 (dk_at dksX8_summer_2 3 rfl rfl)
theorem dX8_summer_49 : decode cX8_summer 49 = .ok (.putfield 128, 3) := dk_181 0 128 (dk_at dksX8_summer_2 4 rfl rfl)
theorem dX8_summer_52 : decode cX8_summer 52 = .ok (.aload_n 2, 1) := dk_44 (dk_at dksX8_summer_2 7 rfl rfl)
theorem dX8_summer_53 : decode cX8_summer 53 = .ok (.sipush 600, 3) := dk_17 2 88 (dk_at dksX8_summer_2 8 rfl rfl)
theorem dX8_summer_56 : decode cX8_summer 56 = .ok (.aload_n 2, 1) := dk_44 (dk_at dksX8_summer_2 11 rfl rfl)
theorem dX8_summer_57 : decode cX8_summer 57 = .ok (.getfield 72, 3) := dk_180 0 72 (dk_at dksX8_summer_2 12 rfl rfl)
theorem dX8_summer_60 : decode cX8_summer 60 = .ok (.aload_n 2, 1) := dk_44 (dk_at dksX8_summer_2 15 rfl rfl)
theorem dX8_summer_61 : decode cX8_summer 61 = .ok (.getfield 72, 3) := dk_180 0 72 (dk_at dksX8_summer_2 16 rfl rfl)
theorem dX8_summer_64 : decode cX8_summer 64 = .ok (.bipush 10, 2) := dk_16 10 (dk_at dksX8_summer_2 19 rfl rfl)
theorem dX8_summer_66 : decode cX8_summer 66 = .ok (.idiv, 1) := dk_108 (dk_at dksX8_summer_2 21 rfl rfl)
theorem dX8_summer_67 : decode cX8_summer 67 = .ok (.iadd, 1) := dk_96 (dk_at dksX8_summer_2 22 rfl rfl)
theorem dX8_summer_68 : decode cX8_summer 68 = .ok (.invokestatic 93, 3) := dk_184 0 93 (dk_at dksX8_summer_3 0 rfl rfl)
theorem dX8_summer_71 : decode cX8_summer 71 = .ok (.putfield 72, 3) := dk_181 0 72 (dk_at dksX8_summer_3 3 rfl rfl)
theorem dX8_summer_74 : decode cX8_summer 74 = .ok (.goto (-66), 3) := dk_167 255 190 (dk_at dksX8_summer_3 6 rfl rfl)
theorem dX8_summer_77 : decode cX8_summer 77 = .ok (.return_, 1) := dk_177 (dk_at dksX8_summer_3 9 rfl rfl)
abbrev cX8_yieldOf : ByteArray := prog_19_method_15_code
def yX8_yieldOf : MethodName := ⟨RX8, "yieldOf", "(LPublicanryModel$Village;I)I"⟩
def dkwX8_yieldOf_1 : List UInt8 := [28, 5, 108, 167, 0, 4, 28, 172]
abbrev dktX8_yieldOf_1 : List UInt8 := dkwX8_yieldOf_1 ++ []
def dkwX8_yieldOf_0 : List UInt8 := [42, 180, 0, 102, 42, 180, 0, 105, 104, 27, 5, 96, 104, 16, 60, 108, 61, 42, 180, 0, 108, 153, 0, 9]
abbrev dktX8_yieldOf_0 : List UInt8 := dkwX8_yieldOf_0 ++ dktX8_yieldOf_1
theorem dksX8_yieldOf_0 : cX8_yieldOf.data.toList.drop 0 = dktX8_yieldOf_0 := by decide +kernel
theorem dksX8_yieldOf_1 : cX8_yieldOf.data.toList.drop 24 = dktX8_yieldOf_1 := dk_seg dksX8_yieldOf_0 24 rfl rfl
theorem dX8_yieldOf_0 : decode cX8_yieldOf 0 = .ok (.aload_n 0, 1) := dk_42 (dk_at dksX8_yieldOf_0 0 rfl rfl)
theorem dX8_yieldOf_1 : decode cX8_yieldOf 1 = .ok (.getfield 102, 3) := dk_180 0 102 (dk_at dksX8_yieldOf_0 1 rfl rfl)
theorem dX8_yieldOf_4 : decode cX8_yieldOf 4 = .ok (.aload_n 0, 1) := dk_42 (dk_at dksX8_yieldOf_0 4 rfl rfl)
theorem dX8_yieldOf_5 : decode cX8_yieldOf 5 = .ok (.getfield 105, 3) := dk_180 0 105 (dk_at dksX8_yieldOf_0 5 rfl rfl)
theorem dX8_yieldOf_8 : decode cX8_yieldOf 8 = .ok (.imul, 1) := dk_104 (dk_at dksX8_yieldOf_0 8 rfl rfl)
theorem dX8_yieldOf_9 : decode cX8_yieldOf 9 = .ok (.iload_n 1, 1) := dk_27 (dk_at dksX8_yieldOf_0 9 rfl rfl)
theorem dX8_yieldOf_10 : decode cX8_yieldOf 10 = .ok (.iconst 2, 1) := dk_5 (dk_at dksX8_yieldOf_0 10 rfl rfl)
theorem dX8_yieldOf_11 : decode cX8_yieldOf 11 = .ok (.iadd, 1) := dk_96 (dk_at dksX8_yieldOf_0 11 rfl rfl)
theorem dX8_yieldOf_12 : decode cX8_yieldOf 12 = .ok (.imul, 1) := dk_104 (dk_at dksX8_yieldOf_0 12 rfl rfl)
theorem dX8_yieldOf_13 : decode cX8_yieldOf 13 = .ok (.bipush 60, 2) := dk_16 60 (dk_at dksX8_yieldOf_0 13 rfl rfl)
theorem dX8_yieldOf_15 : decode cX8_yieldOf 15 = .ok (.idiv, 1) := dk_108 (dk_at dksX8_yieldOf_0 15 rfl rfl)
theorem dX8_yieldOf_16 : decode cX8_yieldOf 16 = .ok (.istore_n 2, 1) := dk_61 (dk_at dksX8_yieldOf_0 16 rfl rfl)
theorem dX8_yieldOf_17 : decode cX8_yieldOf 17 = .ok (.aload_n 0, 1) := dk_42 (dk_at dksX8_yieldOf_0 17 rfl rfl)
theorem dX8_yieldOf_18 : decode cX8_yieldOf 18 = .ok (.getfield 108, 3) := dk_180 0 108 (dk_at dksX8_yieldOf_0 18 rfl rfl)
theorem dX8_yieldOf_21 : decode cX8_yieldOf 21 = .ok (.ifCond .eq 9, 3) := dk_153 0 9 (dk_at dksX8_yieldOf_0 21 rfl rfl)
theorem dX8_yieldOf_24 : decode cX8_yieldOf 24 = .ok (.iload_n 2, 1) := dk_28 (dk_at dksX8_yieldOf_1 0 rfl rfl)
theorem dX8_yieldOf_25 : decode cX8_yieldOf 25 = .ok (.iconst 2, 1) := dk_5 (dk_at dksX8_yieldOf_1 1 rfl rfl)
theorem dX8_yieldOf_26 : decode cX8_yieldOf 26 = .ok (.idiv, 1) := dk_108 (dk_at dksX8_yieldOf_1 2 rfl rfl)
theorem dX8_yieldOf_27 : decode cX8_yieldOf 27 = .ok (.goto 4, 3) := dk_167 0 4 (dk_at dksX8_yieldOf_1 3 rfl rfl)
theorem dX8_yieldOf_30 : decode cX8_yieldOf 30 = .ok (.iload_n 2, 1) := dk_28 (dk_at dksX8_yieldOf_1 6 rfl rfl)
theorem dX8_yieldOf_31 : decode cX8_yieldOf 31 = .ok (.ireturn, 1) := dk_172 (dk_at dksX8_yieldOf_1 7 rfl rfl)
abbrev cX8_collect : ByteArray := prog_19_method_50_code
def yX8_collect : MethodName := ⟨RX8, "collect", "(LPublicanryModel$Lot;)V"⟩
def dkwX8_collect_4 : List UInt8 := [181, 0, 210, 177]
abbrev dktX8_collect_4 : List UInt8 := dkwX8_collect_4 ++ []
def dkwX8_collect_3 : List UInt8 := [167, 255, 207, 43, 89, 180, 1, 6, 4, 100, 181, 1, 6, 43, 180, 1, 6, 154, 0, 8, 43, 5]
abbrev dktX8_collect_3 : List UInt8 := dkwX8_collect_3 ++ dktX8_collect_4
def dkwX8_collect_2 : List UInt8 := [29, 182, 0, 78, 192, 0, 68, 180, 1, 73, 154, 0, 10, 42, 43, 28, 29, 182, 1, 76, 132, 3, 1]
abbrev dktX8_collect_2 : List UInt8 := dkwX8_collect_2 ++ dktX8_collect_3
def dkwX8_collect_1 : List UInt8 := [180, 0, 16, 182, 0, 56, 162, 0, 44, 43, 180, 0, 216, 29, 184, 0, 82, 153, 0, 27, 42, 180, 0, 16]
abbrev dktX8_collect_1 : List UInt8 := dkwX8_collect_1 ++ dktX8_collect_2
def dkwX8_collect_0 : List UInt8 := [43, 180, 0, 210, 4, 159, 0, 4, 177, 42, 180, 0, 23, 43, 182, 1, 69, 61, 3, 62, 29, 42]
abbrev dktX8_collect_0 : List UInt8 := dkwX8_collect_0 ++ dktX8_collect_1
theorem dksX8_collect_0 : cX8_collect.data.toList.drop 0 = dktX8_collect_0 := by decide +kernel
theorem dksX8_collect_1 : cX8_collect.data.toList.drop 22 = dktX8_collect_1 := dk_seg dksX8_collect_0 22 rfl rfl
theorem dksX8_collect_2 : cX8_collect.data.toList.drop 46 = dktX8_collect_2 := dk_seg dksX8_collect_1 24 rfl rfl
theorem dksX8_collect_3 : cX8_collect.data.toList.drop 69 = dktX8_collect_3 := dk_seg dksX8_collect_2 23 rfl rfl
theorem dksX8_collect_4 : cX8_collect.data.toList.drop 91 = dktX8_collect_4 := dk_seg dksX8_collect_3 22 rfl rfl
theorem dX8_collect_0 : decode cX8_collect 0 = .ok (.aload_n 1, 1) := dk_43 (dk_at dksX8_collect_0 0 rfl rfl)
theorem dX8_collect_1 : decode cX8_collect 1 = .ok (.getfield 210, 3) := dk_180 0 210 (dk_at dksX8_collect_0 1 rfl rfl)
theorem dX8_collect_4 : decode cX8_collect 4 = .ok (.iconst 1, 1) := dk_4 (dk_at dksX8_collect_0 4 rfl rfl)
theorem dX8_collect_5 : decode cX8_collect 5 = .ok (.if_icmp .eq 4, 3) := dk_159 0 4 (dk_at dksX8_collect_0 5 rfl rfl)
theorem dX8_collect_8 : decode cX8_collect 8 = .ok (.return_, 1) := dk_177 (dk_at dksX8_collect_0 8 rfl rfl)
theorem dX8_collect_9 : decode cX8_collect 9 = .ok (.aload_n 0, 1) := dk_42 (dk_at dksX8_collect_0 9 rfl rfl)
theorem dX8_collect_10 : decode cX8_collect 10 = .ok (.getfield 23, 3) := dk_180 0 23 (dk_at dksX8_collect_0 10 rfl rfl)
theorem dX8_collect_13 : decode cX8_collect 13 = .ok (.aload_n 1, 1) := dk_43 (dk_at dksX8_collect_0 13 rfl rfl)
theorem dX8_collect_14 : decode cX8_collect 14 = .ok (.invokevirtual 325, 3) := dk_182 1 69 (dk_at dksX8_collect_0 14 rfl rfl)
theorem dX8_collect_17 : decode cX8_collect 17 = .ok (.istore_n 2, 1) := dk_61 (dk_at dksX8_collect_0 17 rfl rfl)
theorem dX8_collect_18 : decode cX8_collect 18 = .ok (.iconst 0, 1) := dk_3 (dk_at dksX8_collect_0 18 rfl rfl)
theorem dX8_collect_19 : decode cX8_collect 19 = .ok (.istore_n 3, 1) := dk_62 (dk_at dksX8_collect_0 19 rfl rfl)
theorem dX8_collect_20 : decode cX8_collect 20 = .ok (.iload_n 3, 1) := dk_29 (dk_at dksX8_collect_0 20 rfl rfl)
theorem dX8_collect_21 : decode cX8_collect 21 = .ok (.aload_n 0, 1) := dk_42 (dk_at dksX8_collect_0 21 rfl rfl)
theorem dX8_collect_22 : decode cX8_collect 22 = .ok (.getfield 16, 3) := dk_180 0 16 (dk_at dksX8_collect_1 0 rfl rfl)
theorem dX8_collect_25 : decode cX8_collect 25 = .ok (.invokevirtual 56, 3) := dk_182 0 56 (dk_at dksX8_collect_1 3 rfl rfl)
theorem dX8_collect_28 : decode cX8_collect 28 = .ok (.if_icmp .ge 44, 3) := dk_162 0 44 (dk_at dksX8_collect_1 6 rfl rfl)
theorem dX8_collect_31 : decode cX8_collect 31 = .ok (.aload_n 1, 1) := dk_43 (dk_at dksX8_collect_1 9 rfl rfl)
theorem dX8_collect_32 : decode cX8_collect 32 = .ok (.getfield 216, 3) := dk_180 0 216 (dk_at dksX8_collect_1 10 rfl rfl)
theorem dX8_collect_35 : decode cX8_collect 35 = .ok (.iload_n 3, 1) := dk_29 (dk_at dksX8_collect_1 13 rfl rfl)
theorem dX8_collect_36 : decode cX8_collect 36 = .ok (.invokestatic 82, 3) := dk_184 0 82 (dk_at dksX8_collect_1 14 rfl rfl)
theorem dX8_collect_39 : decode cX8_collect 39 = .ok (.ifCond .eq 27, 3) := dk_153 0 27 (dk_at dksX8_collect_1 17 rfl rfl)
theorem dX8_collect_42 : decode cX8_collect 42 = .ok (.aload_n 0, 1) := dk_42 (dk_at dksX8_collect_1 20 rfl rfl)
theorem dX8_collect_43 : decode cX8_collect 43 = .ok (.getfield 16, 3) := dk_180 0 16 (dk_at dksX8_collect_1 21 rfl rfl)
theorem dX8_collect_46 : decode cX8_collect 46 = .ok (.iload_n 3, 1) := dk_29 (dk_at dksX8_collect_2 0 rfl rfl)
theorem dX8_collect_47 : decode cX8_collect 47 = .ok (.invokevirtual 78, 3) := dk_182 0 78 (dk_at dksX8_collect_2 1 rfl rfl)
theorem dX8_collect_50 : decode cX8_collect 50 = .ok (.checkcast 68, 3) := dk_192 0 68 (dk_at dksX8_collect_2 4 rfl rfl)
theorem dX8_collect_53 : decode cX8_collect 53 = .ok (.getfield 329, 3) := dk_180 1 73 (dk_at dksX8_collect_2 7 rfl rfl)
theorem dX8_collect_56 : decode cX8_collect 56 = .ok (.ifCond .ne 10, 3) := dk_154 0 10 (dk_at dksX8_collect_2 10 rfl rfl)
theorem dX8_collect_59 : decode cX8_collect 59 = .ok (.aload_n 0, 1) := dk_42 (dk_at dksX8_collect_2 13 rfl rfl)
theorem dX8_collect_60 : decode cX8_collect 60 = .ok (.aload_n 1, 1) := dk_43 (dk_at dksX8_collect_2 14 rfl rfl)
theorem dX8_collect_61 : decode cX8_collect 61 = .ok (.iload_n 2, 1) := dk_28 (dk_at dksX8_collect_2 15 rfl rfl)
theorem dX8_collect_62 : decode cX8_collect 62 = .ok (.iload_n 3, 1) := dk_29 (dk_at dksX8_collect_2 16 rfl rfl)
theorem dX8_collect_63 : decode cX8_collect 63 = .ok (.invokevirtual 332, 3) := dk_182 1 76 (dk_at dksX8_collect_2 17 rfl rfl)
theorem dX8_collect_66 : decode cX8_collect 66 = .ok (.iinc 3 1, 3) := dk_132 3 1 (dk_at dksX8_collect_2 20 rfl rfl)
theorem dX8_collect_69 : decode cX8_collect 69 = .ok (.goto (-49), 3) := dk_167 255 207 (dk_at dksX8_collect_3 0 rfl rfl)
theorem dX8_collect_72 : decode cX8_collect 72 = .ok (.aload_n 1, 1) := dk_43 (dk_at dksX8_collect_3 3 rfl rfl)
theorem dX8_collect_73 : decode cX8_collect 73 = .ok (.dup, 1) := dk_89 (dk_at dksX8_collect_3 4 rfl rfl)
theorem dX8_collect_74 : decode cX8_collect 74 = .ok (.getfield 262, 3) := dk_180 1 6 (dk_at dksX8_collect_3 5 rfl rfl)
theorem dX8_collect_77 : decode cX8_collect 77 = .ok (.iconst 1, 1) := dk_4 (dk_at dksX8_collect_3 8 rfl rfl)
theorem dX8_collect_78 : decode cX8_collect 78 = .ok (.isub, 1) := dk_100 (dk_at dksX8_collect_3 9 rfl rfl)
theorem dX8_collect_79 : decode cX8_collect 79 = .ok (.putfield 262, 3) := dk_181 1 6 (dk_at dksX8_collect_3 10 rfl rfl)
theorem dX8_collect_82 : decode cX8_collect 82 = .ok (.aload_n 1, 1) := dk_43 (dk_at dksX8_collect_3 13 rfl rfl)
theorem dX8_collect_83 : decode cX8_collect 83 = .ok (.getfield 262, 3) := dk_180 1 6 (dk_at dksX8_collect_3 14 rfl rfl)
theorem dX8_collect_86 : decode cX8_collect 86 = .ok (.ifCond .ne 8, 3) := dk_154 0 8 (dk_at dksX8_collect_3 17 rfl rfl)
theorem dX8_collect_89 : decode cX8_collect 89 = .ok (.aload_n 1, 1) := dk_43 (dk_at dksX8_collect_3 20 rfl rfl)
theorem dX8_collect_90 : decode cX8_collect 90 = .ok (.iconst 2, 1) := dk_5 (dk_at dksX8_collect_3 21 rfl rfl)
theorem dX8_collect_91 : decode cX8_collect 91 = .ok (.putfield 210, 3) := dk_181 0 210 (dk_at dksX8_collect_4 0 rfl rfl)
theorem dX8_collect_94 : decode cX8_collect 94 = .ok (.return_, 1) := dk_177 (dk_at dksX8_collect_4 3 rfl rfl)
abbrev cX8_collect_2 : ByteArray := prog_19_method_51_code
def yX8_collect_2 : MethodName := ⟨RX8, "collect", "(LPublicanryModel$Lot;II)V"⟩
def dkwX8_collect_2_15 : List UInt8 := [182, 1, 47, 177]
abbrev dktX8_collect_2_15 : List UInt8 := dkwX8_collect_2_15 ++ []
def dkwX8_collect_2_14 : List UInt8 := [29, 43, 180, 0, 213, 4, 182, 1, 80, 79, 89, 7, 28, 79, 89, 8, 3, 79, 83, 25, 4, 21, 7]
abbrev dktX8_collect_2_14 : List UInt8 := dkwX8_collect_2_14 ++ dktX8_collect_2_15
def dkwX8_collect_2_13 : List UInt8 := [16, 6, 188, 10, 89, 3, 42, 182, 1, 37, 79, 89, 4, 21, 9, 79, 89, 5, 21, 11, 79, 89, 6, 42]
abbrev dktX8_collect_2_13 : List UInt8 := dkwX8_collect_2_13 ++ dktX8_collect_2_14
def dkwX8_collect_2_12 : List UInt8 := [181, 0, 176, 25, 5, 89, 180, 1, 93, 21, 12, 96, 181, 1, 93, 25, 4, 180, 1, 33, 43, 180, 0, 213]
abbrev dktX8_collect_2_12 : List UInt8 := dkwX8_collect_2_12 ++ dktX8_collect_2_13
def dkwX8_collect_2_11 : List UInt8 := [54, 12, 42, 89, 180, 0, 121, 21, 12, 100, 181, 0, 121, 25, 5, 89, 180, 0, 176, 21, 12, 96]
abbrev dktX8_collect_2_11 : List UInt8 := dkwX8_collect_2_11 ++ dktX8_collect_2_12
def dkwX8_collect_2_10 : List UInt8 := [54, 11, 21, 6, 153, 0, 33, 42, 89, 180, 0, 121, 21, 12, 96, 181, 0, 121, 43, 180, 1, 27, 29, 46]
abbrev dktX8_collect_2_10 : List UInt8 := dkwX8_collect_2_10 ++ dktX8_collect_2_11
def dkwX8_collect_2_9 : List UInt8 := [181, 1, 90, 42, 89, 180, 0, 121, 21, 10, 21, 11, 100, 100, 181, 0, 121, 21, 10, 54, 12, 21, 10]
abbrev dktX8_collect_2_9 : List UInt8 := dkwX8_collect_2_9 ++ dktX8_collect_2_10
def dkwX8_collect_2_8 : List UInt8 := [21, 11, 100, 181, 1, 59, 21, 7, 4, 164, 0, 40, 25, 4, 89, 180, 1, 90, 21, 10, 21, 11, 100, 96]
abbrev dktX8_collect_2_8 : List UInt8 := dkwX8_collect_2_8 ++ dktX8_collect_2_9
def dkwX8_collect_2_7 : List UInt8 := [181, 0, 128, 42, 89, 180, 0, 121, 21, 12, 100, 181, 0, 121, 167, 0, 58, 25, 4, 89, 180, 1, 59]
abbrev dktX8_collect_2_7 : List UInt8 := dkwX8_collect_2_7 ++ dktX8_collect_2_8
def dkwX8_collect_2_6 : List UInt8 := [167, 0, 5, 21, 11, 54, 12, 43, 180, 0, 213, 154, 0, 29, 25, 4, 89, 180, 0, 128, 21, 11, 100]
abbrev dktX8_collect_2_6 : List UInt8 := dkwX8_collect_2_6 ++ dktX8_collect_2_7
def dkwX8_collect_2_5 : List UInt8 := [167, 0, 8, 25, 4, 180, 1, 59, 184, 0, 93, 54, 11, 43, 180, 0, 213, 154, 0, 10, 5, 21, 11, 104]
abbrev dktX8_collect_2_5 : List UInt8 := dkwX8_collect_2_5 ++ dktX8_collect_2_6
def dkwX8_collect_2_4 : List UInt8 := [21, 7, 184, 1, 87, 100, 54, 10, 21, 10, 43, 180, 0, 213, 154, 0, 11, 25, 4, 180, 0, 128]
abbrev dktX8_collect_2_4 : List UInt8 := dkwX8_collect_2_4 ++ dktX8_collect_2_5
def dkwX8_collect_2_3 : List UInt8 := [54, 8, 21, 8, 21, 8, 21, 7, 104, 16, 8, 108, 96, 54, 9, 21, 9, 21, 9, 25, 4, 180, 1, 84]
abbrev dktX8_collect_2_3 : List UInt8 := dkwX8_collect_2_3 ++ dktX8_collect_2_4
def dkwX8_collect_2_2 : List UInt8 := [153, 0, 7, 6, 167, 0, 8, 25, 5, 180, 1, 24, 54, 7, 42, 29, 43, 180, 0, 213, 3, 182, 1, 80]
abbrev dktX8_collect_2_2 : List UInt8 := dkwX8_collect_2_2 ++ dktX8_collect_2_3
def dkwX8_collect_2_1 : List UInt8 := [192, 0, 152, 58, 5, 43, 180, 1, 27, 29, 46, 158, 0, 7, 4, 167, 0, 4, 3, 54, 6, 21, 6]
abbrev dktX8_collect_2_1 : List UInt8 := dkwX8_collect_2_1 ++ dktX8_collect_2_2
def dkwX8_collect_2_0 : List UInt8 := [42, 180, 0, 16, 29, 182, 0, 78, 192, 0, 68, 58, 4, 42, 180, 0, 20, 43, 180, 0, 228, 182, 0, 78]
abbrev dktX8_collect_2_0 : List UInt8 := dkwX8_collect_2_0 ++ dktX8_collect_2_1
theorem dksX8_collect_2_0 : cX8_collect_2.data.toList.drop 0 = dktX8_collect_2_0 := by decide +kernel
theorem dksX8_collect_2_1 : cX8_collect_2.data.toList.drop 24 = dktX8_collect_2_1 := dk_seg dksX8_collect_2_0 24 rfl rfl
theorem dksX8_collect_2_2 : cX8_collect_2.data.toList.drop 47 = dktX8_collect_2_2 := dk_seg dksX8_collect_2_1 23 rfl rfl
theorem dksX8_collect_2_3 : cX8_collect_2.data.toList.drop 71 = dktX8_collect_2_3 := dk_seg dksX8_collect_2_2 24 rfl rfl
theorem dksX8_collect_2_4 : cX8_collect_2.data.toList.drop 95 = dktX8_collect_2_4 := dk_seg dksX8_collect_2_3 24 rfl rfl
theorem dksX8_collect_2_5 : cX8_collect_2.data.toList.drop 117 = dktX8_collect_2_5 := dk_seg dksX8_collect_2_4 22 rfl rfl
theorem dksX8_collect_2_6 : cX8_collect_2.data.toList.drop 141 = dktX8_collect_2_6 := dk_seg dksX8_collect_2_5 24 rfl rfl
theorem dksX8_collect_2_7 : cX8_collect_2.data.toList.drop 164 = dktX8_collect_2_7 := dk_seg dksX8_collect_2_6 23 rfl rfl
theorem dksX8_collect_2_8 : cX8_collect_2.data.toList.drop 187 = dktX8_collect_2_8 := dk_seg dksX8_collect_2_7 23 rfl rfl
theorem dksX8_collect_2_9 : cX8_collect_2.data.toList.drop 211 = dktX8_collect_2_9 := dk_seg dksX8_collect_2_8 24 rfl rfl
theorem dksX8_collect_2_10 : cX8_collect_2.data.toList.drop 234 = dktX8_collect_2_10 := dk_seg dksX8_collect_2_9 23 rfl rfl
theorem dksX8_collect_2_11 : cX8_collect_2.data.toList.drop 258 = dktX8_collect_2_11 := dk_seg dksX8_collect_2_10 24 rfl rfl
theorem dksX8_collect_2_12 : cX8_collect_2.data.toList.drop 280 = dktX8_collect_2_12 := dk_seg dksX8_collect_2_11 22 rfl rfl
theorem dksX8_collect_2_13 : cX8_collect_2.data.toList.drop 304 = dktX8_collect_2_13 := dk_seg dksX8_collect_2_12 24 rfl rfl
theorem dksX8_collect_2_14 : cX8_collect_2.data.toList.drop 328 = dktX8_collect_2_14 := dk_seg dksX8_collect_2_13 24 rfl rfl
theorem dksX8_collect_2_15 : cX8_collect_2.data.toList.drop 351 = dktX8_collect_2_15 := dk_seg dksX8_collect_2_14 23 rfl rfl
theorem dX8_collect_2_0 : decode cX8_collect_2 0 = .ok (.aload_n 0, 1) := dk_42 (dk_at dksX8_collect_2_0 0 rfl rfl)
theorem dX8_collect_2_1 : decode cX8_collect_2 1 = .ok (.getfield 16, 3) := dk_180 0 16 (dk_at dksX8_collect_2_0 1 rfl rfl)
theorem dX8_collect_2_4 : decode cX8_collect_2 4 = .ok (.iload_n 3, 1) := dk_29 (dk_at dksX8_collect_2_0 4 rfl rfl)
theorem dX8_collect_2_5 : decode cX8_collect_2 5 = .ok (.invokevirtual 78, 3) := dk_182 0 78 (dk_at dksX8_collect_2_0 5 rfl rfl)
theorem dX8_collect_2_8 : decode cX8_collect_2 8 = .ok (.checkcast 68, 3) := dk_192 0 68 (dk_at dksX8_collect_2_0 8 rfl rfl)
theorem dX8_collect_2_11 : decode cX8_collect_2 11 = .ok (.astore 4, 2) := dk_58 4 (dk_at dksX8_collect_2_0 11 rfl rfl)
theorem dX8_collect_2_13 : decode cX8_collect_2 13 = .ok (.aload_n 0, 1) := dk_42 (dk_at dksX8_collect_2_0 13 rfl rfl)
theorem dX8_collect_2_14 : decode cX8_collect_2 14 = .ok (.getfield 20, 3) := dk_180 0 20 (dk_at dksX8_collect_2_0 14 rfl rfl)
theorem dX8_collect_2_17 : decode cX8_collect_2 17 = .ok (.aload_n 1, 1) := dk_43 (dk_at dksX8_collect_2_0 17 rfl rfl)
theorem dX8_collect_2_18 : decode cX8_collect_2 18 = .ok (.getfield 228, 3) := dk_180 0 228 (dk_at dksX8_collect_2_0 18 rfl rfl)
theorem dX8_collect_2_21 : decode cX8_collect_2 21 = .ok (.invokevirtual 78, 3) := dk_182 0 78 (dk_at dksX8_collect_2_0 21 rfl rfl)
theorem dX8_collect_2_24 : decode cX8_collect_2 24 = .ok (.checkcast 152, 3) := dk_192 0 152 (dk_at dksX8_collect_2_1 0 rfl rfl)
theorem dX8_collect_2_27 : decode cX8_collect_2 27 = .ok (.astore 5, 2) := dk_58 5 (dk_at dksX8_collect_2_1 3 rfl rfl)
theorem dX8_collect_2_29 : decode cX8_collect_2 29 = .ok (.aload_n 1, 1) := dk_43 (dk_at dksX8_collect_2_1 5 rfl rfl)
theorem dX8_collect_2_30 : decode cX8_collect_2 30 = .ok (.getfield 283, 3) := dk_180 1 27 (dk_at dksX8_collect_2_1 6 rfl rfl)
theorem dX8_collect_2_33 : decode cX8_collect_2 33 = .ok (.iload_n 3, 1) := dk_29 (dk_at dksX8_collect_2_1 9 rfl rfl)
theorem dX8_collect_2_34 : decode cX8_collect_2 34 = .ok (.iaload, 1) := dk_46 (dk_at dksX8_collect_2_1 10 rfl rfl)
theorem dX8_collect_2_35 : decode cX8_collect_2 35 = .ok (.ifCond .le 7, 3) := dk_158 0 7 (dk_at dksX8_collect_2_1 11 rfl rfl)
theorem dX8_collect_2_38 : decode cX8_collect_2 38 = .ok (.iconst 1, 1) := dk_4 (dk_at dksX8_collect_2_1 14 rfl rfl)
theorem dX8_collect_2_39 : decode cX8_collect_2 39 = .ok (.goto 4, 3) := dk_167 0 4 (dk_at dksX8_collect_2_1 15 rfl rfl)
theorem dX8_collect_2_42 : decode cX8_collect_2 42 = .ok (.iconst 0, 1) := dk_3 (dk_at dksX8_collect_2_1 18 rfl rfl)
theorem dX8_collect_2_43 : decode cX8_collect_2 43 = .ok (.istore 6, 2) := dk_54 6 (dk_at dksX8_collect_2_1 19 rfl rfl)
theorem dX8_collect_2_45 : decode cX8_collect_2 45 = .ok (.iload 6, 2) := dk_21 6 (dk_at dksX8_collect_2_1 21 rfl rfl)
theorem dX8_collect_2_47 : decode cX8_collect_2 47 = .ok (.ifCond .eq 7, 3) := dk_153 0 7 (dk_at dksX8_collect_2_2 0 rfl rfl)
theorem dX8_collect_2_50 : decode cX8_collect_2 50 = .ok (.iconst 3, 1) := dk_6 (dk_at dksX8_collect_2_2 3 rfl rfl)
theorem dX8_collect_2_51 : decode cX8_collect_2 51 = .ok (.goto 8, 3) := dk_167 0 8 (dk_at dksX8_collect_2_2 4 rfl rfl)
theorem dX8_collect_2_54 : decode cX8_collect_2 54 = .ok (.aload 5, 2) := dk_25 5 (dk_at dksX8_collect_2_2 7 rfl rfl)
theorem dX8_collect_2_56 : decode cX8_collect_2 56 = .ok (.getfield 280, 3) := dk_180 1 24 (dk_at dksX8_collect_2_2 9 rfl rfl)
theorem dX8_collect_2_59 : decode cX8_collect_2 59 = .ok (.istore 7, 2) := dk_54 7 (dk_at dksX8_collect_2_2 12 rfl rfl)
theorem dX8_collect_2_61 : decode cX8_collect_2 61 = .ok (.aload_n 0, 1) := dk_42 (dk_at dksX8_collect_2_2 14 rfl rfl)
theorem dX8_collect_2_62 : decode cX8_collect_2 62 = .ok (.iload_n 3, 1) := dk_29 (dk_at dksX8_collect_2_2 15 rfl rfl)
theorem dX8_collect_2_63 : decode cX8_collect_2 63 = .ok (.aload_n 1, 1) := dk_43 (dk_at dksX8_collect_2_2 16 rfl rfl)
theorem dX8_collect_2_64 : decode cX8_collect_2 64 = .ok (.getfield 213, 3) := dk_180 0 213 (dk_at dksX8_collect_2_2 17 rfl rfl)
theorem dX8_collect_2_67 : decode cX8_collect_2 67 = .ok (.iconst 0, 1) := dk_3 (dk_at dksX8_collect_2_2 20 rfl rfl)
theorem dX8_collect_2_68 : decode cX8_collect_2 68 = .ok (.invokevirtual 336, 3) := dk_182 1 80 (dk_at dksX8_collect_2_2 21 rfl rfl)
theorem dX8_collect_2_71 : decode cX8_collect_2 71 = .ok (.istore 8, 2) := dk_54 8 (dk_at dksX8_collect_2_3 0 rfl rfl)
theorem dX8_collect_2_73 : decode cX8_collect_2 73 = .ok (.iload 8, 2) := dk_21 8 (dk_at dksX8_collect_2_3 2 rfl rfl)
theorem dX8_collect_2_75 : decode cX8_collect_2 75 = .ok (.iload 8, 2) := dk_21 8 (dk_at dksX8_collect_2_3 4 rfl rfl)
theorem dX8_collect_2_77 : decode cX8_collect_2 77 = .ok (.iload 7, 2) := dk_21 7 (dk_at dksX8_collect_2_3 6 rfl rfl)
theorem dX8_collect_2_79 : decode cX8_collect_2 79 = .ok (.imul, 1) := dk_104 (dk_at dksX8_collect_2_3 8 rfl rfl)
theorem dX8_collect_2_80 : decode cX8_collect_2 80 = .ok (.bipush 8, 2) := dk_16 8 (dk_at dksX8_collect_2_3 9 rfl rfl)
theorem dX8_collect_2_82 : decode cX8_collect_2 82 = .ok (.idiv, 1) := dk_108 (dk_at dksX8_collect_2_3 11 rfl rfl)
theorem dX8_collect_2_83 : decode cX8_collect_2 83 = .ok (.iadd, 1) := dk_96 (dk_at dksX8_collect_2_3 12 rfl rfl)
theorem dX8_collect_2_84 : decode cX8_collect_2 84 = .ok (.istore 9, 2) := dk_54 9 (dk_at dksX8_collect_2_3 13 rfl rfl)
theorem dX8_collect_2_86 : decode cX8_collect_2 86 = .ok (.iload 9, 2) := dk_21 9 (dk_at dksX8_collect_2_3 15 rfl rfl)
theorem dX8_collect_2_88 : decode cX8_collect_2 88 = .ok (.iload 9, 2) := dk_21 9 (dk_at dksX8_collect_2_3 17 rfl rfl)
theorem dX8_collect_2_90 : decode cX8_collect_2 90 = .ok (.aload 4, 2) := dk_25 4 (dk_at dksX8_collect_2_3 19 rfl rfl)
theorem dX8_collect_2_92 : decode cX8_collect_2 92 = .ok (.getfield 340, 3) := dk_180 1 84 (dk_at dksX8_collect_2_3 21 rfl rfl)
theorem dX8_collect_2_95 : decode cX8_collect_2 95 = .ok (.iload 7, 2) := dk_21 7 (dk_at dksX8_collect_2_4 0 rfl rfl)
theorem dX8_collect_2_97 : decode cX8_collect_2 97 = .ok (.invokestatic 343, 3) := dk_184 1 87 (dk_at dksX8_collect_2_4 2 rfl rfl)
theorem dX8_collect_2_100 : decode cX8_collect_2 100 = .ok (.isub, 1) := dk_100 (dk_at dksX8_collect_2_4 5 rfl rfl)
theorem dX8_collect_2_101 : decode cX8_collect_2 101 = .ok (.istore 10, 2) := dk_54 10 (dk_at dksX8_collect_2_4 6 rfl rfl)
theorem dX8_collect_2_103 : decode cX8_collect_2 103 = .ok (.iload 10, 2) := dk_21 10 (dk_at dksX8_collect_2_4 8 rfl rfl)
theorem dX8_collect_2_105 : decode cX8_collect_2 105 = .ok (.aload_n 1, 1) := dk_43 (dk_at dksX8_collect_2_4 10 rfl rfl)
theorem dX8_collect_2_106 : decode cX8_collect_2 106 = .ok (.getfield 213, 3) := dk_180 0 213 (dk_at dksX8_collect_2_4 11 rfl rfl)
theorem dX8_collect_2_109 : decode cX8_collect_2 109 = .ok (.ifCond .ne 11, 3) := dk_154 0 11 (dk_at dksX8_collect_2_4 14 rfl rfl)
theorem dX8_collect_2_112 : decode cX8_collect_2 112 = .ok (.aload 4, 2) := dk_25 4 (dk_at dksX8_collect_2_4 17 rfl rfl)
theorem dX8_collect_2_114 : decode cX8_collect_2 114 = .ok (.getfield 128, 3) := dk_180 0 128 (dk_at dksX8_collect_2_4 19 rfl rfl)
theorem dX8_collect_2_117 : decode cX8_collect_2 117 = .ok (.goto 8, 3) := dk_167 0 8 (dk_at dksX8_collect_2_5 0 rfl rfl)
theorem dX8_collect_2_120 : decode cX8_collect_2 120 = .ok (.aload 4, 2) := dk_25 4 (dk_at dksX8_collect_2_5 3 rfl rfl)
theorem dX8_collect_2_122 : decode cX8_collect_2 122 = .ok (.getfield 315, 3) := dk_180 1 59 (dk_at dksX8_collect_2_5 5 rfl rfl)
theorem dX8_collect_2_125 : decode cX8_collect_2 125 = .ok (.invokestatic 93, 3) := dk_184 0 93 (dk_at dksX8_collect_2_5 8 rfl rfl)
theorem dX8_collect_2_128 : decode cX8_collect_2 128 = .ok (.istore 11, 2) := dk_54 11 (dk_at dksX8_collect_2_5 11 rfl rfl)
theorem dX8_collect_2_130 : decode cX8_collect_2 130 = .ok (.aload_n 1, 1) := dk_43 (dk_at dksX8_collect_2_5 13 rfl rfl)
theorem dX8_collect_2_131 : decode cX8_collect_2 131 = .ok (.getfield 213, 3) := dk_180 0 213 (dk_at dksX8_collect_2_5 14 rfl rfl)
theorem dX8_collect_2_134 : decode cX8_collect_2 134 = .ok (.ifCond .ne 10, 3) := dk_154 0 10 (dk_at dksX8_collect_2_5 17 rfl rfl)
theorem dX8_collect_2_137 : decode cX8_collect_2 137 = .ok (.iconst 2, 1) := dk_5 (dk_at dksX8_collect_2_5 20 rfl rfl)
theorem dX8_collect_2_138 : decode cX8_collect_2 138 = .ok (.iload 11, 2) := dk_21 11 (dk_at dksX8_collect_2_5 21 rfl rfl)
theorem dX8_collect_2_140 : decode cX8_collect_2 140 = .ok (.imul, 1) := dk_104 (dk_at dksX8_collect_2_5 23 rfl rfl)
theorem dX8_collect_2_141 : decode cX8_collect_2 141 = .ok (.goto 5, 3) := dk_167 0 5 (dk_at dksX8_collect_2_6 0 rfl rfl)
theorem dX8_collect_2_144 : decode cX8_collect_2 144 = .ok (.iload 11, 2) := dk_21 11 (dk_at dksX8_collect_2_6 3 rfl rfl)
theorem dX8_collect_2_146 : decode cX8_collect_2 146 = .ok (.istore 12, 2) := dk_54 12 (dk_at dksX8_collect_2_6 5 rfl rfl)
theorem dX8_collect_2_148 : decode cX8_collect_2 148 = .ok (.aload_n 1, 1) := dk_43 (dk_at dksX8_collect_2_6 7 rfl rfl)
theorem dX8_collect_2_149 : decode cX8_collect_2 149 = .ok (.getfield 213, 3) := dk_180 0 213 (dk_at dksX8_collect_2_6 8 rfl rfl)
theorem dX8_collect_2_152 : decode cX8_collect_2 152 = .ok (.ifCond .ne 29, 3) := dk_154 0 29 (dk_at dksX8_collect_2_6 11 rfl rfl)
theorem dX8_collect_2_155 : decode cX8_collect_2 155 = .ok (.aload 4, 2) := dk_25 4 (dk_at dksX8_collect_2_6 14 rfl rfl)
theorem dX8_collect_2_157 : decode cX8_collect_2 157 = .ok (.dup, 1) := dk_89 (dk_at dksX8_collect_2_6 16 rfl rfl)
theorem dX8_collect_2_158 : decode cX8_collect_2 158 = .ok (.getfield 128, 3) := dk_180 0 128 (dk_at dksX8_collect_2_6 17 rfl rfl)
theorem dX8_collect_2_161 : decode cX8_collect_2 161 = .ok (.iload 11, 2) := dk_21 11 (dk_at dksX8_collect_2_6 20 rfl rfl)
theorem dX8_collect_2_163 : decode cX8_collect_2 163 = .ok (.isub, 1) := dk_100 (dk_at dksX8_collect_2_6 22 rfl rfl)
theorem dX8_collect_2_164 : decode cX8_collect_2 164 = .ok (.putfield 128, 3) := dk_181 0 128 (dk_at dksX8_collect_2_7 0 rfl rfl)
theorem dX8_collect_2_167 : decode cX8_collect_2 167 = .ok (.aload_n 0, 1) := dk_42 (dk_at dksX8_collect_2_7 3 rfl rfl)
theorem dX8_collect_2_168 : decode cX8_collect_2 168 = .ok (.dup, 1) := dk_89 (dk_at dksX8_collect_2_7 4 rfl rfl)
theorem dX8_collect_2_169 : decode cX8_collect_2 169 = .ok (.getfield 121, 3) := dk_180 0 121 (dk_at dksX8_collect_2_7 5 rfl rfl)
theorem dX8_collect_2_172 : decode cX8_collect_2 172 = .ok (.iload 12, 2) := dk_21 12 (dk_at dksX8_collect_2_7 8 rfl rfl)
theorem dX8_collect_2_174 : decode cX8_collect_2 174 = .ok (.isub, 1) := dk_100 (dk_at dksX8_collect_2_7 10 rfl rfl)
theorem dX8_collect_2_175 : decode cX8_collect_2 175 = .ok (.putfield 121, 3) := dk_181 0 121 (dk_at dksX8_collect_2_7 11 rfl rfl)
theorem dX8_collect_2_178 : decode cX8_collect_2 178 = .ok (.goto 58, 3) := dk_167 0 58 (dk_at dksX8_collect_2_7 14 rfl rfl)
theorem dX8_collect_2_181 : decode cX8_collect_2 181 = .ok (.aload 4, 2) := dk_25 4 (dk_at dksX8_collect_2_7 17 rfl rfl)
theorem dX8_collect_2_183 : decode cX8_collect_2 183 = .ok (.dup, 1) := dk_89 (dk_at dksX8_collect_2_7 19 rfl rfl)
theorem dX8_collect_2_184 : decode cX8_collect_2 184 = .ok (.getfield 315, 3) := dk_180 1 59 (dk_at dksX8_collect_2_7 20 rfl rfl)
theorem dX8_collect_2_187 : decode cX8_collect_2 187 = .ok (.iload 11, 2) := dk_21 11 (dk_at dksX8_collect_2_8 0 rfl rfl)
theorem dX8_collect_2_189 : decode cX8_collect_2 189 = .ok (.isub, 1) := dk_100 (dk_at dksX8_collect_2_8 2 rfl rfl)
theorem dX8_collect_2_190 : decode cX8_collect_2 190 = .ok (.putfield 315, 3) := dk_181 1 59 (dk_at dksX8_collect_2_8 3 rfl rfl)
theorem dX8_collect_2_193 : decode cX8_collect_2 193 = .ok (.iload 7, 2) := dk_21 7 (dk_at dksX8_collect_2_8 6 rfl rfl)
theorem dX8_collect_2_195 : decode cX8_collect_2 195 = .ok (.iconst 1, 1) := dk_4 (dk_at dksX8_collect_2_8 8 rfl rfl)
theorem dX8_collect_2_196 : decode cX8_collect_2 196 = .ok (.if_icmp .le 40, 3) := dk_164 0 40 (dk_at dksX8_collect_2_8 9 rfl rfl)
theorem dX8_collect_2_199 : decode cX8_collect_2 199 = .ok (.aload 4, 2) := dk_25 4 (dk_at dksX8_collect_2_8 12 rfl rfl)
theorem dX8_collect_2_201 : decode cX8_collect_2 201 = .ok (.dup, 1) := dk_89 (dk_at dksX8_collect_2_8 14 rfl rfl)
theorem dX8_collect_2_202 : decode cX8_collect_2 202 = .ok (.getfield 346, 3) := dk_180 1 90 (dk_at dksX8_collect_2_8 15 rfl rfl)
theorem dX8_collect_2_205 : decode cX8_collect_2 205 = .ok (.iload 10, 2) := dk_21 10 (dk_at dksX8_collect_2_8 18 rfl rfl)
theorem dX8_collect_2_207 : decode cX8_collect_2 207 = .ok (.iload 11, 2) := dk_21 11 (dk_at dksX8_collect_2_8 20 rfl rfl)
theorem dX8_collect_2_209 : decode cX8_collect_2 209 = .ok (.isub, 1) := dk_100 (dk_at dksX8_collect_2_8 22 rfl rfl)
theorem dX8_collect_2_210 : decode cX8_collect_2 210 = .ok (.iadd, 1) := dk_96 (dk_at dksX8_collect_2_8 23 rfl rfl)
theorem dX8_collect_2_211 : decode cX8_collect_2 211 = .ok (.putfield 346, 3) := dk_181 1 90 (dk_at dksX8_collect_2_9 0 rfl rfl)
theorem dX8_collect_2_214 : decode cX8_collect_2 214 = .ok (.aload_n 0, 1) := dk_42 (dk_at dksX8_collect_2_9 3 rfl rfl)
theorem dX8_collect_2_215 : decode cX8_collect_2 215 = .ok (.dup, 1) := dk_89 (dk_at dksX8_collect_2_9 4 rfl rfl)
theorem dX8_collect_2_216 : decode cX8_collect_2 216 = .ok (.getfield 121, 3) := dk_180 0 121 (dk_at dksX8_collect_2_9 5 rfl rfl)
theorem dX8_collect_2_219 : decode cX8_collect_2 219 = .ok (.iload 10, 2) := dk_21 10 (dk_at dksX8_collect_2_9 8 rfl rfl)
theorem dX8_collect_2_221 : decode cX8_collect_2 221 = .ok (.iload 11, 2) := dk_21 11 (dk_at dksX8_collect_2_9 10 rfl rfl)
theorem dX8_collect_2_223 : decode cX8_collect_2 223 = .ok (.isub, 1) := dk_100 (dk_at dksX8_collect_2_9 12 rfl rfl)
theorem dX8_collect_2_224 : decode cX8_collect_2 224 = .ok (.isub, 1) := dk_100 (dk_at dksX8_collect_2_9 13 rfl rfl)
theorem dX8_collect_2_225 : decode cX8_collect_2 225 = .ok (.putfield 121, 3) := dk_181 0 121 (dk_at dksX8_collect_2_9 14 rfl rfl)
theorem dX8_collect_2_228 : decode cX8_collect_2 228 = .ok (.iload 10, 2) := dk_21 10 (dk_at dksX8_collect_2_9 17 rfl rfl)
theorem dX8_collect_2_230 : decode cX8_collect_2 230 = .ok (.istore 12, 2) := dk_54 12 (dk_at dksX8_collect_2_9 19 rfl rfl)
theorem dX8_collect_2_232 : decode cX8_collect_2 232 = .ok (.iload 10, 2) := dk_21 10 (dk_at dksX8_collect_2_9 21 rfl rfl)
theorem dX8_collect_2_234 : decode cX8_collect_2 234 = .ok (.istore 11, 2) := dk_54 11 (dk_at dksX8_collect_2_10 0 rfl rfl)
theorem dX8_collect_2_236 : decode cX8_collect_2 236 = .ok (.iload 6, 2) := dk_21 6 (dk_at dksX8_collect_2_10 2 rfl rfl)
theorem dX8_collect_2_238 : decode cX8_collect_2 238 = .ok (.ifCond .eq 33, 3) := dk_153 0 33 (dk_at dksX8_collect_2_10 4 rfl rfl)
theorem dX8_collect_2_241 : decode cX8_collect_2 241 = .ok (.aload_n 0, 1) := dk_42 (dk_at dksX8_collect_2_10 7 rfl rfl)
theorem dX8_collect_2_242 : decode cX8_collect_2 242 = .ok (.dup, 1) := dk_89 (dk_at dksX8_collect_2_10 8 rfl rfl)
theorem dX8_collect_2_243 : decode cX8_collect_2 243 = .ok (.getfield 121, 3) := dk_180 0 121 (dk_at dksX8_collect_2_10 9 rfl rfl)
theorem dX8_collect_2_246 : decode cX8_collect_2 246 = .ok (.iload 12, 2) := dk_21 12 (dk_at dksX8_collect_2_10 12 rfl rfl)
theorem dX8_collect_2_248 : decode cX8_collect_2 248 = .ok (.iadd, 1) := dk_96 (dk_at dksX8_collect_2_10 14 rfl rfl)
theorem dX8_collect_2_249 : decode cX8_collect_2 249 = .ok (.putfield 121, 3) := dk_181 0 121 (dk_at dksX8_collect_2_10 15 rfl rfl)
theorem dX8_collect_2_252 : decode cX8_collect_2 252 = .ok (.aload_n 1, 1) := dk_43 (dk_at dksX8_collect_2_10 18 rfl rfl)
theorem dX8_collect_2_253 : decode cX8_collect_2 253 = .ok (.getfield 283, 3) := dk_180 1 27 (dk_at dksX8_collect_2_10 19 rfl rfl)
theorem dX8_collect_2_256 : decode cX8_collect_2 256 = .ok (.iload_n 3, 1) := dk_29 (dk_at dksX8_collect_2_10 22 rfl rfl)
theorem dX8_collect_2_257 : decode cX8_collect_2 257 = .ok (.iaload, 1) := dk_46 (dk_at dksX8_collect_2_10 23 rfl rfl)
theorem dX8_collect_2_258 : decode cX8_collect_2 258 = .ok (.istore 12, 2) := dk_54 12 (dk_at dksX8_collect_2_11 0 rfl rfl)
theorem dX8_collect_2_260 : decode cX8_collect_2 260 = .ok (.aload_n 0, 1) := dk_42 (dk_at dksX8_collect_2_11 2 rfl rfl)
theorem dX8_collect_2_261 : decode cX8_collect_2 261 = .ok (.dup, 1) := dk_89 (dk_at dksX8_collect_2_11 3 rfl rfl)
theorem dX8_collect_2_262 : decode cX8_collect_2 262 = .ok (.getfield 121, 3) := dk_180 0 121 (dk_at dksX8_collect_2_11 4 rfl rfl)
theorem dX8_collect_2_265 : decode cX8_collect_2 265 = .ok (.iload 12, 2) := dk_21 12 (dk_at dksX8_collect_2_11 7 rfl rfl)
theorem dX8_collect_2_267 : decode cX8_collect_2 267 = .ok (.isub, 1) := dk_100 (dk_at dksX8_collect_2_11 9 rfl rfl)
theorem dX8_collect_2_268 : decode cX8_collect_2 268 = .ok (.putfield 121, 3) := dk_181 0 121 (dk_at dksX8_collect_2_11 10 rfl rfl)
theorem dX8_collect_2_271 : decode cX8_collect_2 271 = .ok (.aload 5, 2) := dk_25 5 (dk_at dksX8_collect_2_11 13 rfl rfl)
theorem dX8_collect_2_273 : decode cX8_collect_2 273 = .ok (.dup, 1) := dk_89 (dk_at dksX8_collect_2_11 15 rfl rfl)
theorem dX8_collect_2_274 : decode cX8_collect_2 274 = .ok (.getfield 176, 3) := dk_180 0 176 (dk_at dksX8_collect_2_11 16 rfl rfl)
theorem dX8_collect_2_277 : decode cX8_collect_2 277 = .ok (.iload 12, 2) := dk_21 12 (dk_at dksX8_collect_2_11 19 rfl rfl)
theorem dX8_collect_2_279 : decode cX8_collect_2 279 = .ok (.iadd, 1) := dk_96 (dk_at dksX8_collect_2_11 21 rfl rfl)
theorem dX8_collect_2_280 : decode cX8_collect_2 280 = .ok (.putfield 176, 3) := dk_181 0 176 (dk_at dksX8_collect_2_12 0 rfl rfl)
theorem dX8_collect_2_283 : decode cX8_collect_2 283 = .ok (.aload 5, 2) := dk_25 5 (dk_at dksX8_collect_2_12 3 rfl rfl)
theorem dX8_collect_2_285 : decode cX8_collect_2 285 = .ok (.dup, 1) := dk_89 (dk_at dksX8_collect_2_12 5 rfl rfl)
theorem dX8_collect_2_286 : decode cX8_collect_2 286 = .ok (.getfield 349, 3) := dk_180 1 93 (dk_at dksX8_collect_2_12 6 rfl rfl)
theorem dX8_collect_2_289 : decode cX8_collect_2 289 = .ok (.iload 12, 2) := dk_21 12 (dk_at dksX8_collect_2_12 9 rfl rfl)
theorem dX8_collect_2_291 : decode cX8_collect_2 291 = .ok (.iadd, 1) := dk_96 (dk_at dksX8_collect_2_12 11 rfl rfl)
theorem dX8_collect_2_292 : decode cX8_collect_2 292 = .ok (.putfield 349, 3) := dk_181 1 93 (dk_at dksX8_collect_2_12 12 rfl rfl)
theorem dX8_collect_2_295 : decode cX8_collect_2 295 = .ok (.aload 4, 2) := dk_25 4 (dk_at dksX8_collect_2_12 15 rfl rfl)
theorem dX8_collect_2_297 : decode cX8_collect_2 297 = .ok (.getfield 289, 3) := dk_180 1 33 (dk_at dksX8_collect_2_12 17 rfl rfl)
theorem dX8_collect_2_300 : decode cX8_collect_2 300 = .ok (.aload_n 1, 1) := dk_43 (dk_at dksX8_collect_2_12 20 rfl rfl)
theorem dX8_collect_2_301 : decode cX8_collect_2 301 = .ok (.getfield 213, 3) := dk_180 0 213 (dk_at dksX8_collect_2_12 21 rfl rfl)
theorem dX8_collect_2_304 : decode cX8_collect_2 304 = .ok (.bipush 6, 2) := dk_16 6 (dk_at dksX8_collect_2_13 0 rfl rfl)
theorem dX8_collect_2_306 : decode cX8_collect_2 306 = .ok (.newarray .int, 2) := dk_188_10 (dk_at dksX8_collect_2_13 2 rfl rfl)
theorem dX8_collect_2_308 : decode cX8_collect_2 308 = .ok (.dup, 1) := dk_89 (dk_at dksX8_collect_2_13 4 rfl rfl)
theorem dX8_collect_2_309 : decode cX8_collect_2 309 = .ok (.iconst 0, 1) := dk_3 (dk_at dksX8_collect_2_13 5 rfl rfl)
theorem dX8_collect_2_310 : decode cX8_collect_2 310 = .ok (.aload_n 0, 1) := dk_42 (dk_at dksX8_collect_2_13 6 rfl rfl)
theorem dX8_collect_2_311 : decode cX8_collect_2 311 = .ok (.invokevirtual 293, 3) := dk_182 1 37 (dk_at dksX8_collect_2_13 7 rfl rfl)
theorem dX8_collect_2_314 : decode cX8_collect_2 314 = .ok (.iastore, 1) := dk_79 (dk_at dksX8_collect_2_13 10 rfl rfl)
theorem dX8_collect_2_315 : decode cX8_collect_2 315 = .ok (.dup, 1) := dk_89 (dk_at dksX8_collect_2_13 11 rfl rfl)
theorem dX8_collect_2_316 : decode cX8_collect_2 316 = .ok (.iconst 1, 1) := dk_4 (dk_at dksX8_collect_2_13 12 rfl rfl)
theorem dX8_collect_2_317 : decode cX8_collect_2 317 = .ok (.iload 9, 2) := dk_21 9 (dk_at dksX8_collect_2_13 13 rfl rfl)
theorem dX8_collect_2_319 : decode cX8_collect_2 319 = .ok (.iastore, 1) := dk_79 (dk_at dksX8_collect_2_13 15 rfl rfl)
theorem dX8_collect_2_320 : decode cX8_collect_2 320 = .ok (.dup, 1) := dk_89 (dk_at dksX8_collect_2_13 16 rfl rfl)
theorem dX8_collect_2_321 : decode cX8_collect_2 321 = .ok (.iconst 2, 1) := dk_5 (dk_at dksX8_collect_2_13 17 rfl rfl)
theorem dX8_collect_2_322 : decode cX8_collect_2 322 = .ok (.iload 11, 2) := dk_21 11 (dk_at dksX8_collect_2_13 18 rfl rfl)
theorem dX8_collect_2_324 : decode cX8_collect_2 324 = .ok (.iastore, 1) := dk_79 (dk_at dksX8_collect_2_13 20 rfl rfl)
theorem dX8_collect_2_325 : decode cX8_collect_2 325 = .ok (.dup, 1) := dk_89 (dk_at dksX8_collect_2_13 21 rfl rfl)
theorem dX8_collect_2_326 : decode cX8_collect_2 326 = .ok (.iconst 3, 1) := dk_6 (dk_at dksX8_collect_2_13 22 rfl rfl)
theorem dX8_collect_2_327 : decode cX8_collect_2 327 = .ok (.aload_n 0, 1) := dk_42 (dk_at dksX8_collect_2_13 23 rfl rfl)
theorem dX8_collect_2_328 : decode cX8_collect_2 328 = .ok (.iload_n 3, 1) := dk_29 (dk_at dksX8_collect_2_14 0 rfl rfl)
theorem dX8_collect_2_329 : decode cX8_collect_2 329 = .ok (.aload_n 1, 1) := dk_43 (dk_at dksX8_collect_2_14 1 rfl rfl)
theorem dX8_collect_2_330 : decode cX8_collect_2 330 = .ok (.getfield 213, 3) := dk_180 0 213 (dk_at dksX8_collect_2_14 2 rfl rfl)
theorem dX8_collect_2_333 : decode cX8_collect_2 333 = .ok (.iconst 1, 1) := dk_4 (dk_at dksX8_collect_2_14 5 rfl rfl)
theorem dX8_collect_2_334 : decode cX8_collect_2 334 = .ok (.invokevirtual 336, 3) := dk_182 1 80 (dk_at dksX8_collect_2_14 6 rfl rfl)
theorem dX8_collect_2_337 : decode cX8_collect_2 337 = .ok (.iastore, 1) := dk_79 (dk_at dksX8_collect_2_14 9 rfl rfl)
theorem dX8_collect_2_338 : decode cX8_collect_2 338 = .ok (.dup, 1) := dk_89 (dk_at dksX8_collect_2_14 10 rfl rfl)
theorem dX8_collect_2_339 : decode cX8_collect_2 339 = .ok (.iconst 4, 1) := dk_7 (dk_at dksX8_collect_2_14 11 rfl rfl)
theorem dX8_collect_2_340 : decode cX8_collect_2 340 = .ok (.iload_n 2, 1) := dk_28 (dk_at dksX8_collect_2_14 12 rfl rfl)
theorem dX8_collect_2_341 : decode cX8_collect_2 341 = .ok (.iastore, 1) := dk_79 (dk_at dksX8_collect_2_14 13 rfl rfl)
theorem dX8_collect_2_342 : decode cX8_collect_2 342 = .ok (.dup, 1) := dk_89 (dk_at dksX8_collect_2_14 14 rfl rfl)
theorem dX8_collect_2_343 : decode cX8_collect_2 343 = .ok (.iconst 5, 1) := dk_8 (dk_at dksX8_collect_2_14 15 rfl rfl)
theorem dX8_collect_2_344 : decode cX8_collect_2 344 = .ok (.iconst 0, 1) := dk_3 (dk_at dksX8_collect_2_14 16 rfl rfl)
theorem dX8_collect_2_345 : decode cX8_collect_2 345 = .ok (.iastore, 1) := dk_79 (dk_at dksX8_collect_2_14 17 rfl rfl)
theorem dX8_collect_2_346 : decode cX8_collect_2 346 = .ok (.aastore, 1) := dk_83 (dk_at dksX8_collect_2_14 18 rfl rfl)
theorem dX8_collect_2_347 : decode cX8_collect_2 347 = .ok (.aload 4, 2) := dk_25 4 (dk_at dksX8_collect_2_14 19 rfl rfl)
theorem dX8_collect_2_349 : decode cX8_collect_2 349 = .ok (.iload 7, 2) := dk_21 7 (dk_at dksX8_collect_2_14 21 rfl rfl)
theorem dX8_collect_2_351 : decode cX8_collect_2 351 = .ok (.invokevirtual 303, 3) := dk_182 1 47 (dk_at dksX8_collect_2_15 0 rfl rfl)
theorem dX8_collect_2_354 : decode cX8_collect_2 354 = .ok (.return_, 1) := dk_177 (dk_at dksX8_collect_2_15 3 rfl rfl)
abbrev cX8_dueNow : ByteArray := prog_19_method_13_code
def yX8_dueNow : MethodName := ⟨RX8, "dueNow", "(IIZ)I"⟩
def dkwX8_dueNow_2 : List UInt8 := [180, 0, 90, 28, 46, 25, 4, 180, 0, 91, 28, 51, 184, 0, 86, 172]
abbrev dktX8_dueNow_2 : List UInt8 := dkwX8_dueNow_2 ++ []
def dkwX8_dueNow_1 : List UInt8 := [28, 46, 42, 180, 0, 30, 28, 46, 27, 184, 0, 82, 184, 0, 86, 167, 0, 23, 25, 4, 28, 25, 4]
abbrev dktX8_dueNow_1 : List UInt8 := dkwX8_dueNow_1 ++ dktX8_dueNow_2
def dkwX8_dueNow_0 : List UInt8 := [42, 180, 0, 16, 27, 182, 0, 78, 192, 0, 68, 58, 4, 29, 153, 0, 28, 25, 4, 28, 42, 180, 0, 26]
abbrev dktX8_dueNow_0 : List UInt8 := dkwX8_dueNow_0 ++ dktX8_dueNow_1
theorem dksX8_dueNow_0 : cX8_dueNow.data.toList.drop 0 = dktX8_dueNow_0 := by decide +kernel
theorem dksX8_dueNow_1 : cX8_dueNow.data.toList.drop 24 = dktX8_dueNow_1 := dk_seg dksX8_dueNow_0 24 rfl rfl
theorem dksX8_dueNow_2 : cX8_dueNow.data.toList.drop 47 = dktX8_dueNow_2 := dk_seg dksX8_dueNow_1 23 rfl rfl
theorem dX8_dueNow_0 : decode cX8_dueNow 0 = .ok (.aload_n 0, 1) := dk_42 (dk_at dksX8_dueNow_0 0 rfl rfl)
theorem dX8_dueNow_1 : decode cX8_dueNow 1 = .ok (.getfield 16, 3) := dk_180 0 16 (dk_at dksX8_dueNow_0 1 rfl rfl)
theorem dX8_dueNow_4 : decode cX8_dueNow 4 = .ok (.iload_n 1, 1) := dk_27 (dk_at dksX8_dueNow_0 4 rfl rfl)
theorem dX8_dueNow_5 : decode cX8_dueNow 5 = .ok (.invokevirtual 78, 3) := dk_182 0 78 (dk_at dksX8_dueNow_0 5 rfl rfl)
theorem dX8_dueNow_8 : decode cX8_dueNow 8 = .ok (.checkcast 68, 3) := dk_192 0 68 (dk_at dksX8_dueNow_0 8 rfl rfl)
theorem dX8_dueNow_11 : decode cX8_dueNow 11 = .ok (.astore 4, 2) := dk_58 4 (dk_at dksX8_dueNow_0 11 rfl rfl)
theorem dX8_dueNow_13 : decode cX8_dueNow 13 = .ok (.iload_n 3, 1) := dk_29 (dk_at dksX8_dueNow_0 13 rfl rfl)
theorem dX8_dueNow_14 : decode cX8_dueNow 14 = .ok (.ifCond .eq 28, 3) := dk_153 0 28 (dk_at dksX8_dueNow_0 14 rfl rfl)
theorem dX8_dueNow_17 : decode cX8_dueNow 17 = .ok (.aload 4, 2) := dk_25 4 (dk_at dksX8_dueNow_0 17 rfl rfl)
theorem dX8_dueNow_19 : decode cX8_dueNow 19 = .ok (.iload_n 2, 1) := dk_28 (dk_at dksX8_dueNow_0 19 rfl rfl)
theorem dX8_dueNow_20 : decode cX8_dueNow 20 = .ok (.aload_n 0, 1) := dk_42 (dk_at dksX8_dueNow_0 20 rfl rfl)
theorem dX8_dueNow_21 : decode cX8_dueNow 21 = .ok (.getfield 26, 3) := dk_180 0 26 (dk_at dksX8_dueNow_0 21 rfl rfl)
theorem dX8_dueNow_24 : decode cX8_dueNow 24 = .ok (.iload_n 2, 1) := dk_28 (dk_at dksX8_dueNow_1 0 rfl rfl)
theorem dX8_dueNow_25 : decode cX8_dueNow 25 = .ok (.iaload, 1) := dk_46 (dk_at dksX8_dueNow_1 1 rfl rfl)
theorem dX8_dueNow_26 : decode cX8_dueNow 26 = .ok (.aload_n 0, 1) := dk_42 (dk_at dksX8_dueNow_1 2 rfl rfl)
theorem dX8_dueNow_27 : decode cX8_dueNow 27 = .ok (.getfield 30, 3) := dk_180 0 30 (dk_at dksX8_dueNow_1 3 rfl rfl)
theorem dX8_dueNow_30 : decode cX8_dueNow 30 = .ok (.iload_n 2, 1) := dk_28 (dk_at dksX8_dueNow_1 6 rfl rfl)
theorem dX8_dueNow_31 : decode cX8_dueNow 31 = .ok (.iaload, 1) := dk_46 (dk_at dksX8_dueNow_1 7 rfl rfl)
theorem dX8_dueNow_32 : decode cX8_dueNow 32 = .ok (.iload_n 1, 1) := dk_27 (dk_at dksX8_dueNow_1 8 rfl rfl)
theorem dX8_dueNow_33 : decode cX8_dueNow 33 = .ok (.invokestatic 82, 3) := dk_184 0 82 (dk_at dksX8_dueNow_1 9 rfl rfl)
theorem dX8_dueNow_36 : decode cX8_dueNow 36 = .ok (.invokestatic 86, 3) := dk_184 0 86 (dk_at dksX8_dueNow_1 12 rfl rfl)
theorem dX8_dueNow_39 : decode cX8_dueNow 39 = .ok (.goto 23, 3) := dk_167 0 23 (dk_at dksX8_dueNow_1 15 rfl rfl)
theorem dX8_dueNow_42 : decode cX8_dueNow 42 = .ok (.aload 4, 2) := dk_25 4 (dk_at dksX8_dueNow_1 18 rfl rfl)
theorem dX8_dueNow_44 : decode cX8_dueNow 44 = .ok (.iload_n 2, 1) := dk_28 (dk_at dksX8_dueNow_1 20 rfl rfl)
theorem dX8_dueNow_45 : decode cX8_dueNow 45 = .ok (.aload 4, 2) := dk_25 4 (dk_at dksX8_dueNow_1 21 rfl rfl)
theorem dX8_dueNow_47 : decode cX8_dueNow 47 = .ok (.getfield 90, 3) := dk_180 0 90 (dk_at dksX8_dueNow_2 0 rfl rfl)
theorem dX8_dueNow_50 : decode cX8_dueNow 50 = .ok (.iload_n 2, 1) := dk_28 (dk_at dksX8_dueNow_2 3 rfl rfl)
theorem dX8_dueNow_51 : decode cX8_dueNow 51 = .ok (.iaload, 1) := dk_46 (dk_at dksX8_dueNow_2 4 rfl rfl)
theorem dX8_dueNow_52 : decode cX8_dueNow 52 = .ok (.aload 4, 2) := dk_25 4 (dk_at dksX8_dueNow_2 5 rfl rfl)
theorem dX8_dueNow_54 : decode cX8_dueNow 54 = .ok (.getfield 91, 3) := dk_180 0 91 (dk_at dksX8_dueNow_2 7 rfl rfl)
theorem dX8_dueNow_57 : decode cX8_dueNow 57 = .ok (.iload_n 2, 1) := dk_28 (dk_at dksX8_dueNow_2 10 rfl rfl)
theorem dX8_dueNow_58 : decode cX8_dueNow 58 = .ok (.baload, 1) := dk_51 (dk_at dksX8_dueNow_2 11 rfl rfl)
theorem dX8_dueNow_59 : decode cX8_dueNow 59 = .ok (.invokestatic 86, 3) := dk_184 0 86 (dk_at dksX8_dueNow_2 12 rfl rfl)
theorem dX8_dueNow_62 : decode cX8_dueNow 62 = .ok (.ireturn, 1) := dk_172 (dk_at dksX8_dueNow_2 15 rfl rfl)
abbrev cX8_due : ByteArray := prog_19_method_12_code
def yX8_due : MethodName := ⟨RX8, "due", "(LPublicanryModel$Village;IIZ)I"⟩
def dkwX8_due_1 : List UInt8 := [4, 160, 0, 15, 42, 180, 0, 72, 28, 104, 16, 100, 108, 167, 0, 9, 42, 180, 0, 75, 28, 104, 172]
abbrev dktX8_due_1 : List UInt8 := dkwX8_due_1 ++ []
def dkwX8_due_0 : List UInt8 := [29, 153, 0, 5, 3, 172, 27, 154, 0, 16, 42, 180, 0, 67, 28, 104, 17, 3, 232, 108, 167, 0, 26, 27]
abbrev dktX8_due_0 : List UInt8 := dkwX8_due_0 ++ dktX8_due_1
theorem dksX8_due_0 : cX8_due.data.toList.drop 0 = dktX8_due_0 := by decide +kernel
theorem dksX8_due_1 : cX8_due.data.toList.drop 24 = dktX8_due_1 := dk_seg dksX8_due_0 24 rfl rfl
theorem dX8_due_0 : decode cX8_due 0 = .ok (.iload_n 3, 1) := dk_29 (dk_at dksX8_due_0 0 rfl rfl)
theorem dX8_due_1 : decode cX8_due 1 = .ok (.ifCond .eq 5, 3) := dk_153 0 5 (dk_at dksX8_due_0 1 rfl rfl)
theorem dX8_due_4 : decode cX8_due 4 = .ok (.iconst 0, 1) := dk_3 (dk_at dksX8_due_0 4 rfl rfl)
theorem dX8_due_5 : decode cX8_due 5 = .ok (.ireturn, 1) := dk_172 (dk_at dksX8_due_0 5 rfl rfl)
theorem dX8_due_6 : decode cX8_due 6 = .ok (.iload_n 1, 1) := dk_27 (dk_at dksX8_due_0 6 rfl rfl)
theorem dX8_due_7 : decode cX8_due 7 = .ok (.ifCond .ne 16, 3) := dk_154 0 16 (dk_at dksX8_due_0 7 rfl rfl)
theorem dX8_due_10 : decode cX8_due 10 = .ok (.aload_n 0, 1) := dk_42 (dk_at dksX8_due_0 10 rfl rfl)
theorem dX8_due_11 : decode cX8_due 11 = .ok (.getfield 67, 3) := dk_180 0 67 (dk_at dksX8_due_0 11 rfl rfl)
theorem dX8_due_14 : decode cX8_due 14 = .ok (.iload_n 2, 1) := dk_28 (dk_at dksX8_due_0 14 rfl rfl)
theorem dX8_due_15 : decode cX8_due 15 = .ok (.imul, 1) := dk_104 (dk_at dksX8_due_0 15 rfl rfl)
theorem dX8_due_16 : decode cX8_due 16 = .ok (.sipush 1000, 3) := dk_17 3 232 (dk_at dksX8_due_0 16 rfl rfl)
theorem dX8_due_19 : decode cX8_due 19 = .ok (.idiv, 1) := dk_108 (dk_at dksX8_due_0 19 rfl rfl)
theorem dX8_due_20 : decode cX8_due 20 = .ok (.goto 26, 3) := dk_167 0 26 (dk_at dksX8_due_0 20 rfl rfl)
theorem dX8_due_23 : decode cX8_due 23 = .ok (.iload_n 1, 1) := dk_27 (dk_at dksX8_due_0 23 rfl rfl)
theorem dX8_due_24 : decode cX8_due 24 = .ok (.iconst 1, 1) := dk_4 (dk_at dksX8_due_1 0 rfl rfl)
theorem dX8_due_25 : decode cX8_due 25 = .ok (.if_icmp .ne 15, 3) := dk_160 0 15 (dk_at dksX8_due_1 1 rfl rfl)
theorem dX8_due_28 : decode cX8_due 28 = .ok (.aload_n 0, 1) := dk_42 (dk_at dksX8_due_1 4 rfl rfl)
theorem dX8_due_29 : decode cX8_due 29 = .ok (.getfield 72, 3) := dk_180 0 72 (dk_at dksX8_due_1 5 rfl rfl)
theorem dX8_due_32 : decode cX8_due 32 = .ok (.iload_n 2, 1) := dk_28 (dk_at dksX8_due_1 8 rfl rfl)
theorem dX8_due_33 : decode cX8_due 33 = .ok (.imul, 1) := dk_104 (dk_at dksX8_due_1 9 rfl rfl)
theorem dX8_due_34 : decode cX8_due 34 = .ok (.bipush 100, 2) := dk_16 100 (dk_at dksX8_due_1 10 rfl rfl)
theorem dX8_due_36 : decode cX8_due 36 = .ok (.idiv, 1) := dk_108 (dk_at dksX8_due_1 12 rfl rfl)
theorem dX8_due_37 : decode cX8_due 37 = .ok (.goto 9, 3) := dk_167 0 9 (dk_at dksX8_due_1 13 rfl rfl)
theorem dX8_due_40 : decode cX8_due 40 = .ok (.aload_n 0, 1) := dk_42 (dk_at dksX8_due_1 16 rfl rfl)
theorem dX8_due_41 : decode cX8_due 41 = .ok (.getfield 75, 3) := dk_180 0 75 (dk_at dksX8_due_1 17 rfl rfl)
theorem dX8_due_44 : decode cX8_due 44 = .ok (.iload_n 2, 1) := dk_28 (dk_at dksX8_due_1 20 rfl rfl)
theorem dX8_due_45 : decode cX8_due 45 = .ok (.imul, 1) := dk_104 (dk_at dksX8_due_1 21 rfl rfl)
theorem dX8_due_46 : decode cX8_due 46 = .ok (.ireturn, 1) := dk_172 (dk_at dksX8_due_1 22 rfl rfl)
abbrev cX8_hidden : ByteArray := prog_19_method_14_code
def yX8_hidden : MethodName := ⟨RX8, "hidden", "(III)I"⟩
def dkwX8_hidden_1 : List UInt8 := [172]
abbrev dktX8_hidden_1 : List UInt8 := dkwX8_hidden_1 ++ []
def dkwX8_hidden_0 : List UInt8 := [26, 3, 16, 12, 16, 6, 27, 7, 108, 96, 5, 28, 104, 100, 184, 0, 93, 184, 0, 99, 104, 16, 16, 108]
abbrev dktX8_hidden_0 : List UInt8 := dkwX8_hidden_0 ++ dktX8_hidden_1
theorem dksX8_hidden_0 : cX8_hidden.data.toList.drop 0 = dktX8_hidden_0 := by decide +kernel
theorem dksX8_hidden_1 : cX8_hidden.data.toList.drop 24 = dktX8_hidden_1 := dk_seg dksX8_hidden_0 24 rfl rfl
theorem dX8_hidden_0 : decode cX8_hidden 0 = .ok (.iload_n 0, 1) := dk_26 (dk_at dksX8_hidden_0 0 rfl rfl)
theorem dX8_hidden_1 : decode cX8_hidden 1 = .ok (.iconst 0, 1) := dk_3 (dk_at dksX8_hidden_0 1 rfl rfl)
theorem dX8_hidden_2 : decode cX8_hidden 2 = .ok (.bipush 12, 2) := dk_16 12 (dk_at dksX8_hidden_0 2 rfl rfl)
theorem dX8_hidden_4 : decode cX8_hidden 4 = .ok (.bipush 6, 2) := dk_16 6 (dk_at dksX8_hidden_0 4 rfl rfl)
theorem dX8_hidden_6 : decode cX8_hidden 6 = .ok (.iload_n 1, 1) := dk_27 (dk_at dksX8_hidden_0 6 rfl rfl)
theorem dX8_hidden_7 : decode cX8_hidden 7 = .ok (.iconst 4, 1) := dk_7 (dk_at dksX8_hidden_0 7 rfl rfl)
theorem dX8_hidden_8 : decode cX8_hidden 8 = .ok (.idiv, 1) := dk_108 (dk_at dksX8_hidden_0 8 rfl rfl)
theorem dX8_hidden_9 : decode cX8_hidden 9 = .ok (.iadd, 1) := dk_96 (dk_at dksX8_hidden_0 9 rfl rfl)
theorem dX8_hidden_10 : decode cX8_hidden 10 = .ok (.iconst 2, 1) := dk_5 (dk_at dksX8_hidden_0 10 rfl rfl)
theorem dX8_hidden_11 : decode cX8_hidden 11 = .ok (.iload_n 2, 1) := dk_28 (dk_at dksX8_hidden_0 11 rfl rfl)
theorem dX8_hidden_12 : decode cX8_hidden 12 = .ok (.imul, 1) := dk_104 (dk_at dksX8_hidden_0 12 rfl rfl)
theorem dX8_hidden_13 : decode cX8_hidden 13 = .ok (.isub, 1) := dk_100 (dk_at dksX8_hidden_0 13 rfl rfl)
theorem dX8_hidden_14 : decode cX8_hidden 14 = .ok (.invokestatic 93, 3) := dk_184 0 93 (dk_at dksX8_hidden_0 14 rfl rfl)
theorem dX8_hidden_17 : decode cX8_hidden 17 = .ok (.invokestatic 99, 3) := dk_184 0 99 (dk_at dksX8_hidden_0 17 rfl rfl)
theorem dX8_hidden_20 : decode cX8_hidden 20 = .ok (.imul, 1) := dk_104 (dk_at dksX8_hidden_0 20 rfl rfl)
theorem dX8_hidden_21 : decode cX8_hidden 21 = .ok (.bipush 16, 2) := dk_16 16 (dk_at dksX8_hidden_0 21 rfl rfl)
theorem dX8_hidden_23 : decode cX8_hidden 23 = .ok (.idiv, 1) := dk_108 (dk_at dksX8_hidden_0 23 rfl rfl)
theorem dX8_hidden_24 : decode cX8_hidden 24 = .ok (.ireturn, 1) := dk_172 (dk_at dksX8_hidden_1 0 rfl rfl)
abbrev cX8_clerk : ByteArray := prog_19_method_54_code
def yX8_clerk : MethodName := ⟨RX8, "clerk", "(I)V"⟩
def dkwX8_clerk_6 : List UInt8 := [96, 79, 132, 2, 1, 167, 255, 113, 177]
abbrev dktX8_clerk_6 : List UInt8 := dkwX8_clerk_6 ++ []
def dkwX8_clerk_5 : List UInt8 := [100, 181, 1, 59, 42, 89, 180, 0, 118, 21, 5, 96, 181, 0, 118, 42, 180, 0, 43, 27, 92, 46, 21, 5]
abbrev dktX8_clerk_5 : List UInt8 := dkwX8_clerk_5 ++ dktX8_clerk_6
def dkwX8_clerk_4 : List UInt8 := [181, 0, 128, 42, 89, 180, 0, 121, 21, 5, 100, 181, 0, 121, 167, 0, 14, 45, 89, 180, 1, 59, 21, 4]
abbrev dktX8_clerk_4 : List UInt8 := dkwX8_clerk_4 ++ dktX8_clerk_5
def dkwX8_clerk_3 : List UInt8 := [21, 4, 104, 167, 0, 5, 21, 4, 54, 5, 27, 154, 0, 28, 45, 89, 180, 0, 128, 21, 4, 100]
abbrev dktX8_clerk_3 : List UInt8 := dkwX8_clerk_3 ++ dktX8_clerk_4
def dkwX8_clerk_2 : List UInt8 := [162, 0, 6, 167, 0, 93, 42, 7, 182, 0, 146, 42, 28, 27, 182, 1, 99, 54, 4, 27, 154, 0, 10, 5]
abbrev dktX8_clerk_2 : List UInt8 := dkwX8_clerk_2 ++ dktX8_clerk_3
def dkwX8_clerk_1 : List UInt8 := [78, 42, 27, 28, 182, 1, 96, 154, 0, 111, 45, 180, 1, 73, 154, 0, 104, 42, 180, 0, 118, 7]
abbrev dktX8_clerk_1 : List UInt8 := dkwX8_clerk_1 ++ dktX8_clerk_2
def dkwX8_clerk_0 : List UInt8 := [3, 61, 28, 42, 180, 0, 16, 182, 0, 56, 162, 0, 138, 42, 180, 0, 16, 28, 182, 0, 78, 192, 0, 68]
abbrev dktX8_clerk_0 : List UInt8 := dkwX8_clerk_0 ++ dktX8_clerk_1
theorem dksX8_clerk_0 : cX8_clerk.data.toList.drop 0 = dktX8_clerk_0 := by decide +kernel
theorem dksX8_clerk_1 : cX8_clerk.data.toList.drop 24 = dktX8_clerk_1 := dk_seg dksX8_clerk_0 24 rfl rfl
theorem dksX8_clerk_2 : cX8_clerk.data.toList.drop 46 = dktX8_clerk_2 := dk_seg dksX8_clerk_1 22 rfl rfl
theorem dksX8_clerk_3 : cX8_clerk.data.toList.drop 70 = dktX8_clerk_3 := dk_seg dksX8_clerk_2 24 rfl rfl
theorem dksX8_clerk_4 : cX8_clerk.data.toList.drop 92 = dktX8_clerk_4 := dk_seg dksX8_clerk_3 22 rfl rfl
theorem dksX8_clerk_5 : cX8_clerk.data.toList.drop 116 = dktX8_clerk_5 := dk_seg dksX8_clerk_4 24 rfl rfl
theorem dksX8_clerk_6 : cX8_clerk.data.toList.drop 140 = dktX8_clerk_6 := dk_seg dksX8_clerk_5 24 rfl rfl
theorem dX8_clerk_0 : decode cX8_clerk 0 = .ok (.iconst 0, 1) := dk_3 (dk_at dksX8_clerk_0 0 rfl rfl)
theorem dX8_clerk_1 : decode cX8_clerk 1 = .ok (.istore_n 2, 1) := dk_61 (dk_at dksX8_clerk_0 1 rfl rfl)
theorem dX8_clerk_2 : decode cX8_clerk 2 = .ok (.iload_n 2, 1) := dk_28 (dk_at dksX8_clerk_0 2 rfl rfl)
theorem dX8_clerk_3 : decode cX8_clerk 3 = .ok (.aload_n 0, 1) := dk_42 (dk_at dksX8_clerk_0 3 rfl rfl)
theorem dX8_clerk_4 : decode cX8_clerk 4 = .ok (.getfield 16, 3) := dk_180 0 16 (dk_at dksX8_clerk_0 4 rfl rfl)
theorem dX8_clerk_7 : decode cX8_clerk 7 = .ok (.invokevirtual 56, 3) := dk_182 0 56 (dk_at dksX8_clerk_0 7 rfl rfl)
theorem dX8_clerk_10 : decode cX8_clerk 10 = .ok (.if_icmp .ge 138, 3) := dk_162 0 138 (dk_at dksX8_clerk_0 10 rfl rfl)
theorem dX8_clerk_13 : decode cX8_clerk 13 = .ok (.aload_n 0, 1) := dk_42 (dk_at dksX8_clerk_0 13 rfl rfl)
theorem dX8_clerk_14 : decode cX8_clerk 14 = .ok (.getfield 16, 3) := dk_180 0 16 (dk_at dksX8_clerk_0 14 rfl rfl)
theorem dX8_clerk_17 : decode cX8_clerk 17 = .ok (.iload_n 2, 1) := dk_28 (dk_at dksX8_clerk_0 17 rfl rfl)
theorem dX8_clerk_18 : decode cX8_clerk 18 = .ok (.invokevirtual 78, 3) := dk_182 0 78 (dk_at dksX8_clerk_0 18 rfl rfl)
theorem dX8_clerk_21 : decode cX8_clerk 21 = .ok (.checkcast 68, 3) := dk_192 0 68 (dk_at dksX8_clerk_0 21 rfl rfl)
theorem dX8_clerk_24 : decode cX8_clerk 24 = .ok (.astore_n 3, 1) := dk_78 (dk_at dksX8_clerk_1 0 rfl rfl)
theorem dX8_clerk_25 : decode cX8_clerk 25 = .ok (.aload_n 0, 1) := dk_42 (dk_at dksX8_clerk_1 1 rfl rfl)
theorem dX8_clerk_26 : decode cX8_clerk 26 = .ok (.iload_n 1, 1) := dk_27 (dk_at dksX8_clerk_1 2 rfl rfl)
theorem dX8_clerk_27 : decode cX8_clerk 27 = .ok (.iload_n 2, 1) := dk_28 (dk_at dksX8_clerk_1 3 rfl rfl)
theorem dX8_clerk_28 : decode cX8_clerk 28 = .ok (.invokevirtual 352, 3) := dk_182 1 96 (dk_at dksX8_clerk_1 4 rfl rfl)
theorem dX8_clerk_31 : decode cX8_clerk 31 = .ok (.ifCond .ne 111, 3) := dk_154 0 111 (dk_at dksX8_clerk_1 7 rfl rfl)
theorem dX8_clerk_34 : decode cX8_clerk 34 = .ok (.aload_n 3, 1) := dk_45 (dk_at dksX8_clerk_1 10 rfl rfl)
theorem dX8_clerk_35 : decode cX8_clerk 35 = .ok (.getfield 329, 3) := dk_180 1 73 (dk_at dksX8_clerk_1 11 rfl rfl)
theorem dX8_clerk_38 : decode cX8_clerk 38 = .ok (.ifCond .ne 104, 3) := dk_154 0 104 (dk_at dksX8_clerk_1 14 rfl rfl)
theorem dX8_clerk_41 : decode cX8_clerk 41 = .ok (.aload_n 0, 1) := dk_42 (dk_at dksX8_clerk_1 17 rfl rfl)
theorem dX8_clerk_42 : decode cX8_clerk 42 = .ok (.getfield 118, 3) := dk_180 0 118 (dk_at dksX8_clerk_1 18 rfl rfl)
theorem dX8_clerk_45 : decode cX8_clerk 45 = .ok (.iconst 4, 1) := dk_7 (dk_at dksX8_clerk_1 21 rfl rfl)
theorem dX8_clerk_46 : decode cX8_clerk 46 = .ok (.if_icmp .ge 6, 3) := dk_162 0 6 (dk_at dksX8_clerk_2 0 rfl rfl)
theorem dX8_clerk_49 : decode cX8_clerk 49 = .ok (.goto 93, 3) := dk_167 0 93 (dk_at dksX8_clerk_2 3 rfl rfl)
theorem dX8_clerk_52 : decode cX8_clerk 52 = .ok (.aload_n 0, 1) := dk_42 (dk_at dksX8_clerk_2 6 rfl rfl)
theorem dX8_clerk_53 : decode cX8_clerk 53 = .ok (.iconst 4, 1) := dk_7 (dk_at dksX8_clerk_2 7 rfl rfl)
theorem dX8_clerk_54 : decode cX8_clerk 54 = .ok (.invokevirtual 146, 3) := dk_182 0 146 (dk_at dksX8_clerk_2 8 rfl rfl)
theorem dX8_clerk_57 : decode cX8_clerk 57 = .ok (.aload_n 0, 1) := dk_42 (dk_at dksX8_clerk_2 11 rfl rfl)
theorem dX8_clerk_58 : decode cX8_clerk 58 = .ok (.iload_n 2, 1) := dk_28 (dk_at dksX8_clerk_2 12 rfl rfl)
theorem dX8_clerk_59 : decode cX8_clerk 59 = .ok (.iload_n 1, 1) := dk_27 (dk_at dksX8_clerk_2 13 rfl rfl)
theorem dX8_clerk_60 : decode cX8_clerk 60 = .ok (.invokevirtual 355, 3) := dk_182 1 99 (dk_at dksX8_clerk_2 14 rfl rfl)
theorem dX8_clerk_63 : decode cX8_clerk 63 = .ok (.istore 4, 2) := dk_54 4 (dk_at dksX8_clerk_2 17 rfl rfl)
theorem dX8_clerk_65 : decode cX8_clerk 65 = .ok (.iload_n 1, 1) := dk_27 (dk_at dksX8_clerk_2 19 rfl rfl)
theorem dX8_clerk_66 : decode cX8_clerk 66 = .ok (.ifCond .ne 10, 3) := dk_154 0 10 (dk_at dksX8_clerk_2 20 rfl rfl)
theorem dX8_clerk_69 : decode cX8_clerk 69 = .ok (.iconst 2, 1) := dk_5 (dk_at dksX8_clerk_2 23 rfl rfl)
theorem dX8_clerk_70 : decode cX8_clerk 70 = .ok (.iload 4, 2) := dk_21 4 (dk_at dksX8_clerk_3 0 rfl rfl)
theorem dX8_clerk_72 : decode cX8_clerk 72 = .ok (.imul, 1) := dk_104 (dk_at dksX8_clerk_3 2 rfl rfl)
theorem dX8_clerk_73 : decode cX8_clerk 73 = .ok (.goto 5, 3) := dk_167 0 5 (dk_at dksX8_clerk_3 3 rfl rfl)
theorem dX8_clerk_76 : decode cX8_clerk 76 = .ok (.iload 4, 2) := dk_21 4 (dk_at dksX8_clerk_3 6 rfl rfl)
theorem dX8_clerk_78 : decode cX8_clerk 78 = .ok (.istore 5, 2) := dk_54 5 (dk_at dksX8_clerk_3 8 rfl rfl)
theorem dX8_clerk_80 : decode cX8_clerk 80 = .ok (.iload_n 1, 1) := dk_27 (dk_at dksX8_clerk_3 10 rfl rfl)
theorem dX8_clerk_81 : decode cX8_clerk 81 = .ok (.ifCond .ne 28, 3) := dk_154 0 28 (dk_at dksX8_clerk_3 11 rfl rfl)
theorem dX8_clerk_84 : decode cX8_clerk 84 = .ok (.aload_n 3, 1) := dk_45 (dk_at dksX8_clerk_3 14 rfl rfl)
theorem dX8_clerk_85 : decode cX8_clerk 85 = .ok (.dup, 1) := dk_89 (dk_at dksX8_clerk_3 15 rfl rfl)
theorem dX8_clerk_86 : decode cX8_clerk 86 = .ok (.getfield 128, 3) := dk_180 0 128 (dk_at dksX8_clerk_3 16 rfl rfl)
theorem dX8_clerk_89 : decode cX8_clerk 89 = .ok (.iload 4, 2) := dk_21 4 (dk_at dksX8_clerk_3 19 rfl rfl)
theorem dX8_clerk_91 : decode cX8_clerk 91 = .ok (.isub, 1) := dk_100 (dk_at dksX8_clerk_3 21 rfl rfl)
theorem dX8_clerk_92 : decode cX8_clerk 92 = .ok (.putfield 128, 3) := dk_181 0 128 (dk_at dksX8_clerk_4 0 rfl rfl)
theorem dX8_clerk_95 : decode cX8_clerk 95 = .ok (.aload_n 0, 1) := dk_42 (dk_at dksX8_clerk_4 3 rfl rfl)
theorem dX8_clerk_96 : decode cX8_clerk 96 = .ok (.dup, 1) := dk_89 (dk_at dksX8_clerk_4 4 rfl rfl)
theorem dX8_clerk_97 : decode cX8_clerk 97 = .ok (.getfield 121, 3) := dk_180 0 121 (dk_at dksX8_clerk_4 5 rfl rfl)
theorem dX8_clerk_100 : decode cX8_clerk 100 = .ok (.iload 5, 2) := dk_21 5 (dk_at dksX8_clerk_4 8 rfl rfl)
theorem dX8_clerk_102 : decode cX8_clerk 102 = .ok (.isub, 1) := dk_100 (dk_at dksX8_clerk_4 10 rfl rfl)
theorem dX8_clerk_103 : decode cX8_clerk 103 = .ok (.putfield 121, 3) := dk_181 0 121 (dk_at dksX8_clerk_4 11 rfl rfl)
theorem dX8_clerk_106 : decode cX8_clerk 106 = .ok (.goto 14, 3) := dk_167 0 14 (dk_at dksX8_clerk_4 14 rfl rfl)
theorem dX8_clerk_109 : decode cX8_clerk 109 = .ok (.aload_n 3, 1) := dk_45 (dk_at dksX8_clerk_4 17 rfl rfl)
theorem dX8_clerk_110 : decode cX8_clerk 110 = .ok (.dup, 1) := dk_89 (dk_at dksX8_clerk_4 18 rfl rfl)
theorem dX8_clerk_111 : decode cX8_clerk 111 = .ok (.getfield 315, 3) := dk_180 1 59 (dk_at dksX8_clerk_4 19 rfl rfl)
theorem dX8_clerk_114 : decode cX8_clerk 114 = .ok (.iload 4, 2) := dk_21 4 (dk_at dksX8_clerk_4 22 rfl rfl)
theorem dX8_clerk_116 : decode cX8_clerk 116 = .ok (.isub, 1) := dk_100 (dk_at dksX8_clerk_5 0 rfl rfl)
theorem dX8_clerk_117 : decode cX8_clerk 117 = .ok (.putfield 315, 3) := dk_181 1 59 (dk_at dksX8_clerk_5 1 rfl rfl)
theorem dX8_clerk_120 : decode cX8_clerk 120 = .ok (.aload_n 0, 1) := dk_42 (dk_at dksX8_clerk_5 4 rfl rfl)
theorem dX8_clerk_121 : decode cX8_clerk 121 = .ok (.dup, 1) := dk_89 (dk_at dksX8_clerk_5 5 rfl rfl)
theorem dX8_clerk_122 : decode cX8_clerk 122 = .ok (.getfield 118, 3) := dk_180 0 118 (dk_at dksX8_clerk_5 6 rfl rfl)
theorem dX8_clerk_125 : decode cX8_clerk 125 = .ok (.iload 5, 2) := dk_21 5 (dk_at dksX8_clerk_5 9 rfl rfl)
theorem dX8_clerk_127 : decode cX8_clerk 127 = .ok (.iadd, 1) := dk_96 (dk_at dksX8_clerk_5 11 rfl rfl)
theorem dX8_clerk_128 : decode cX8_clerk 128 = .ok (.putfield 118, 3) := dk_181 0 118 (dk_at dksX8_clerk_5 12 rfl rfl)
theorem dX8_clerk_131 : decode cX8_clerk 131 = .ok (.aload_n 0, 1) := dk_42 (dk_at dksX8_clerk_5 15 rfl rfl)
theorem dX8_clerk_132 : decode cX8_clerk 132 = .ok (.getfield 43, 3) := dk_180 0 43 (dk_at dksX8_clerk_5 16 rfl rfl)
theorem dX8_clerk_135 : decode cX8_clerk 135 = .ok (.iload_n 1, 1) := dk_27 (dk_at dksX8_clerk_5 19 rfl rfl)
theorem dX8_clerk_136 : decode cX8_clerk 136 = .ok (.dup2, 1) := dk_92 (dk_at dksX8_clerk_5 20 rfl rfl)
theorem dX8_clerk_137 : decode cX8_clerk 137 = .ok (.iaload, 1) := dk_46 (dk_at dksX8_clerk_5 21 rfl rfl)
theorem dX8_clerk_138 : decode cX8_clerk 138 = .ok (.iload 5, 2) := dk_21 5 (dk_at dksX8_clerk_5 22 rfl rfl)
theorem dX8_clerk_140 : decode cX8_clerk 140 = .ok (.iadd, 1) := dk_96 (dk_at dksX8_clerk_6 0 rfl rfl)
theorem dX8_clerk_141 : decode cX8_clerk 141 = .ok (.iastore, 1) := dk_79 (dk_at dksX8_clerk_6 1 rfl rfl)
theorem dX8_clerk_142 : decode cX8_clerk 142 = .ok (.iinc 2 1, 3) := dk_132 2 1 (dk_at dksX8_clerk_6 2 rfl rfl)
theorem dX8_clerk_145 : decode cX8_clerk 145 = .ok (.goto (-143), 3) := dk_167 255 113 (dk_at dksX8_clerk_6 5 rfl rfl)
theorem dX8_clerk_148 : decode cX8_clerk 148 = .ok (.return_, 1) := dk_177 (dk_at dksX8_clerk_6 8 rfl rfl)
abbrev cX8_isLeased : ByteArray := prog_19_method_52_code
def yX8_isLeased : MethodName := ⟨RX8, "isLeased", "(II)Z"⟩
def dkwX8_isLeased_2 : List UInt8 := [25, 4, 180, 0, 216, 28, 184, 0, 82, 153, 0, 5, 4, 172, 167, 255, 204, 3, 172]
abbrev dktX8_isLeased_2 : List UInt8 := dkwX8_isLeased_2 ++ []
def dkwX8_isLeased_1 : List UInt8 := [192, 0, 208, 58, 4, 25, 4, 180, 0, 210, 4, 160, 0, 26, 25, 4, 180, 0, 213, 27, 160, 0, 17]
abbrev dktX8_isLeased_1 : List UInt8 := dkwX8_isLeased_1 ++ dktX8_isLeased_2
def dkwX8_isLeased_0 : List UInt8 := [42, 180, 0, 23, 182, 0, 195, 78, 45, 185, 0, 199, 1, 0, 153, 0, 49, 45, 185, 0, 204, 1, 0]
abbrev dktX8_isLeased_0 : List UInt8 := dkwX8_isLeased_0 ++ dktX8_isLeased_1
theorem dksX8_isLeased_0 : cX8_isLeased.data.toList.drop 0 = dktX8_isLeased_0 := by decide +kernel
theorem dksX8_isLeased_1 : cX8_isLeased.data.toList.drop 23 = dktX8_isLeased_1 := dk_seg dksX8_isLeased_0 23 rfl rfl
theorem dksX8_isLeased_2 : cX8_isLeased.data.toList.drop 46 = dktX8_isLeased_2 := dk_seg dksX8_isLeased_1 23 rfl rfl
theorem dX8_isLeased_0 : decode cX8_isLeased 0 = .ok (.aload_n 0, 1) := dk_42 (dk_at dksX8_isLeased_0 0 rfl rfl)
theorem dX8_isLeased_1 : decode cX8_isLeased 1 = .ok (.getfield 23, 3) := dk_180 0 23 (dk_at dksX8_isLeased_0 1 rfl rfl)
theorem dX8_isLeased_4 : decode cX8_isLeased 4 = .ok (.invokevirtual 195, 3) := dk_182 0 195 (dk_at dksX8_isLeased_0 4 rfl rfl)
theorem dX8_isLeased_7 : decode cX8_isLeased 7 = .ok (.astore_n 3, 1) := dk_78 (dk_at dksX8_isLeased_0 7 rfl rfl)
theorem dX8_isLeased_8 : decode cX8_isLeased 8 = .ok (.aload_n 3, 1) := dk_45 (dk_at dksX8_isLeased_0 8 rfl rfl)
theorem dX8_isLeased_9 : decode cX8_isLeased 9 = .ok (.invokeinterface 199 1, 5) := by decide +kernel
theorem dX8_isLeased_14 : decode cX8_isLeased 14 = .ok (.ifCond .eq 49, 3) := dk_153 0 49 (dk_at dksX8_isLeased_0 14 rfl rfl)
theorem dX8_isLeased_17 : decode cX8_isLeased 17 = .ok (.aload_n 3, 1) := dk_45 (dk_at dksX8_isLeased_0 17 rfl rfl)
theorem dX8_isLeased_18 : decode cX8_isLeased 18 = .ok (.invokeinterface 204 1, 5) := by decide +kernel
theorem dX8_isLeased_23 : decode cX8_isLeased 23 = .ok (.checkcast 208, 3) := dk_192 0 208 (dk_at dksX8_isLeased_1 0 rfl rfl)
theorem dX8_isLeased_26 : decode cX8_isLeased 26 = .ok (.astore 4, 2) := dk_58 4 (dk_at dksX8_isLeased_1 3 rfl rfl)
theorem dX8_isLeased_28 : decode cX8_isLeased 28 = .ok (.aload 4, 2) := dk_25 4 (dk_at dksX8_isLeased_1 5 rfl rfl)
theorem dX8_isLeased_30 : decode cX8_isLeased 30 = .ok (.getfield 210, 3) := dk_180 0 210 (dk_at dksX8_isLeased_1 7 rfl rfl)
theorem dX8_isLeased_33 : decode cX8_isLeased 33 = .ok (.iconst 1, 1) := dk_4 (dk_at dksX8_isLeased_1 10 rfl rfl)
theorem dX8_isLeased_34 : decode cX8_isLeased 34 = .ok (.if_icmp .ne 26, 3) := dk_160 0 26 (dk_at dksX8_isLeased_1 11 rfl rfl)
theorem dX8_isLeased_37 : decode cX8_isLeased 37 = .ok (.aload 4, 2) := dk_25 4 (dk_at dksX8_isLeased_1 14 rfl rfl)
theorem dX8_isLeased_39 : decode cX8_isLeased 39 = .ok (.getfield 213, 3) := dk_180 0 213 (dk_at dksX8_isLeased_1 16 rfl rfl)
theorem dX8_isLeased_42 : decode cX8_isLeased 42 = .ok (.iload_n 1, 1) := dk_27 (dk_at dksX8_isLeased_1 19 rfl rfl)
theorem dX8_isLeased_43 : decode cX8_isLeased 43 = .ok (.if_icmp .ne 17, 3) := dk_160 0 17 (dk_at dksX8_isLeased_1 20 rfl rfl)
theorem dX8_isLeased_46 : decode cX8_isLeased 46 = .ok (.aload 4, 2) := dk_25 4 (dk_at dksX8_isLeased_2 0 rfl rfl)
theorem dX8_isLeased_48 : decode cX8_isLeased 48 = .ok (.getfield 216, 3) := dk_180 0 216 (dk_at dksX8_isLeased_2 2 rfl rfl)
theorem dX8_isLeased_51 : decode cX8_isLeased 51 = .ok (.iload_n 2, 1) := dk_28 (dk_at dksX8_isLeased_2 5 rfl rfl)
theorem dX8_isLeased_52 : decode cX8_isLeased 52 = .ok (.invokestatic 82, 3) := dk_184 0 82 (dk_at dksX8_isLeased_2 6 rfl rfl)
theorem dX8_isLeased_55 : decode cX8_isLeased 55 = .ok (.ifCond .eq 5, 3) := dk_153 0 5 (dk_at dksX8_isLeased_2 9 rfl rfl)
theorem dX8_isLeased_58 : decode cX8_isLeased 58 = .ok (.iconst 1, 1) := dk_4 (dk_at dksX8_isLeased_2 12 rfl rfl)
theorem dX8_isLeased_59 : decode cX8_isLeased 59 = .ok (.ireturn, 1) := dk_172 (dk_at dksX8_isLeased_2 13 rfl rfl)
theorem dX8_isLeased_60 : decode cX8_isLeased 60 = .ok (.goto (-52), 3) := dk_167 255 204 (dk_at dksX8_isLeased_2 14 rfl rfl)
theorem dX8_isLeased_63 : decode cX8_isLeased 63 = .ok (.iconst 0, 1) := dk_3 (dk_at dksX8_isLeased_2 17 rfl rfl)
theorem dX8_isLeased_64 : decode cX8_isLeased 64 = .ok (.ireturn, 1) := dk_172 (dk_at dksX8_isLeased_2 18 rfl rfl)
abbrev cX8_byClerks : ByteArray := prog_19_method_53_code
def yX8_byClerks : MethodName := ⟨RX8, "byClerks", "(II)I"⟩
def dkwX8_byClerks_2 : List UInt8 := [180, 1, 59, 184, 0, 93, 172]
abbrev dktX8_byClerks_2 : List UInt8 := dkwX8_byClerks_2 ++ []
def dkwX8_byClerks_1 : List UInt8 := [21, 4, 45, 180, 1, 84, 4, 184, 1, 87, 100, 28, 154, 0, 10, 45, 180, 0, 128, 167, 0, 7, 45]
abbrev dktX8_byClerks_1 : List UInt8 := dkwX8_byClerks_1 ++ dktX8_byClerks_2
def dkwX8_byClerks_0 : List UInt8 := [42, 180, 0, 16, 27, 182, 0, 78, 192, 0, 68, 78, 42, 27, 28, 4, 182, 1, 80, 54, 4, 21, 4]
abbrev dktX8_byClerks_0 : List UInt8 := dkwX8_byClerks_0 ++ dktX8_byClerks_1
theorem dksX8_byClerks_0 : cX8_byClerks.data.toList.drop 0 = dktX8_byClerks_0 := by decide +kernel
theorem dksX8_byClerks_1 : cX8_byClerks.data.toList.drop 23 = dktX8_byClerks_1 := dk_seg dksX8_byClerks_0 23 rfl rfl
theorem dksX8_byClerks_2 : cX8_byClerks.data.toList.drop 46 = dktX8_byClerks_2 := dk_seg dksX8_byClerks_1 23 rfl rfl
theorem dX8_byClerks_0 : decode cX8_byClerks 0 = .ok (.aload_n 0, 1) := dk_42 (dk_at dksX8_byClerks_0 0 rfl rfl)
theorem dX8_byClerks_1 : decode cX8_byClerks 1 = .ok (.getfield 16, 3) := dk_180 0 16 (dk_at dksX8_byClerks_0 1 rfl rfl)
theorem dX8_byClerks_4 : decode cX8_byClerks 4 = .ok (.iload_n 1, 1) := dk_27 (dk_at dksX8_byClerks_0 4 rfl rfl)
theorem dX8_byClerks_5 : decode cX8_byClerks 5 = .ok (.invokevirtual 78, 3) := dk_182 0 78 (dk_at dksX8_byClerks_0 5 rfl rfl)
theorem dX8_byClerks_8 : decode cX8_byClerks 8 = .ok (.checkcast 68, 3) := dk_192 0 68 (dk_at dksX8_byClerks_0 8 rfl rfl)
theorem dX8_byClerks_11 : decode cX8_byClerks 11 = .ok (.astore_n 3, 1) := dk_78 (dk_at dksX8_byClerks_0 11 rfl rfl)
theorem dX8_byClerks_12 : decode cX8_byClerks 12 = .ok (.aload_n 0, 1) := dk_42 (dk_at dksX8_byClerks_0 12 rfl rfl)
theorem dX8_byClerks_13 : decode cX8_byClerks 13 = .ok (.iload_n 1, 1) := dk_27 (dk_at dksX8_byClerks_0 13 rfl rfl)
theorem dX8_byClerks_14 : decode cX8_byClerks 14 = .ok (.iload_n 2, 1) := dk_28 (dk_at dksX8_byClerks_0 14 rfl rfl)
theorem dX8_byClerks_15 : decode cX8_byClerks 15 = .ok (.iconst 1, 1) := dk_4 (dk_at dksX8_byClerks_0 15 rfl rfl)
theorem dX8_byClerks_16 : decode cX8_byClerks 16 = .ok (.invokevirtual 336, 3) := dk_182 1 80 (dk_at dksX8_byClerks_0 16 rfl rfl)
theorem dX8_byClerks_19 : decode cX8_byClerks 19 = .ok (.istore 4, 2) := dk_54 4 (dk_at dksX8_byClerks_0 19 rfl rfl)
theorem dX8_byClerks_21 : decode cX8_byClerks 21 = .ok (.iload 4, 2) := dk_21 4 (dk_at dksX8_byClerks_0 21 rfl rfl)
theorem dX8_byClerks_23 : decode cX8_byClerks 23 = .ok (.iload 4, 2) := dk_21 4 (dk_at dksX8_byClerks_1 0 rfl rfl)
theorem dX8_byClerks_25 : decode cX8_byClerks 25 = .ok (.aload_n 3, 1) := dk_45 (dk_at dksX8_byClerks_1 2 rfl rfl)
theorem dX8_byClerks_26 : decode cX8_byClerks 26 = .ok (.getfield 340, 3) := dk_180 1 84 (dk_at dksX8_byClerks_1 3 rfl rfl)
theorem dX8_byClerks_29 : decode cX8_byClerks 29 = .ok (.iconst 1, 1) := dk_4 (dk_at dksX8_byClerks_1 6 rfl rfl)
theorem dX8_byClerks_30 : decode cX8_byClerks 30 = .ok (.invokestatic 343, 3) := dk_184 1 87 (dk_at dksX8_byClerks_1 7 rfl rfl)
theorem dX8_byClerks_33 : decode cX8_byClerks 33 = .ok (.isub, 1) := dk_100 (dk_at dksX8_byClerks_1 10 rfl rfl)
theorem dX8_byClerks_34 : decode cX8_byClerks 34 = .ok (.iload_n 2, 1) := dk_28 (dk_at dksX8_byClerks_1 11 rfl rfl)
theorem dX8_byClerks_35 : decode cX8_byClerks 35 = .ok (.ifCond .ne 10, 3) := dk_154 0 10 (dk_at dksX8_byClerks_1 12 rfl rfl)
theorem dX8_byClerks_38 : decode cX8_byClerks 38 = .ok (.aload_n 3, 1) := dk_45 (dk_at dksX8_byClerks_1 15 rfl rfl)
theorem dX8_byClerks_39 : decode cX8_byClerks 39 = .ok (.getfield 128, 3) := dk_180 0 128 (dk_at dksX8_byClerks_1 16 rfl rfl)
theorem dX8_byClerks_42 : decode cX8_byClerks 42 = .ok (.goto 7, 3) := dk_167 0 7 (dk_at dksX8_byClerks_1 19 rfl rfl)
theorem dX8_byClerks_45 : decode cX8_byClerks 45 = .ok (.aload_n 3, 1) := dk_45 (dk_at dksX8_byClerks_1 22 rfl rfl)
theorem dX8_byClerks_46 : decode cX8_byClerks 46 = .ok (.getfield 315, 3) := dk_180 1 59 (dk_at dksX8_byClerks_2 0 rfl rfl)
theorem dX8_byClerks_49 : decode cX8_byClerks 49 = .ok (.invokestatic 93, 3) := dk_184 0 93 (dk_at dksX8_byClerks_2 3 rfl rfl)
theorem dX8_byClerks_52 : decode cX8_byClerks 52 = .ok (.ireturn, 1) := dk_172 (dk_at dksX8_byClerks_2 6 rfl rfl)
abbrev cX8_live : ByteArray := prog_19_method_55_code
def yX8_live : MethodName := ⟨RX8, "live", "(LPublicanryModel$Village;)V"⟩
def dkwX8_live_8 : List UInt8 := [181, 1, 73, 177]
abbrev dktX8_live_8 : List UInt8 := dkwX8_live_8 ++ []
def dkwX8_live_7 : List UInt8 := [180, 1, 84, 16, 12, 161, 0, 8, 43, 4, 181, 1, 73, 43, 180, 1, 84, 8, 162, 0, 8, 43, 3]
abbrev dktX8_live_7 : List UInt8 := dkwX8_live_7 ++ dktX8_live_8
def dkwX8_live_6 : List UInt8 := [180, 1, 90, 5, 108, 181, 1, 90, 43, 5, 182, 1, 47, 167, 0, 8, 43, 2, 182, 1, 47, 43]
abbrev dktX8_live_6 : List UInt8 := dkwX8_live_6 ++ dktX8_live_7
def dkwX8_live_5 : List UInt8 := [180, 0, 75, 21, 4, 100, 181, 0, 75, 43, 89, 180, 1, 102, 21, 4, 96, 181, 1, 102, 43, 89]
abbrev dktX8_live_5 : List UInt8 := dkwX8_live_5 ++ dktX8_live_6
def dkwX8_live_4 : List UInt8 := [180, 0, 75, 4, 100, 4, 43, 180, 0, 75, 8, 108, 184, 0, 99, 184, 0, 93, 54, 4, 43, 89]
abbrev dktX8_live_4 : List UInt8 := dkwX8_live_4 ++ dktX8_live_5
def dkwX8_live_3 : List UInt8 := [28, 29, 100, 104, 96, 181, 1, 90, 43, 180, 1, 90, 16, 12, 43, 180, 0, 75, 104, 164, 0, 64, 43]
abbrev dktX8_live_3 : List UInt8 := dkwX8_live_3 ++ dktX8_live_4
def dkwX8_live_2 : List UInt8 := [29, 104, 100, 181, 1, 59, 42, 89, 180, 0, 121, 6, 29, 104, 96, 181, 0, 121, 43, 89, 180, 1, 90, 7]
abbrev dktX8_live_2 : List UInt8 := dkwX8_live_2 ++ dktX8_live_3
def dkwX8_live_1 : List UInt8 := [100, 184, 0, 99, 181, 0, 128, 28, 43, 180, 1, 59, 6, 108, 184, 0, 93, 62, 43, 89, 180, 1, 59, 6]
abbrev dktX8_live_1 : List UInt8 := dkwX8_live_1 ++ dktX8_live_2
def dkwX8_live_0 : List UInt8 := [3, 43, 180, 0, 75, 43, 180, 0, 128, 100, 184, 0, 99, 61, 43, 3, 43, 180, 0, 128, 43, 180, 0, 75]
abbrev dktX8_live_0 : List UInt8 := dkwX8_live_0 ++ dktX8_live_1
theorem dksX8_live_0 : cX8_live.data.toList.drop 0 = dktX8_live_0 := by decide +kernel
theorem dksX8_live_1 : cX8_live.data.toList.drop 24 = dktX8_live_1 := dk_seg dksX8_live_0 24 rfl rfl
theorem dksX8_live_2 : cX8_live.data.toList.drop 48 = dktX8_live_2 := dk_seg dksX8_live_1 24 rfl rfl
theorem dksX8_live_3 : cX8_live.data.toList.drop 72 = dktX8_live_3 := dk_seg dksX8_live_2 24 rfl rfl
theorem dksX8_live_4 : cX8_live.data.toList.drop 95 = dktX8_live_4 := dk_seg dksX8_live_3 23 rfl rfl
theorem dksX8_live_5 : cX8_live.data.toList.drop 117 = dktX8_live_5 := dk_seg dksX8_live_4 22 rfl rfl
theorem dksX8_live_6 : cX8_live.data.toList.drop 139 = dktX8_live_6 := dk_seg dksX8_live_5 22 rfl rfl
theorem dksX8_live_7 : cX8_live.data.toList.drop 161 = dktX8_live_7 := dk_seg dksX8_live_6 22 rfl rfl
theorem dksX8_live_8 : cX8_live.data.toList.drop 184 = dktX8_live_8 := dk_seg dksX8_live_7 23 rfl rfl
theorem dX8_live_0 : decode cX8_live 0 = .ok (.iconst 0, 1) := dk_3 (dk_at dksX8_live_0 0 rfl rfl)
theorem dX8_live_1 : decode cX8_live 1 = .ok (.aload_n 1, 1) := dk_43 (dk_at dksX8_live_0 1 rfl rfl)
theorem dX8_live_2 : decode cX8_live 2 = .ok (.getfield 75, 3) := dk_180 0 75 (dk_at dksX8_live_0 2 rfl rfl)
theorem dX8_live_5 : decode cX8_live 5 = .ok (.aload_n 1, 1) := dk_43 (dk_at dksX8_live_0 5 rfl rfl)
theorem dX8_live_6 : decode cX8_live 6 = .ok (.getfield 128, 3) := dk_180 0 128 (dk_at dksX8_live_0 6 rfl rfl)
theorem dX8_live_9 : decode cX8_live 9 = .ok (.isub, 1) := dk_100 (dk_at dksX8_live_0 9 rfl rfl)
theorem dX8_live_10 : decode cX8_live 10 = .ok (.invokestatic 99, 3) := dk_184 0 99 (dk_at dksX8_live_0 10 rfl rfl)
theorem dX8_live_13 : decode cX8_live 13 = .ok (.istore_n 2, 1) := dk_61 (dk_at dksX8_live_0 13 rfl rfl)
theorem dX8_live_14 : decode cX8_live 14 = .ok (.aload_n 1, 1) := dk_43 (dk_at dksX8_live_0 14 rfl rfl)
theorem dX8_live_15 : decode cX8_live 15 = .ok (.iconst 0, 1) := dk_3 (dk_at dksX8_live_0 15 rfl rfl)
theorem dX8_live_16 : decode cX8_live 16 = .ok (.aload_n 1, 1) := dk_43 (dk_at dksX8_live_0 16 rfl rfl)
theorem dX8_live_17 : decode cX8_live 17 = .ok (.getfield 128, 3) := dk_180 0 128 (dk_at dksX8_live_0 17 rfl rfl)
theorem dX8_live_20 : decode cX8_live 20 = .ok (.aload_n 1, 1) := dk_43 (dk_at dksX8_live_0 20 rfl rfl)
theorem dX8_live_21 : decode cX8_live 21 = .ok (.getfield 75, 3) := dk_180 0 75 (dk_at dksX8_live_0 21 rfl rfl)
theorem dX8_live_24 : decode cX8_live 24 = .ok (.isub, 1) := dk_100 (dk_at dksX8_live_1 0 rfl rfl)
theorem dX8_live_25 : decode cX8_live 25 = .ok (.invokestatic 99, 3) := dk_184 0 99 (dk_at dksX8_live_1 1 rfl rfl)
theorem dX8_live_28 : decode cX8_live 28 = .ok (.putfield 128, 3) := dk_181 0 128 (dk_at dksX8_live_1 4 rfl rfl)
theorem dX8_live_31 : decode cX8_live 31 = .ok (.iload_n 2, 1) := dk_28 (dk_at dksX8_live_1 7 rfl rfl)
theorem dX8_live_32 : decode cX8_live 32 = .ok (.aload_n 1, 1) := dk_43 (dk_at dksX8_live_1 8 rfl rfl)
theorem dX8_live_33 : decode cX8_live 33 = .ok (.getfield 315, 3) := dk_180 1 59 (dk_at dksX8_live_1 9 rfl rfl)
theorem dX8_live_36 : decode cX8_live 36 = .ok (.iconst 3, 1) := dk_6 (dk_at dksX8_live_1 12 rfl rfl)
theorem dX8_live_37 : decode cX8_live 37 = .ok (.idiv, 1) := dk_108 (dk_at dksX8_live_1 13 rfl rfl)
theorem dX8_live_38 : decode cX8_live 38 = .ok (.invokestatic 93, 3) := dk_184 0 93 (dk_at dksX8_live_1 14 rfl rfl)
theorem dX8_live_41 : decode cX8_live 41 = .ok (.istore_n 3, 1) := dk_62 (dk_at dksX8_live_1 17 rfl rfl)
theorem dX8_live_42 : decode cX8_live 42 = .ok (.aload_n 1, 1) := dk_43 (dk_at dksX8_live_1 18 rfl rfl)
theorem dX8_live_43 : decode cX8_live 43 = .ok (.dup, 1) := dk_89 (dk_at dksX8_live_1 19 rfl rfl)
theorem dX8_live_44 : decode cX8_live 44 = .ok (.getfield 315, 3) := dk_180 1 59 (dk_at dksX8_live_1 20 rfl rfl)
theorem dX8_live_47 : decode cX8_live 47 = .ok (.iconst 3, 1) := dk_6 (dk_at dksX8_live_1 23 rfl rfl)
theorem dX8_live_48 : decode cX8_live 48 = .ok (.iload_n 3, 1) := dk_29 (dk_at dksX8_live_2 0 rfl rfl)
theorem dX8_live_49 : decode cX8_live 49 = .ok (.imul, 1) := dk_104 (dk_at dksX8_live_2 1 rfl rfl)
theorem dX8_live_50 : decode cX8_live 50 = .ok (.isub, 1) := dk_100 (dk_at dksX8_live_2 2 rfl rfl)
theorem dX8_live_51 : decode cX8_live 51 = .ok (.putfield 315, 3) := dk_181 1 59 (dk_at dksX8_live_2 3 rfl rfl)
theorem dX8_live_54 : decode cX8_live 54 = .ok (.aload_n 0, 1) := dk_42 (dk_at dksX8_live_2 6 rfl rfl)
theorem dX8_live_55 : decode cX8_live 55 = .ok (.dup, 1) := dk_89 (dk_at dksX8_live_2 7 rfl rfl)
theorem dX8_live_56 : decode cX8_live 56 = .ok (.getfield 121, 3) := dk_180 0 121 (dk_at dksX8_live_2 8 rfl rfl)
theorem dX8_live_59 : decode cX8_live 59 = .ok (.iconst 3, 1) := dk_6 (dk_at dksX8_live_2 11 rfl rfl)
theorem dX8_live_60 : decode cX8_live 60 = .ok (.iload_n 3, 1) := dk_29 (dk_at dksX8_live_2 12 rfl rfl)
theorem dX8_live_61 : decode cX8_live 61 = .ok (.imul, 1) := dk_104 (dk_at dksX8_live_2 13 rfl rfl)
theorem dX8_live_62 : decode cX8_live 62 = .ok (.iadd, 1) := dk_96 (dk_at dksX8_live_2 14 rfl rfl)
theorem dX8_live_63 : decode cX8_live 63 = .ok (.putfield 121, 3) := dk_181 0 121 (dk_at dksX8_live_2 15 rfl rfl)
theorem dX8_live_66 : decode cX8_live 66 = .ok (.aload_n 1, 1) := dk_43 (dk_at dksX8_live_2 18 rfl rfl)
theorem dX8_live_67 : decode cX8_live 67 = .ok (.dup, 1) := dk_89 (dk_at dksX8_live_2 19 rfl rfl)
theorem dX8_live_68 : decode cX8_live 68 = .ok (.getfield 346, 3) := dk_180 1 90 (dk_at dksX8_live_2 20 rfl rfl)
theorem dX8_live_71 : decode cX8_live 71 = .ok (.iconst 4, 1) := dk_7 (dk_at dksX8_live_2 23 rfl rfl)
theorem dX8_live_72 : decode cX8_live 72 = .ok (.iload_n 2, 1) := dk_28 (dk_at dksX8_live_3 0 rfl rfl)
theorem dX8_live_73 : decode cX8_live 73 = .ok (.iload_n 3, 1) := dk_29 (dk_at dksX8_live_3 1 rfl rfl)
theorem dX8_live_74 : decode cX8_live 74 = .ok (.isub, 1) := dk_100 (dk_at dksX8_live_3 2 rfl rfl)
theorem dX8_live_75 : decode cX8_live 75 = .ok (.imul, 1) := dk_104 (dk_at dksX8_live_3 3 rfl rfl)
theorem dX8_live_76 : decode cX8_live 76 = .ok (.iadd, 1) := dk_96 (dk_at dksX8_live_3 4 rfl rfl)
theorem dX8_live_77 : decode cX8_live 77 = .ok (.putfield 346, 3) := dk_181 1 90 (dk_at dksX8_live_3 5 rfl rfl)
theorem dX8_live_80 : decode cX8_live 80 = .ok (.aload_n 1, 1) := dk_43 (dk_at dksX8_live_3 8 rfl rfl)
theorem dX8_live_81 : decode cX8_live 81 = .ok (.getfield 346, 3) := dk_180 1 90 (dk_at dksX8_live_3 9 rfl rfl)
theorem dX8_live_84 : decode cX8_live 84 = .ok (.bipush 12, 2) := dk_16 12 (dk_at dksX8_live_3 12 rfl rfl)
theorem dX8_live_86 : decode cX8_live 86 = .ok (.aload_n 1, 1) := dk_43 (dk_at dksX8_live_3 14 rfl rfl)
theorem dX8_live_87 : decode cX8_live 87 = .ok (.getfield 75, 3) := dk_180 0 75 (dk_at dksX8_live_3 15 rfl rfl)
theorem dX8_live_90 : decode cX8_live 90 = .ok (.imul, 1) := dk_104 (dk_at dksX8_live_3 18 rfl rfl)
theorem dX8_live_91 : decode cX8_live 91 = .ok (.if_icmp .le 64, 3) := dk_164 0 64 (dk_at dksX8_live_3 19 rfl rfl)
theorem dX8_live_94 : decode cX8_live 94 = .ok (.aload_n 1, 1) := dk_43 (dk_at dksX8_live_3 22 rfl rfl)
theorem dX8_live_95 : decode cX8_live 95 = .ok (.getfield 75, 3) := dk_180 0 75 (dk_at dksX8_live_4 0 rfl rfl)
theorem dX8_live_98 : decode cX8_live 98 = .ok (.iconst 1, 1) := dk_4 (dk_at dksX8_live_4 3 rfl rfl)
theorem dX8_live_99 : decode cX8_live 99 = .ok (.isub, 1) := dk_100 (dk_at dksX8_live_4 4 rfl rfl)
theorem dX8_live_100 : decode cX8_live 100 = .ok (.iconst 1, 1) := dk_4 (dk_at dksX8_live_4 5 rfl rfl)
theorem dX8_live_101 : decode cX8_live 101 = .ok (.aload_n 1, 1) := dk_43 (dk_at dksX8_live_4 6 rfl rfl)
theorem dX8_live_102 : decode cX8_live 102 = .ok (.getfield 75, 3) := dk_180 0 75 (dk_at dksX8_live_4 7 rfl rfl)
theorem dX8_live_105 : decode cX8_live 105 = .ok (.iconst 5, 1) := dk_8 (dk_at dksX8_live_4 10 rfl rfl)
theorem dX8_live_106 : decode cX8_live 106 = .ok (.idiv, 1) := dk_108 (dk_at dksX8_live_4 11 rfl rfl)
theorem dX8_live_107 : decode cX8_live 107 = .ok (.invokestatic 99, 3) := dk_184 0 99 (dk_at dksX8_live_4 12 rfl rfl)
theorem dX8_live_110 : decode cX8_live 110 = .ok (.invokestatic 93, 3) := dk_184 0 93 (dk_at dksX8_live_4 15 rfl rfl)
theorem dX8_live_113 : decode cX8_live 113 = .ok (.istore 4, 2) := dk_54 4 (dk_at dksX8_live_4 18 rfl rfl)
theorem dX8_live_115 : decode cX8_live 115 = .ok (.aload_n 1, 1) := dk_43 (dk_at dksX8_live_4 20 rfl rfl)
theorem dX8_live_116 : decode cX8_live 116 = .ok (.dup, 1) := dk_89 (dk_at dksX8_live_4 21 rfl rfl)
theorem dX8_live_117 : decode cX8_live 117 = .ok (.getfield 75, 3) := dk_180 0 75 (dk_at dksX8_live_5 0 rfl rfl)
theorem dX8_live_120 : decode cX8_live 120 = .ok (.iload 4, 2) := dk_21 4 (dk_at dksX8_live_5 3 rfl rfl)
theorem dX8_live_122 : decode cX8_live 122 = .ok (.isub, 1) := dk_100 (dk_at dksX8_live_5 5 rfl rfl)
theorem dX8_live_123 : decode cX8_live 123 = .ok (.putfield 75, 3) := dk_181 0 75 (dk_at dksX8_live_5 6 rfl rfl)
theorem dX8_live_126 : decode cX8_live 126 = .ok (.aload_n 1, 1) := dk_43 (dk_at dksX8_live_5 9 rfl rfl)
theorem dX8_live_127 : decode cX8_live 127 = .ok (.dup, 1) := dk_89 (dk_at dksX8_live_5 10 rfl rfl)
theorem dX8_live_128 : decode cX8_live 128 = .ok (.getfield 358, 3) := dk_180 1 102 (dk_at dksX8_live_5 11 rfl rfl)
theorem dX8_live_131 : decode cX8_live 131 = .ok (.iload 4, 2) := dk_21 4 (dk_at dksX8_live_5 14 rfl rfl)
theorem dX8_live_133 : decode cX8_live 133 = .ok (.iadd, 1) := dk_96 (dk_at dksX8_live_5 16 rfl rfl)
theorem dX8_live_134 : decode cX8_live 134 = .ok (.putfield 358, 3) := dk_181 1 102 (dk_at dksX8_live_5 17 rfl rfl)
theorem dX8_live_137 : decode cX8_live 137 = .ok (.aload_n 1, 1) := dk_43 (dk_at dksX8_live_5 20 rfl rfl)
theorem dX8_live_138 : decode cX8_live 138 = .ok (.dup, 1) := dk_89 (dk_at dksX8_live_5 21 rfl rfl)
theorem dX8_live_139 : decode cX8_live 139 = .ok (.getfield 346, 3) := dk_180 1 90 (dk_at dksX8_live_6 0 rfl rfl)
theorem dX8_live_142 : decode cX8_live 142 = .ok (.iconst 2, 1) := dk_5 (dk_at dksX8_live_6 3 rfl rfl)
theorem dX8_live_143 : decode cX8_live 143 = .ok (.idiv, 1) := dk_108 (dk_at dksX8_live_6 4 rfl rfl)
theorem dX8_live_144 : decode cX8_live 144 = .ok (.putfield 346, 3) := dk_181 1 90 (dk_at dksX8_live_6 5 rfl rfl)
theorem dX8_live_147 : decode cX8_live 147 = .ok (.aload_n 1, 1) := dk_43 (dk_at dksX8_live_6 8 rfl rfl)
theorem dX8_live_148 : decode cX8_live 148 = .ok (.iconst 2, 1) := dk_5 (dk_at dksX8_live_6 9 rfl rfl)
theorem dX8_live_149 : decode cX8_live 149 = .ok (.invokevirtual 303, 3) := dk_182 1 47 (dk_at dksX8_live_6 10 rfl rfl)
theorem dX8_live_152 : decode cX8_live 152 = .ok (.goto 8, 3) := dk_167 0 8 (dk_at dksX8_live_6 13 rfl rfl)
theorem dX8_live_155 : decode cX8_live 155 = .ok (.aload_n 1, 1) := dk_43 (dk_at dksX8_live_6 16 rfl rfl)
theorem dX8_live_156 : decode cX8_live 156 = .ok (.iconst (-1), 1) := dk_2 (dk_at dksX8_live_6 17 rfl rfl)
theorem dX8_live_157 : decode cX8_live 157 = .ok (.invokevirtual 303, 3) := dk_182 1 47 (dk_at dksX8_live_6 18 rfl rfl)
theorem dX8_live_160 : decode cX8_live 160 = .ok (.aload_n 1, 1) := dk_43 (dk_at dksX8_live_6 21 rfl rfl)
theorem dX8_live_161 : decode cX8_live 161 = .ok (.getfield 340, 3) := dk_180 1 84 (dk_at dksX8_live_7 0 rfl rfl)
theorem dX8_live_164 : decode cX8_live 164 = .ok (.bipush 12, 2) := dk_16 12 (dk_at dksX8_live_7 3 rfl rfl)
theorem dX8_live_166 : decode cX8_live 166 = .ok (.if_icmp .lt 8, 3) := dk_161 0 8 (dk_at dksX8_live_7 5 rfl rfl)
theorem dX8_live_169 : decode cX8_live 169 = .ok (.aload_n 1, 1) := dk_43 (dk_at dksX8_live_7 8 rfl rfl)
theorem dX8_live_170 : decode cX8_live 170 = .ok (.iconst 1, 1) := dk_4 (dk_at dksX8_live_7 9 rfl rfl)
theorem dX8_live_171 : decode cX8_live 171 = .ok (.putfield 329, 3) := dk_181 1 73 (dk_at dksX8_live_7 10 rfl rfl)
theorem dX8_live_174 : decode cX8_live 174 = .ok (.aload_n 1, 1) := dk_43 (dk_at dksX8_live_7 13 rfl rfl)
theorem dX8_live_175 : decode cX8_live 175 = .ok (.getfield 340, 3) := dk_180 1 84 (dk_at dksX8_live_7 14 rfl rfl)
theorem dX8_live_178 : decode cX8_live 178 = .ok (.iconst 5, 1) := dk_8 (dk_at dksX8_live_7 17 rfl rfl)
theorem dX8_live_179 : decode cX8_live 179 = .ok (.if_icmp .ge 8, 3) := dk_162 0 8 (dk_at dksX8_live_7 18 rfl rfl)
theorem dX8_live_182 : decode cX8_live 182 = .ok (.aload_n 1, 1) := dk_43 (dk_at dksX8_live_7 21 rfl rfl)
theorem dX8_live_183 : decode cX8_live 183 = .ok (.iconst 0, 1) := dk_3 (dk_at dksX8_live_7 22 rfl rfl)
theorem dX8_live_184 : decode cX8_live 184 = .ok (.putfield 329, 3) := dk_181 1 73 (dk_at dksX8_live_8 0 rfl rfl)
theorem dX8_live_187 : decode cX8_live 187 = .ok (.return_, 1) := dk_177 (dk_at dksX8_live_8 3 rfl rfl)
abbrev cX8_sell : ByteArray := prog_19_method_56_code
def yX8_sell : MethodName := ⟨RX8, "sell", "(LPublicanryModel$Village;)V"⟩
def dkwX8_sell_3 : List UInt8 := [181, 1, 59, 42, 89, 180, 0, 121, 29, 96, 181, 0, 121, 43, 89, 180, 1, 90, 29, 100, 181, 1, 90, 177]
abbrev dktX8_sell_3 : List UInt8 := dkwX8_sell_3 ++ []
def dkwX8_sell_2 : List UInt8 := [181, 0, 121, 43, 180, 1, 59, 43, 180, 1, 90, 184, 0, 93, 62, 43, 89, 180, 1, 59, 29, 100]
abbrev dktX8_sell_2 : List UInt8 := dkwX8_sell_2 ++ dktX8_sell_3
def dkwX8_sell_1 : List UInt8 := [181, 0, 128, 43, 89, 180, 1, 59, 5, 28, 104, 96, 181, 1, 59, 42, 89, 180, 0, 121, 5, 28, 104, 100]
abbrev dktX8_sell_1 : List UInt8 := dkwX8_sell_1 ++ dktX8_sell_2
def dkwX8_sell_0 : List UInt8 := [3, 43, 180, 0, 128, 16, 6, 43, 180, 0, 75, 104, 100, 184, 0, 99, 61, 43, 89, 180, 0, 128, 28, 100]
abbrev dktX8_sell_0 : List UInt8 := dkwX8_sell_0 ++ dktX8_sell_1
theorem dksX8_sell_0 : cX8_sell.data.toList.drop 0 = dktX8_sell_0 := by decide +kernel
theorem dksX8_sell_1 : cX8_sell.data.toList.drop 24 = dktX8_sell_1 := dk_seg dksX8_sell_0 24 rfl rfl
theorem dksX8_sell_2 : cX8_sell.data.toList.drop 48 = dktX8_sell_2 := dk_seg dksX8_sell_1 24 rfl rfl
theorem dksX8_sell_3 : cX8_sell.data.toList.drop 70 = dktX8_sell_3 := dk_seg dksX8_sell_2 22 rfl rfl
theorem dX8_sell_0 : decode cX8_sell 0 = .ok (.iconst 0, 1) := dk_3 (dk_at dksX8_sell_0 0 rfl rfl)
theorem dX8_sell_1 : decode cX8_sell 1 = .ok (.aload_n 1, 1) := dk_43 (dk_at dksX8_sell_0 1 rfl rfl)
theorem dX8_sell_2 : decode cX8_sell 2 = .ok (.getfield 128, 3) := dk_180 0 128 (dk_at dksX8_sell_0 2 rfl rfl)
theorem dX8_sell_5 : decode cX8_sell 5 = .ok (.bipush 6, 2) := dk_16 6 (dk_at dksX8_sell_0 5 rfl rfl)
theorem dX8_sell_7 : decode cX8_sell 7 = .ok (.aload_n 1, 1) := dk_43 (dk_at dksX8_sell_0 7 rfl rfl)
theorem dX8_sell_8 : decode cX8_sell 8 = .ok (.getfield 75, 3) := dk_180 0 75 (dk_at dksX8_sell_0 8 rfl rfl)
theorem dX8_sell_11 : decode cX8_sell 11 = .ok (.imul, 1) := dk_104 (dk_at dksX8_sell_0 11 rfl rfl)
theorem dX8_sell_12 : decode cX8_sell 12 = .ok (.isub, 1) := dk_100 (dk_at dksX8_sell_0 12 rfl rfl)
theorem dX8_sell_13 : decode cX8_sell 13 = .ok (.invokestatic 99, 3) := dk_184 0 99 (dk_at dksX8_sell_0 13 rfl rfl)
theorem dX8_sell_16 : decode cX8_sell 16 = .ok (.istore_n 2, 1) := dk_61 (dk_at dksX8_sell_0 16 rfl rfl)
theorem dX8_sell_17 : decode cX8_sell 17 = .ok (.aload_n 1, 1) := dk_43 (dk_at dksX8_sell_0 17 rfl rfl)
theorem dX8_sell_18 : decode cX8_sell 18 = .ok (.dup, 1) := dk_89 (dk_at dksX8_sell_0 18 rfl rfl)
theorem dX8_sell_19 : decode cX8_sell 19 = .ok (.getfield 128, 3) := dk_180 0 128 (dk_at dksX8_sell_0 19 rfl rfl)
theorem dX8_sell_22 : decode cX8_sell 22 = .ok (.iload_n 2, 1) := dk_28 (dk_at dksX8_sell_0 22 rfl rfl)
theorem dX8_sell_23 : decode cX8_sell 23 = .ok (.isub, 1) := dk_100 (dk_at dksX8_sell_0 23 rfl rfl)
theorem dX8_sell_24 : decode cX8_sell 24 = .ok (.putfield 128, 3) := dk_181 0 128 (dk_at dksX8_sell_1 0 rfl rfl)
theorem dX8_sell_27 : decode cX8_sell 27 = .ok (.aload_n 1, 1) := dk_43 (dk_at dksX8_sell_1 3 rfl rfl)
theorem dX8_sell_28 : decode cX8_sell 28 = .ok (.dup, 1) := dk_89 (dk_at dksX8_sell_1 4 rfl rfl)
theorem dX8_sell_29 : decode cX8_sell 29 = .ok (.getfield 315, 3) := dk_180 1 59 (dk_at dksX8_sell_1 5 rfl rfl)
theorem dX8_sell_32 : decode cX8_sell 32 = .ok (.iconst 2, 1) := dk_5 (dk_at dksX8_sell_1 8 rfl rfl)
theorem dX8_sell_33 : decode cX8_sell 33 = .ok (.iload_n 2, 1) := dk_28 (dk_at dksX8_sell_1 9 rfl rfl)
theorem dX8_sell_34 : decode cX8_sell 34 = .ok (.imul, 1) := dk_104 (dk_at dksX8_sell_1 10 rfl rfl)
theorem dX8_sell_35 : decode cX8_sell 35 = .ok (.iadd, 1) := dk_96 (dk_at dksX8_sell_1 11 rfl rfl)
theorem dX8_sell_36 : decode cX8_sell 36 = .ok (.putfield 315, 3) := dk_181 1 59 (dk_at dksX8_sell_1 12 rfl rfl)
theorem dX8_sell_39 : decode cX8_sell 39 = .ok (.aload_n 0, 1) := dk_42 (dk_at dksX8_sell_1 15 rfl rfl)
theorem dX8_sell_40 : decode cX8_sell 40 = .ok (.dup, 1) := dk_89 (dk_at dksX8_sell_1 16 rfl rfl)
theorem dX8_sell_41 : decode cX8_sell 41 = .ok (.getfield 121, 3) := dk_180 0 121 (dk_at dksX8_sell_1 17 rfl rfl)
theorem dX8_sell_44 : decode cX8_sell 44 = .ok (.iconst 2, 1) := dk_5 (dk_at dksX8_sell_1 20 rfl rfl)
theorem dX8_sell_45 : decode cX8_sell 45 = .ok (.iload_n 2, 1) := dk_28 (dk_at dksX8_sell_1 21 rfl rfl)
theorem dX8_sell_46 : decode cX8_sell 46 = .ok (.imul, 1) := dk_104 (dk_at dksX8_sell_1 22 rfl rfl)
theorem dX8_sell_47 : decode cX8_sell 47 = .ok (.isub, 1) := dk_100 (dk_at dksX8_sell_1 23 rfl rfl)
theorem dX8_sell_48 : decode cX8_sell 48 = .ok (.putfield 121, 3) := dk_181 0 121 (dk_at dksX8_sell_2 0 rfl rfl)
theorem dX8_sell_51 : decode cX8_sell 51 = .ok (.aload_n 1, 1) := dk_43 (dk_at dksX8_sell_2 3 rfl rfl)
theorem dX8_sell_52 : decode cX8_sell 52 = .ok (.getfield 315, 3) := dk_180 1 59 (dk_at dksX8_sell_2 4 rfl rfl)
theorem dX8_sell_55 : decode cX8_sell 55 = .ok (.aload_n 1, 1) := dk_43 (dk_at dksX8_sell_2 7 rfl rfl)
theorem dX8_sell_56 : decode cX8_sell 56 = .ok (.getfield 346, 3) := dk_180 1 90 (dk_at dksX8_sell_2 8 rfl rfl)
theorem dX8_sell_59 : decode cX8_sell 59 = .ok (.invokestatic 93, 3) := dk_184 0 93 (dk_at dksX8_sell_2 11 rfl rfl)
theorem dX8_sell_62 : decode cX8_sell 62 = .ok (.istore_n 3, 1) := dk_62 (dk_at dksX8_sell_2 14 rfl rfl)
theorem dX8_sell_63 : decode cX8_sell 63 = .ok (.aload_n 1, 1) := dk_43 (dk_at dksX8_sell_2 15 rfl rfl)
theorem dX8_sell_64 : decode cX8_sell 64 = .ok (.dup, 1) := dk_89 (dk_at dksX8_sell_2 16 rfl rfl)
theorem dX8_sell_65 : decode cX8_sell 65 = .ok (.getfield 315, 3) := dk_180 1 59 (dk_at dksX8_sell_2 17 rfl rfl)
theorem dX8_sell_68 : decode cX8_sell 68 = .ok (.iload_n 3, 1) := dk_29 (dk_at dksX8_sell_2 20 rfl rfl)
theorem dX8_sell_69 : decode cX8_sell 69 = .ok (.isub, 1) := dk_100 (dk_at dksX8_sell_2 21 rfl rfl)
theorem dX8_sell_70 : decode cX8_sell 70 = .ok (.putfield 315, 3) := dk_181 1 59 (dk_at dksX8_sell_3 0 rfl rfl)
theorem dX8_sell_73 : decode cX8_sell 73 = .ok (.aload_n 0, 1) := dk_42 (dk_at dksX8_sell_3 3 rfl rfl)
theorem dX8_sell_74 : decode cX8_sell 74 = .ok (.dup, 1) := dk_89 (dk_at dksX8_sell_3 4 rfl rfl)
theorem dX8_sell_75 : decode cX8_sell 75 = .ok (.getfield 121, 3) := dk_180 0 121 (dk_at dksX8_sell_3 5 rfl rfl)
theorem dX8_sell_78 : decode cX8_sell 78 = .ok (.iload_n 3, 1) := dk_29 (dk_at dksX8_sell_3 8 rfl rfl)
theorem dX8_sell_79 : decode cX8_sell 79 = .ok (.iadd, 1) := dk_96 (dk_at dksX8_sell_3 9 rfl rfl)
theorem dX8_sell_80 : decode cX8_sell 80 = .ok (.putfield 121, 3) := dk_181 0 121 (dk_at dksX8_sell_3 10 rfl rfl)
theorem dX8_sell_83 : decode cX8_sell 83 = .ok (.aload_n 1, 1) := dk_43 (dk_at dksX8_sell_3 13 rfl rfl)
theorem dX8_sell_84 : decode cX8_sell 84 = .ok (.dup, 1) := dk_89 (dk_at dksX8_sell_3 14 rfl rfl)
theorem dX8_sell_85 : decode cX8_sell 85 = .ok (.getfield 346, 3) := dk_180 1 90 (dk_at dksX8_sell_3 15 rfl rfl)
theorem dX8_sell_88 : decode cX8_sell 88 = .ok (.iload_n 3, 1) := dk_29 (dk_at dksX8_sell_3 18 rfl rfl)
theorem dX8_sell_89 : decode cX8_sell 89 = .ok (.isub, 1) := dk_100 (dk_at dksX8_sell_3 19 rfl rfl)
theorem dX8_sell_90 : decode cX8_sell 90 = .ok (.putfield 346, 3) := dk_181 1 90 (dk_at dksX8_sell_3 20 rfl rfl)
theorem dX8_sell_93 : decode cX8_sell 93 = .ok (.return_, 1) := dk_177 (dk_at dksX8_sell_3 23 rfl rfl)
abbrev cX8_call : ByteArray := prog_19_method_60_code
def yX8_call : MethodName := ⟨RX8, "call", "()I"⟩
def dkwX8_call_0 : List UInt8 := [42, 3, 181, 0, 49, 42, 89, 180, 1, 127, 4, 96, 90, 181, 1, 127, 172]
abbrev dktX8_call_0 : List UInt8 := dkwX8_call_0 ++ []
theorem dksX8_call_0 : cX8_call.data.toList.drop 0 = dktX8_call_0 := by decide +kernel
theorem dX8_call_0 : decode cX8_call 0 = .ok (.aload_n 0, 1) := dk_42 (dk_at dksX8_call_0 0 rfl rfl)
theorem dX8_call_1 : decode cX8_call 1 = .ok (.iconst 0, 1) := dk_3 (dk_at dksX8_call_0 1 rfl rfl)
theorem dX8_call_2 : decode cX8_call 2 = .ok (.putfield 49, 3) := dk_181 0 49 (dk_at dksX8_call_0 2 rfl rfl)
theorem dX8_call_5 : decode cX8_call 5 = .ok (.aload_n 0, 1) := dk_42 (dk_at dksX8_call_0 5 rfl rfl)
theorem dX8_call_6 : decode cX8_call 6 = .ok (.dup, 1) := dk_89 (dk_at dksX8_call_0 6 rfl rfl)
theorem dX8_call_7 : decode cX8_call 7 = .ok (.getfield 383, 3) := dk_180 1 127 (dk_at dksX8_call_0 7 rfl rfl)
theorem dX8_call_10 : decode cX8_call 10 = .ok (.iconst 1, 1) := dk_4 (dk_at dksX8_call_0 10 rfl rfl)
theorem dX8_call_11 : decode cX8_call 11 = .ok (.iadd, 1) := dk_96 (dk_at dksX8_call_0 11 rfl rfl)
theorem dX8_call_12 : decode cX8_call 12 = .ok (.dup_x1, 1) := dk_90 (dk_at dksX8_call_0 12 rfl rfl)
theorem dX8_call_13 : decode cX8_call 13 = .ok (.putfield 383, 3) := dk_181 1 127 (dk_at dksX8_call_0 13 rfl rfl)
theorem dX8_call_16 : decode cX8_call 16 = .ok (.ireturn, 1) := dk_172 (dk_at dksX8_call_0 16 rfl rfl)
abbrev cX8_ofVillage : ByteArray := prog_19_method_62_code
def yX8_ofVillage : MethodName := ⟨RX8, "ofVillage", "(II)I"⟩
def dkwX8_ofVillage_2 : List UInt8 := [182, 0, 78, 192, 0, 68, 28, 182, 1, 130, 172]
abbrev dktX8_ofVillage_2 : List UInt8 := dkwX8_ofVillage_2 ++ []
def dkwX8_ofVillage_1 : List UInt8 := [4, 167, 0, 4, 3, 5, 182, 0, 52, 153, 0, 7, 3, 167, 0, 19, 42, 42, 180, 0, 16, 27]
abbrev dktX8_ofVillage_1 : List UInt8 := dkwX8_ofVillage_1 ++ dktX8_ofVillage_2
def dkwX8_ofVillage_0 : List UInt8 := [42, 42, 27, 182, 0, 142, 4, 182, 0, 124, 154, 0, 26, 42, 28, 3, 16, 13, 184, 0, 60, 154, 0, 7]
abbrev dktX8_ofVillage_0 : List UInt8 := dkwX8_ofVillage_0 ++ dktX8_ofVillage_1
theorem dksX8_ofVillage_0 : cX8_ofVillage.data.toList.drop 0 = dktX8_ofVillage_0 := by decide +kernel
theorem dksX8_ofVillage_1 : cX8_ofVillage.data.toList.drop 24 = dktX8_ofVillage_1 := dk_seg dksX8_ofVillage_0 24 rfl rfl
theorem dksX8_ofVillage_2 : cX8_ofVillage.data.toList.drop 46 = dktX8_ofVillage_2 := dk_seg dksX8_ofVillage_1 22 rfl rfl
theorem dX8_ofVillage_0 : decode cX8_ofVillage 0 = .ok (.aload_n 0, 1) := dk_42 (dk_at dksX8_ofVillage_0 0 rfl rfl)
theorem dX8_ofVillage_1 : decode cX8_ofVillage 1 = .ok (.aload_n 0, 1) := dk_42 (dk_at dksX8_ofVillage_0 1 rfl rfl)
theorem dX8_ofVillage_2 : decode cX8_ofVillage 2 = .ok (.iload_n 1, 1) := dk_27 (dk_at dksX8_ofVillage_0 2 rfl rfl)
theorem dX8_ofVillage_3 : decode cX8_ofVillage 3 = .ok (.invokevirtual 142, 3) := dk_182 0 142 (dk_at dksX8_ofVillage_0 3 rfl rfl)
theorem dX8_ofVillage_6 : decode cX8_ofVillage 6 = .ok (.iconst 1, 1) := dk_4 (dk_at dksX8_ofVillage_0 6 rfl rfl)
theorem dX8_ofVillage_7 : decode cX8_ofVillage 7 = .ok (.invokevirtual 124, 3) := dk_182 0 124 (dk_at dksX8_ofVillage_0 7 rfl rfl)
theorem dX8_ofVillage_10 : decode cX8_ofVillage 10 = .ok (.ifCond .ne 26, 3) := dk_154 0 26 (dk_at dksX8_ofVillage_0 10 rfl rfl)
theorem dX8_ofVillage_13 : decode cX8_ofVillage 13 = .ok (.aload_n 0, 1) := dk_42 (dk_at dksX8_ofVillage_0 13 rfl rfl)
theorem dX8_ofVillage_14 : decode cX8_ofVillage 14 = .ok (.iload_n 2, 1) := dk_28 (dk_at dksX8_ofVillage_0 14 rfl rfl)
theorem dX8_ofVillage_15 : decode cX8_ofVillage 15 = .ok (.iconst 0, 1) := dk_3 (dk_at dksX8_ofVillage_0 15 rfl rfl)
theorem dX8_ofVillage_16 : decode cX8_ofVillage 16 = .ok (.bipush 13, 2) := dk_16 13 (dk_at dksX8_ofVillage_0 16 rfl rfl)
theorem dX8_ofVillage_18 : decode cX8_ofVillage 18 = .ok (.invokestatic 60, 3) := dk_184 0 60 (dk_at dksX8_ofVillage_0 18 rfl rfl)
theorem dX8_ofVillage_21 : decode cX8_ofVillage 21 = .ok (.ifCond .ne 7, 3) := dk_154 0 7 (dk_at dksX8_ofVillage_0 21 rfl rfl)
theorem dX8_ofVillage_24 : decode cX8_ofVillage 24 = .ok (.iconst 1, 1) := dk_4 (dk_at dksX8_ofVillage_1 0 rfl rfl)
theorem dX8_ofVillage_25 : decode cX8_ofVillage 25 = .ok (.goto 4, 3) := dk_167 0 4 (dk_at dksX8_ofVillage_1 1 rfl rfl)
theorem dX8_ofVillage_28 : decode cX8_ofVillage 28 = .ok (.iconst 0, 1) := dk_3 (dk_at dksX8_ofVillage_1 4 rfl rfl)
theorem dX8_ofVillage_29 : decode cX8_ofVillage 29 = .ok (.iconst 2, 1) := dk_5 (dk_at dksX8_ofVillage_1 5 rfl rfl)
theorem dX8_ofVillage_30 : decode cX8_ofVillage 30 = .ok (.invokevirtual 52, 3) := dk_182 0 52 (dk_at dksX8_ofVillage_1 6 rfl rfl)
theorem dX8_ofVillage_33 : decode cX8_ofVillage 33 = .ok (.ifCond .eq 7, 3) := dk_153 0 7 (dk_at dksX8_ofVillage_1 9 rfl rfl)
theorem dX8_ofVillage_36 : decode cX8_ofVillage 36 = .ok (.iconst 0, 1) := dk_3 (dk_at dksX8_ofVillage_1 12 rfl rfl)
theorem dX8_ofVillage_37 : decode cX8_ofVillage 37 = .ok (.goto 19, 3) := dk_167 0 19 (dk_at dksX8_ofVillage_1 13 rfl rfl)
theorem dX8_ofVillage_40 : decode cX8_ofVillage 40 = .ok (.aload_n 0, 1) := dk_42 (dk_at dksX8_ofVillage_1 16 rfl rfl)
theorem dX8_ofVillage_41 : decode cX8_ofVillage 41 = .ok (.aload_n 0, 1) := dk_42 (dk_at dksX8_ofVillage_1 17 rfl rfl)
theorem dX8_ofVillage_42 : decode cX8_ofVillage 42 = .ok (.getfield 16, 3) := dk_180 0 16 (dk_at dksX8_ofVillage_1 18 rfl rfl)
theorem dX8_ofVillage_45 : decode cX8_ofVillage 45 = .ok (.iload_n 1, 1) := dk_27 (dk_at dksX8_ofVillage_1 21 rfl rfl)
theorem dX8_ofVillage_46 : decode cX8_ofVillage 46 = .ok (.invokevirtual 78, 3) := dk_182 0 78 (dk_at dksX8_ofVillage_2 0 rfl rfl)
theorem dX8_ofVillage_49 : decode cX8_ofVillage 49 = .ok (.checkcast 68, 3) := dk_192 0 68 (dk_at dksX8_ofVillage_2 3 rfl rfl)
theorem dX8_ofVillage_52 : decode cX8_ofVillage 52 = .ok (.iload_n 2, 1) := dk_28 (dk_at dksX8_ofVillage_2 6 rfl rfl)
theorem dX8_ofVillage_53 : decode cX8_ofVillage 53 = .ok (.invokevirtual 386, 3) := dk_182 1 130 (dk_at dksX8_ofVillage_2 7 rfl rfl)
theorem dX8_ofVillage_56 : decode cX8_ofVillage 56 = .ok (.ireturn, 1) := dk_172 (dk_at dksX8_ofVillage_2 10 rfl rfl)
abbrev cX8_ofVillageNow : ByteArray := prog_19_method_61_code
def yX8_ofVillageNow : MethodName := ⟨RX8, "ofVillageNow", "(LPublicanryModel$Village;I)I"⟩
def dkwX8_ofVillageNow_5 : List UInt8 := [16, 13, 43, 180, 1, 102, 79, 78, 45, 28, 46, 172]
abbrev dktX8_ofVillageNow_5 : List UInt8 := dkwX8_ofVillageNow_5 ++ []
def dkwX8_ofVillageNow_4 : List UInt8 := [16, 11, 43, 180, 0, 108, 153, 0, 7, 4, 167, 0, 4, 3, 79, 89, 16, 12, 43, 180, 0, 115, 79, 89]
abbrev dktX8_ofVillageNow_4 : List UInt8 := dkwX8_ofVillageNow_4 ++ dktX8_ofVillageNow_5
def dkwX8_ofVillageNow_3 : List UInt8 := [16, 9, 43, 180, 0, 67, 79, 89, 16, 10, 43, 180, 1, 73, 153, 0, 7, 4, 167, 0, 4, 3, 79, 89]
abbrev dktX8_ofVillageNow_3 : List UInt8 := dkwX8_ofVillageNow_3 ++ dktX8_ofVillageNow_4
def dkwX8_ofVillageNow_2 : List UInt8 := [16, 6, 43, 180, 1, 90, 79, 89, 16, 7, 43, 180, 1, 84, 79, 89, 16, 8, 43, 180, 0, 131, 79, 89]
abbrev dktX8_ofVillageNow_2 : List UInt8 := dkwX8_ofVillageNow_2 ++ dktX8_ofVillageNow_3
def dkwX8_ofVillageNow_1 : List UInt8 := [79, 89, 6, 43, 180, 0, 105, 79, 89, 7, 43, 180, 0, 128, 79, 89, 8, 43, 180, 1, 59, 79, 89]
abbrev dktX8_ofVillageNow_1 : List UInt8 := dkwX8_ofVillageNow_1 ++ dktX8_ofVillageNow_2
def dkwX8_ofVillageNow_0 : List UInt8 := [16, 14, 188, 10, 89, 3, 43, 180, 0, 75, 79, 89, 4, 43, 180, 0, 102, 79, 89, 5, 43, 180, 0, 72]
abbrev dktX8_ofVillageNow_0 : List UInt8 := dkwX8_ofVillageNow_0 ++ dktX8_ofVillageNow_1
theorem dksX8_ofVillageNow_0 : cX8_ofVillageNow.data.toList.drop 0 = dktX8_ofVillageNow_0 := by decide +kernel
theorem dksX8_ofVillageNow_1 : cX8_ofVillageNow.data.toList.drop 24 = dktX8_ofVillageNow_1 := dk_seg dksX8_ofVillageNow_0 24 rfl rfl
theorem dksX8_ofVillageNow_2 : cX8_ofVillageNow.data.toList.drop 47 = dktX8_ofVillageNow_2 := dk_seg dksX8_ofVillageNow_1 23 rfl rfl
theorem dksX8_ofVillageNow_3 : cX8_ofVillageNow.data.toList.drop 71 = dktX8_ofVillageNow_3 := dk_seg dksX8_ofVillageNow_2 24 rfl rfl
theorem dksX8_ofVillageNow_4 : cX8_ofVillageNow.data.toList.drop 95 = dktX8_ofVillageNow_4 := dk_seg dksX8_ofVillageNow_3 24 rfl rfl
theorem dksX8_ofVillageNow_5 : cX8_ofVillageNow.data.toList.drop 119 = dktX8_ofVillageNow_5 := dk_seg dksX8_ofVillageNow_4 24 rfl rfl
theorem dX8_ofVillageNow_0 : decode cX8_ofVillageNow 0 = .ok (.bipush 14, 2) := dk_16 14 (dk_at dksX8_ofVillageNow_0 0 rfl rfl)
theorem dX8_ofVillageNow_2 : decode cX8_ofVillageNow 2 = .ok (.newarray .int, 2) := dk_188_10 (dk_at dksX8_ofVillageNow_0 2 rfl rfl)
theorem dX8_ofVillageNow_4 : decode cX8_ofVillageNow 4 = .ok (.dup, 1) := dk_89 (dk_at dksX8_ofVillageNow_0 4 rfl rfl)
theorem dX8_ofVillageNow_5 : decode cX8_ofVillageNow 5 = .ok (.iconst 0, 1) := dk_3 (dk_at dksX8_ofVillageNow_0 5 rfl rfl)
theorem dX8_ofVillageNow_6 : decode cX8_ofVillageNow 6 = .ok (.aload_n 1, 1) := dk_43 (dk_at dksX8_ofVillageNow_0 6 rfl rfl)
theorem dX8_ofVillageNow_7 : decode cX8_ofVillageNow 7 = .ok (.getfield 75, 3) := dk_180 0 75 (dk_at dksX8_ofVillageNow_0 7 rfl rfl)
theorem dX8_ofVillageNow_10 : decode cX8_ofVillageNow 10 = .ok (.iastore, 1) := dk_79 (dk_at dksX8_ofVillageNow_0 10 rfl rfl)
theorem dX8_ofVillageNow_11 : decode cX8_ofVillageNow 11 = .ok (.dup, 1) := dk_89 (dk_at dksX8_ofVillageNow_0 11 rfl rfl)
theorem dX8_ofVillageNow_12 : decode cX8_ofVillageNow 12 = .ok (.iconst 1, 1) := dk_4 (dk_at dksX8_ofVillageNow_0 12 rfl rfl)
theorem dX8_ofVillageNow_13 : decode cX8_ofVillageNow 13 = .ok (.aload_n 1, 1) := dk_43 (dk_at dksX8_ofVillageNow_0 13 rfl rfl)
theorem dX8_ofVillageNow_14 : decode cX8_ofVillageNow 14 = .ok (.getfield 102, 3) := dk_180 0 102 (dk_at dksX8_ofVillageNow_0 14 rfl rfl)
theorem dX8_ofVillageNow_17 : decode cX8_ofVillageNow 17 = .ok (.iastore, 1) := dk_79 (dk_at dksX8_ofVillageNow_0 17 rfl rfl)
theorem dX8_ofVillageNow_18 : decode cX8_ofVillageNow 18 = .ok (.dup, 1) := dk_89 (dk_at dksX8_ofVillageNow_0 18 rfl rfl)
theorem dX8_ofVillageNow_19 : decode cX8_ofVillageNow 19 = .ok (.iconst 2, 1) := dk_5 (dk_at dksX8_ofVillageNow_0 19 rfl rfl)
theorem dX8_ofVillageNow_20 : decode cX8_ofVillageNow 20 = .ok (.aload_n 1, 1) := dk_43 (dk_at dksX8_ofVillageNow_0 20 rfl rfl)
theorem dX8_ofVillageNow_21 : decode cX8_ofVillageNow 21 = .ok (.getfield 72, 3) := dk_180 0 72 (dk_at dksX8_ofVillageNow_0 21 rfl rfl)
theorem dX8_ofVillageNow_24 : decode cX8_ofVillageNow 24 = .ok (.iastore, 1) := dk_79 (dk_at dksX8_ofVillageNow_1 0 rfl rfl)
theorem dX8_ofVillageNow_25 : decode cX8_ofVillageNow 25 = .ok (.dup, 1) := dk_89 (dk_at dksX8_ofVillageNow_1 1 rfl rfl)
theorem dX8_ofVillageNow_26 : decode cX8_ofVillageNow 26 = .ok (.iconst 3, 1) := dk_6 (dk_at dksX8_ofVillageNow_1 2 rfl rfl)
theorem dX8_ofVillageNow_27 : decode cX8_ofVillageNow 27 = .ok (.aload_n 1, 1) := dk_43 (dk_at dksX8_ofVillageNow_1 3 rfl rfl)
theorem dX8_ofVillageNow_28 : decode cX8_ofVillageNow 28 = .ok (.getfield 105, 3) := dk_180 0 105 (dk_at dksX8_ofVillageNow_1 4 rfl rfl)
theorem dX8_ofVillageNow_31 : decode cX8_ofVillageNow 31 = .ok (.iastore, 1) := dk_79 (dk_at dksX8_ofVillageNow_1 7 rfl rfl)
theorem dX8_ofVillageNow_32 : decode cX8_ofVillageNow 32 = .ok (.dup, 1) := dk_89 (dk_at dksX8_ofVillageNow_1 8 rfl rfl)
theorem dX8_ofVillageNow_33 : decode cX8_ofVillageNow 33 = .ok (.iconst 4, 1) := dk_7 (dk_at dksX8_ofVillageNow_1 9 rfl rfl)
theorem dX8_ofVillageNow_34 : decode cX8_ofVillageNow 34 = .ok (.aload_n 1, 1) := dk_43 (dk_at dksX8_ofVillageNow_1 10 rfl rfl)
theorem dX8_ofVillageNow_35 : decode cX8_ofVillageNow 35 = .ok (.getfield 128, 3) := dk_180 0 128 (dk_at dksX8_ofVillageNow_1 11 rfl rfl)
theorem dX8_ofVillageNow_38 : decode cX8_ofVillageNow 38 = .ok (.iastore, 1) := dk_79 (dk_at dksX8_ofVillageNow_1 14 rfl rfl)
theorem dX8_ofVillageNow_39 : decode cX8_ofVillageNow 39 = .ok (.dup, 1) := dk_89 (dk_at dksX8_ofVillageNow_1 15 rfl rfl)
theorem dX8_ofVillageNow_40 : decode cX8_ofVillageNow 40 = .ok (.iconst 5, 1) := dk_8 (dk_at dksX8_ofVillageNow_1 16 rfl rfl)
theorem dX8_ofVillageNow_41 : decode cX8_ofVillageNow 41 = .ok (.aload_n 1, 1) := dk_43 (dk_at dksX8_ofVillageNow_1 17 rfl rfl)
theorem dX8_ofVillageNow_42 : decode cX8_ofVillageNow 42 = .ok (.getfield 315, 3) := dk_180 1 59 (dk_at dksX8_ofVillageNow_1 18 rfl rfl)
theorem dX8_ofVillageNow_45 : decode cX8_ofVillageNow 45 = .ok (.iastore, 1) := dk_79 (dk_at dksX8_ofVillageNow_1 21 rfl rfl)
theorem dX8_ofVillageNow_46 : decode cX8_ofVillageNow 46 = .ok (.dup, 1) := dk_89 (dk_at dksX8_ofVillageNow_1 22 rfl rfl)
theorem dX8_ofVillageNow_47 : decode cX8_ofVillageNow 47 = .ok (.bipush 6, 2) := dk_16 6 (dk_at dksX8_ofVillageNow_2 0 rfl rfl)
theorem dX8_ofVillageNow_49 : decode cX8_ofVillageNow 49 = .ok (.aload_n 1, 1) := dk_43 (dk_at dksX8_ofVillageNow_2 2 rfl rfl)
theorem dX8_ofVillageNow_50 : decode cX8_ofVillageNow 50 = .ok (.getfield 346, 3) := dk_180 1 90 (dk_at dksX8_ofVillageNow_2 3 rfl rfl)
theorem dX8_ofVillageNow_53 : decode cX8_ofVillageNow 53 = .ok (.iastore, 1) := dk_79 (dk_at dksX8_ofVillageNow_2 6 rfl rfl)
theorem dX8_ofVillageNow_54 : decode cX8_ofVillageNow 54 = .ok (.dup, 1) := dk_89 (dk_at dksX8_ofVillageNow_2 7 rfl rfl)
theorem dX8_ofVillageNow_55 : decode cX8_ofVillageNow 55 = .ok (.bipush 7, 2) := dk_16 7 (dk_at dksX8_ofVillageNow_2 8 rfl rfl)
theorem dX8_ofVillageNow_57 : decode cX8_ofVillageNow 57 = .ok (.aload_n 1, 1) := dk_43 (dk_at dksX8_ofVillageNow_2 10 rfl rfl)
theorem dX8_ofVillageNow_58 : decode cX8_ofVillageNow 58 = .ok (.getfield 340, 3) := dk_180 1 84 (dk_at dksX8_ofVillageNow_2 11 rfl rfl)
theorem dX8_ofVillageNow_61 : decode cX8_ofVillageNow 61 = .ok (.iastore, 1) := dk_79 (dk_at dksX8_ofVillageNow_2 14 rfl rfl)
theorem dX8_ofVillageNow_62 : decode cX8_ofVillageNow 62 = .ok (.dup, 1) := dk_89 (dk_at dksX8_ofVillageNow_2 15 rfl rfl)
theorem dX8_ofVillageNow_63 : decode cX8_ofVillageNow 63 = .ok (.bipush 8, 2) := dk_16 8 (dk_at dksX8_ofVillageNow_2 16 rfl rfl)
theorem dX8_ofVillageNow_65 : decode cX8_ofVillageNow 65 = .ok (.aload_n 1, 1) := dk_43 (dk_at dksX8_ofVillageNow_2 18 rfl rfl)
theorem dX8_ofVillageNow_66 : decode cX8_ofVillageNow 66 = .ok (.getfield 131, 3) := dk_180 0 131 (dk_at dksX8_ofVillageNow_2 19 rfl rfl)
theorem dX8_ofVillageNow_69 : decode cX8_ofVillageNow 69 = .ok (.iastore, 1) := dk_79 (dk_at dksX8_ofVillageNow_2 22 rfl rfl)
theorem dX8_ofVillageNow_70 : decode cX8_ofVillageNow 70 = .ok (.dup, 1) := dk_89 (dk_at dksX8_ofVillageNow_2 23 rfl rfl)
theorem dX8_ofVillageNow_71 : decode cX8_ofVillageNow 71 = .ok (.bipush 9, 2) := dk_16 9 (dk_at dksX8_ofVillageNow_3 0 rfl rfl)
theorem dX8_ofVillageNow_73 : decode cX8_ofVillageNow 73 = .ok (.aload_n 1, 1) := dk_43 (dk_at dksX8_ofVillageNow_3 2 rfl rfl)
theorem dX8_ofVillageNow_74 : decode cX8_ofVillageNow 74 = .ok (.getfield 67, 3) := dk_180 0 67 (dk_at dksX8_ofVillageNow_3 3 rfl rfl)
theorem dX8_ofVillageNow_77 : decode cX8_ofVillageNow 77 = .ok (.iastore, 1) := dk_79 (dk_at dksX8_ofVillageNow_3 6 rfl rfl)
theorem dX8_ofVillageNow_78 : decode cX8_ofVillageNow 78 = .ok (.dup, 1) := dk_89 (dk_at dksX8_ofVillageNow_3 7 rfl rfl)
theorem dX8_ofVillageNow_79 : decode cX8_ofVillageNow 79 = .ok (.bipush 10, 2) := dk_16 10 (dk_at dksX8_ofVillageNow_3 8 rfl rfl)
theorem dX8_ofVillageNow_81 : decode cX8_ofVillageNow 81 = .ok (.aload_n 1, 1) := dk_43 (dk_at dksX8_ofVillageNow_3 10 rfl rfl)
theorem dX8_ofVillageNow_82 : decode cX8_ofVillageNow 82 = .ok (.getfield 329, 3) := dk_180 1 73 (dk_at dksX8_ofVillageNow_3 11 rfl rfl)
theorem dX8_ofVillageNow_85 : decode cX8_ofVillageNow 85 = .ok (.ifCond .eq 7, 3) := dk_153 0 7 (dk_at dksX8_ofVillageNow_3 14 rfl rfl)
theorem dX8_ofVillageNow_88 : decode cX8_ofVillageNow 88 = .ok (.iconst 1, 1) := dk_4 (dk_at dksX8_ofVillageNow_3 17 rfl rfl)
theorem dX8_ofVillageNow_89 : decode cX8_ofVillageNow 89 = .ok (.goto 4, 3) := dk_167 0 4 (dk_at dksX8_ofVillageNow_3 18 rfl rfl)
theorem dX8_ofVillageNow_92 : decode cX8_ofVillageNow 92 = .ok (.iconst 0, 1) := dk_3 (dk_at dksX8_ofVillageNow_3 21 rfl rfl)
theorem dX8_ofVillageNow_93 : decode cX8_ofVillageNow 93 = .ok (.iastore, 1) := dk_79 (dk_at dksX8_ofVillageNow_3 22 rfl rfl)
theorem dX8_ofVillageNow_94 : decode cX8_ofVillageNow 94 = .ok (.dup, 1) := dk_89 (dk_at dksX8_ofVillageNow_3 23 rfl rfl)
theorem dX8_ofVillageNow_95 : decode cX8_ofVillageNow 95 = .ok (.bipush 11, 2) := dk_16 11 (dk_at dksX8_ofVillageNow_4 0 rfl rfl)
theorem dX8_ofVillageNow_97 : decode cX8_ofVillageNow 97 = .ok (.aload_n 1, 1) := dk_43 (dk_at dksX8_ofVillageNow_4 2 rfl rfl)
theorem dX8_ofVillageNow_98 : decode cX8_ofVillageNow 98 = .ok (.getfield 108, 3) := dk_180 0 108 (dk_at dksX8_ofVillageNow_4 3 rfl rfl)
theorem dX8_ofVillageNow_101 : decode cX8_ofVillageNow 101 = .ok (.ifCond .eq 7, 3) := dk_153 0 7 (dk_at dksX8_ofVillageNow_4 6 rfl rfl)
theorem dX8_ofVillageNow_104 : decode cX8_ofVillageNow 104 = .ok (.iconst 1, 1) := dk_4 (dk_at dksX8_ofVillageNow_4 9 rfl rfl)
theorem dX8_ofVillageNow_105 : decode cX8_ofVillageNow 105 = .ok (.goto 4, 3) := dk_167 0 4 (dk_at dksX8_ofVillageNow_4 10 rfl rfl)
theorem dX8_ofVillageNow_108 : decode cX8_ofVillageNow 108 = .ok (.iconst 0, 1) := dk_3 (dk_at dksX8_ofVillageNow_4 13 rfl rfl)
theorem dX8_ofVillageNow_109 : decode cX8_ofVillageNow 109 = .ok (.iastore, 1) := dk_79 (dk_at dksX8_ofVillageNow_4 14 rfl rfl)
theorem dX8_ofVillageNow_110 : decode cX8_ofVillageNow 110 = .ok (.dup, 1) := dk_89 (dk_at dksX8_ofVillageNow_4 15 rfl rfl)
theorem dX8_ofVillageNow_111 : decode cX8_ofVillageNow 111 = .ok (.bipush 12, 2) := dk_16 12 (dk_at dksX8_ofVillageNow_4 16 rfl rfl)
theorem dX8_ofVillageNow_113 : decode cX8_ofVillageNow 113 = .ok (.aload_n 1, 1) := dk_43 (dk_at dksX8_ofVillageNow_4 18 rfl rfl)
theorem dX8_ofVillageNow_114 : decode cX8_ofVillageNow 114 = .ok (.getfield 115, 3) := dk_180 0 115 (dk_at dksX8_ofVillageNow_4 19 rfl rfl)
theorem dX8_ofVillageNow_117 : decode cX8_ofVillageNow 117 = .ok (.iastore, 1) := dk_79 (dk_at dksX8_ofVillageNow_4 22 rfl rfl)
theorem dX8_ofVillageNow_118 : decode cX8_ofVillageNow 118 = .ok (.dup, 1) := dk_89 (dk_at dksX8_ofVillageNow_4 23 rfl rfl)
theorem dX8_ofVillageNow_119 : decode cX8_ofVillageNow 119 = .ok (.bipush 13, 2) := dk_16 13 (dk_at dksX8_ofVillageNow_5 0 rfl rfl)
theorem dX8_ofVillageNow_121 : decode cX8_ofVillageNow 121 = .ok (.aload_n 1, 1) := dk_43 (dk_at dksX8_ofVillageNow_5 2 rfl rfl)
theorem dX8_ofVillageNow_122 : decode cX8_ofVillageNow 122 = .ok (.getfield 358, 3) := dk_180 1 102 (dk_at dksX8_ofVillageNow_5 3 rfl rfl)
theorem dX8_ofVillageNow_125 : decode cX8_ofVillageNow 125 = .ok (.iastore, 1) := dk_79 (dk_at dksX8_ofVillageNow_5 6 rfl rfl)
theorem dX8_ofVillageNow_126 : decode cX8_ofVillageNow 126 = .ok (.astore_n 3, 1) := dk_78 (dk_at dksX8_ofVillageNow_5 7 rfl rfl)
theorem dX8_ofVillageNow_127 : decode cX8_ofVillageNow 127 = .ok (.aload_n 3, 1) := dk_45 (dk_at dksX8_ofVillageNow_5 8 rfl rfl)
theorem dX8_ofVillageNow_128 : decode cX8_ofVillageNow 128 = .ok (.iload_n 2, 1) := dk_28 (dk_at dksX8_ofVillageNow_5 9 rfl rfl)
theorem dX8_ofVillageNow_129 : decode cX8_ofVillageNow 129 = .ok (.iaload, 1) := dk_46 (dk_at dksX8_ofVillageNow_5 10 rfl rfl)
theorem dX8_ofVillageNow_130 : decode cX8_ofVillageNow 130 = .ok (.ireturn, 1) := dk_172 (dk_at dksX8_ofVillageNow_5 11 rfl rfl)
abbrev cX8_due_2 : ByteArray := prog_19_method_63_code
def yX8_due_2 : MethodName := ⟨RX8, "due", "(IIZ)I"⟩
def dkwX8_due_2_1 : List UInt8 := [182, 0, 124, 153, 0, 7, 3, 167, 0, 10, 42, 27, 28, 29, 182, 1, 80, 172]
abbrev dktX8_due_2_1 : List UInt8 := dkwX8_due_2_1 ++ []
def dkwX8_due_2_0 : List UInt8 := [42, 42, 27, 182, 0, 142, 154, 0, 10, 28, 184, 0, 149, 153, 0, 7, 4, 167, 0, 4, 3, 4]
abbrev dktX8_due_2_0 : List UInt8 := dkwX8_due_2_0 ++ dktX8_due_2_1
theorem dksX8_due_2_0 : cX8_due_2.data.toList.drop 0 = dktX8_due_2_0 := by decide +kernel
theorem dksX8_due_2_1 : cX8_due_2.data.toList.drop 22 = dktX8_due_2_1 := dk_seg dksX8_due_2_0 22 rfl rfl
theorem dX8_due_2_0 : decode cX8_due_2 0 = .ok (.aload_n 0, 1) := dk_42 (dk_at dksX8_due_2_0 0 rfl rfl)
theorem dX8_due_2_1 : decode cX8_due_2 1 = .ok (.aload_n 0, 1) := dk_42 (dk_at dksX8_due_2_0 1 rfl rfl)
theorem dX8_due_2_2 : decode cX8_due_2 2 = .ok (.iload_n 1, 1) := dk_27 (dk_at dksX8_due_2_0 2 rfl rfl)
theorem dX8_due_2_3 : decode cX8_due_2 3 = .ok (.invokevirtual 142, 3) := dk_182 0 142 (dk_at dksX8_due_2_0 3 rfl rfl)
theorem dX8_due_2_6 : decode cX8_due_2 6 = .ok (.ifCond .ne 10, 3) := dk_154 0 10 (dk_at dksX8_due_2_0 6 rfl rfl)
theorem dX8_due_2_9 : decode cX8_due_2 9 = .ok (.iload_n 2, 1) := dk_28 (dk_at dksX8_due_2_0 9 rfl rfl)
theorem dX8_due_2_10 : decode cX8_due_2 10 = .ok (.invokestatic 149, 3) := dk_184 0 149 (dk_at dksX8_due_2_0 10 rfl rfl)
theorem dX8_due_2_13 : decode cX8_due_2 13 = .ok (.ifCond .eq 7, 3) := dk_153 0 7 (dk_at dksX8_due_2_0 13 rfl rfl)
theorem dX8_due_2_16 : decode cX8_due_2 16 = .ok (.iconst 1, 1) := dk_4 (dk_at dksX8_due_2_0 16 rfl rfl)
theorem dX8_due_2_17 : decode cX8_due_2 17 = .ok (.goto 4, 3) := dk_167 0 4 (dk_at dksX8_due_2_0 17 rfl rfl)
theorem dX8_due_2_20 : decode cX8_due_2 20 = .ok (.iconst 0, 1) := dk_3 (dk_at dksX8_due_2_0 20 rfl rfl)
theorem dX8_due_2_21 : decode cX8_due_2 21 = .ok (.iconst 1, 1) := dk_4 (dk_at dksX8_due_2_0 21 rfl rfl)
theorem dX8_due_2_22 : decode cX8_due_2 22 = .ok (.invokevirtual 124, 3) := dk_182 0 124 (dk_at dksX8_due_2_1 0 rfl rfl)
theorem dX8_due_2_25 : decode cX8_due_2 25 = .ok (.ifCond .eq 7, 3) := dk_153 0 7 (dk_at dksX8_due_2_1 3 rfl rfl)
theorem dX8_due_2_28 : decode cX8_due_2 28 = .ok (.iconst 0, 1) := dk_3 (dk_at dksX8_due_2_1 6 rfl rfl)
theorem dX8_due_2_29 : decode cX8_due_2 29 = .ok (.goto 10, 3) := dk_167 0 10 (dk_at dksX8_due_2_1 7 rfl rfl)
theorem dX8_due_2_32 : decode cX8_due_2 32 = .ok (.aload_n 0, 1) := dk_42 (dk_at dksX8_due_2_1 10 rfl rfl)
theorem dX8_due_2_33 : decode cX8_due_2 33 = .ok (.iload_n 1, 1) := dk_27 (dk_at dksX8_due_2_1 11 rfl rfl)
theorem dX8_due_2_34 : decode cX8_due_2 34 = .ok (.iload_n 2, 1) := dk_28 (dk_at dksX8_due_2_1 12 rfl rfl)
theorem dX8_due_2_35 : decode cX8_due_2 35 = .ok (.iload_n 3, 1) := dk_29 (dk_at dksX8_due_2_1 13 rfl rfl)
theorem dX8_due_2_36 : decode cX8_due_2 36 = .ok (.invokevirtual 336, 3) := dk_182 1 80 (dk_at dksX8_due_2_1 14 rfl rfl)
theorem dX8_due_2_39 : decode cX8_due_2 39 = .ok (.ireturn, 1) := dk_172 (dk_at dksX8_due_2_1 17 rfl rfl)
abbrev cX8_levy : ByteArray := prog_19_method_65_code
def yX8_levy : MethodName := ⟨RX8, "levy", "(III)I"⟩
def dkwX8_levy_2 : List UInt8 := [182, 0, 52, 153, 0, 7, 3, 167, 0, 10, 42, 27, 28, 29, 182, 1, 133, 172]
abbrev dktX8_levy_2 : List UInt8 := dkwX8_levy_2 ++ []
def dkwX8_levy_1 : List UInt8 := [182, 0, 124, 154, 0, 25, 42, 29, 3, 8, 184, 0, 60, 154, 0, 7, 4, 167, 0, 4, 3, 5]
abbrev dktX8_levy_1 : List UInt8 := dkwX8_levy_1 ++ dktX8_levy_2
def dkwX8_levy_0 : List UInt8 := [42, 42, 27, 182, 0, 142, 154, 0, 10, 28, 184, 0, 149, 153, 0, 7, 4, 167, 0, 4, 3, 4]
abbrev dktX8_levy_0 : List UInt8 := dkwX8_levy_0 ++ dktX8_levy_1
theorem dksX8_levy_0 : cX8_levy.data.toList.drop 0 = dktX8_levy_0 := by decide +kernel
theorem dksX8_levy_1 : cX8_levy.data.toList.drop 22 = dktX8_levy_1 := dk_seg dksX8_levy_0 22 rfl rfl
theorem dksX8_levy_2 : cX8_levy.data.toList.drop 44 = dktX8_levy_2 := dk_seg dksX8_levy_1 22 rfl rfl
theorem dX8_levy_0 : decode cX8_levy 0 = .ok (.aload_n 0, 1) := dk_42 (dk_at dksX8_levy_0 0 rfl rfl)
theorem dX8_levy_1 : decode cX8_levy 1 = .ok (.aload_n 0, 1) := dk_42 (dk_at dksX8_levy_0 1 rfl rfl)
theorem dX8_levy_2 : decode cX8_levy 2 = .ok (.iload_n 1, 1) := dk_27 (dk_at dksX8_levy_0 2 rfl rfl)
theorem dX8_levy_3 : decode cX8_levy 3 = .ok (.invokevirtual 142, 3) := dk_182 0 142 (dk_at dksX8_levy_0 3 rfl rfl)
theorem dX8_levy_6 : decode cX8_levy 6 = .ok (.ifCond .ne 10, 3) := dk_154 0 10 (dk_at dksX8_levy_0 6 rfl rfl)
theorem dX8_levy_9 : decode cX8_levy 9 = .ok (.iload_n 2, 1) := dk_28 (dk_at dksX8_levy_0 9 rfl rfl)
theorem dX8_levy_10 : decode cX8_levy 10 = .ok (.invokestatic 149, 3) := dk_184 0 149 (dk_at dksX8_levy_0 10 rfl rfl)
theorem dX8_levy_13 : decode cX8_levy 13 = .ok (.ifCond .eq 7, 3) := dk_153 0 7 (dk_at dksX8_levy_0 13 rfl rfl)
theorem dX8_levy_16 : decode cX8_levy 16 = .ok (.iconst 1, 1) := dk_4 (dk_at dksX8_levy_0 16 rfl rfl)
theorem dX8_levy_17 : decode cX8_levy 17 = .ok (.goto 4, 3) := dk_167 0 4 (dk_at dksX8_levy_0 17 rfl rfl)
theorem dX8_levy_20 : decode cX8_levy 20 = .ok (.iconst 0, 1) := dk_3 (dk_at dksX8_levy_0 20 rfl rfl)
theorem dX8_levy_21 : decode cX8_levy 21 = .ok (.iconst 1, 1) := dk_4 (dk_at dksX8_levy_0 21 rfl rfl)
theorem dX8_levy_22 : decode cX8_levy 22 = .ok (.invokevirtual 124, 3) := dk_182 0 124 (dk_at dksX8_levy_1 0 rfl rfl)
theorem dX8_levy_25 : decode cX8_levy 25 = .ok (.ifCond .ne 25, 3) := dk_154 0 25 (dk_at dksX8_levy_1 3 rfl rfl)
theorem dX8_levy_28 : decode cX8_levy 28 = .ok (.aload_n 0, 1) := dk_42 (dk_at dksX8_levy_1 6 rfl rfl)
theorem dX8_levy_29 : decode cX8_levy 29 = .ok (.iload_n 3, 1) := dk_29 (dk_at dksX8_levy_1 7 rfl rfl)
theorem dX8_levy_30 : decode cX8_levy 30 = .ok (.iconst 0, 1) := dk_3 (dk_at dksX8_levy_1 8 rfl rfl)
theorem dX8_levy_31 : decode cX8_levy 31 = .ok (.iconst 5, 1) := dk_8 (dk_at dksX8_levy_1 9 rfl rfl)
theorem dX8_levy_32 : decode cX8_levy 32 = .ok (.invokestatic 60, 3) := dk_184 0 60 (dk_at dksX8_levy_1 10 rfl rfl)
theorem dX8_levy_35 : decode cX8_levy 35 = .ok (.ifCond .ne 7, 3) := dk_154 0 7 (dk_at dksX8_levy_1 13 rfl rfl)
theorem dX8_levy_38 : decode cX8_levy 38 = .ok (.iconst 1, 1) := dk_4 (dk_at dksX8_levy_1 16 rfl rfl)
theorem dX8_levy_39 : decode cX8_levy 39 = .ok (.goto 4, 3) := dk_167 0 4 (dk_at dksX8_levy_1 17 rfl rfl)
theorem dX8_levy_42 : decode cX8_levy 42 = .ok (.iconst 0, 1) := dk_3 (dk_at dksX8_levy_1 20 rfl rfl)
theorem dX8_levy_43 : decode cX8_levy 43 = .ok (.iconst 2, 1) := dk_5 (dk_at dksX8_levy_1 21 rfl rfl)
theorem dX8_levy_44 : decode cX8_levy 44 = .ok (.invokevirtual 52, 3) := dk_182 0 52 (dk_at dksX8_levy_2 0 rfl rfl)
theorem dX8_levy_47 : decode cX8_levy 47 = .ok (.ifCond .eq 7, 3) := dk_153 0 7 (dk_at dksX8_levy_2 3 rfl rfl)
theorem dX8_levy_50 : decode cX8_levy 50 = .ok (.iconst 0, 1) := dk_3 (dk_at dksX8_levy_2 6 rfl rfl)
theorem dX8_levy_51 : decode cX8_levy 51 = .ok (.goto 10, 3) := dk_167 0 10 (dk_at dksX8_levy_2 7 rfl rfl)
theorem dX8_levy_54 : decode cX8_levy 54 = .ok (.aload_n 0, 1) := dk_42 (dk_at dksX8_levy_2 10 rfl rfl)
theorem dX8_levy_55 : decode cX8_levy 55 = .ok (.iload_n 1, 1) := dk_27 (dk_at dksX8_levy_2 11 rfl rfl)
theorem dX8_levy_56 : decode cX8_levy 56 = .ok (.iload_n 2, 1) := dk_28 (dk_at dksX8_levy_2 12 rfl rfl)
theorem dX8_levy_57 : decode cX8_levy 57 = .ok (.iload_n 3, 1) := dk_29 (dk_at dksX8_levy_2 13 rfl rfl)
theorem dX8_levy_58 : decode cX8_levy 58 = .ok (.invokevirtual 389, 3) := dk_182 1 133 (dk_at dksX8_levy_2 14 rfl rfl)
theorem dX8_levy_61 : decode cX8_levy 61 = .ok (.ireturn, 1) := dk_172 (dk_at dksX8_levy_2 17 rfl rfl)
abbrev cX8_levyNow : ByteArray := prog_19_method_64_code
def yX8_levyNow : MethodName := ⟨RX8, "levyNow", "(III)I"⟩
def dkwX8_levyNow_1 : List UInt8 := [8, 160, 0, 7, 3, 167, 0, 11, 2, 167, 0, 7, 25, 4, 29, 46, 172]
abbrev dktX8_levyNow_1 : List UInt8 := dkwX8_levyNow_1 ++ []
def dkwX8_levyNow_0 : List UInt8 := [42, 180, 0, 16, 27, 182, 0, 78, 192, 0, 68, 180, 1, 33, 28, 50, 58, 4, 25, 4, 199, 0, 16, 29]
abbrev dktX8_levyNow_0 : List UInt8 := dkwX8_levyNow_0 ++ dktX8_levyNow_1
theorem dksX8_levyNow_0 : cX8_levyNow.data.toList.drop 0 = dktX8_levyNow_0 := by decide +kernel
theorem dksX8_levyNow_1 : cX8_levyNow.data.toList.drop 24 = dktX8_levyNow_1 := dk_seg dksX8_levyNow_0 24 rfl rfl
theorem dX8_levyNow_0 : decode cX8_levyNow 0 = .ok (.aload_n 0, 1) := dk_42 (dk_at dksX8_levyNow_0 0 rfl rfl)
theorem dX8_levyNow_1 : decode cX8_levyNow 1 = .ok (.getfield 16, 3) := dk_180 0 16 (dk_at dksX8_levyNow_0 1 rfl rfl)
theorem dX8_levyNow_4 : decode cX8_levyNow 4 = .ok (.iload_n 1, 1) := dk_27 (dk_at dksX8_levyNow_0 4 rfl rfl)
theorem dX8_levyNow_5 : decode cX8_levyNow 5 = .ok (.invokevirtual 78, 3) := dk_182 0 78 (dk_at dksX8_levyNow_0 5 rfl rfl)
theorem dX8_levyNow_8 : decode cX8_levyNow 8 = .ok (.checkcast 68, 3) := dk_192 0 68 (dk_at dksX8_levyNow_0 8 rfl rfl)
theorem dX8_levyNow_11 : decode cX8_levyNow 11 = .ok (.getfield 289, 3) := dk_180 1 33 (dk_at dksX8_levyNow_0 11 rfl rfl)
theorem dX8_levyNow_14 : decode cX8_levyNow 14 = .ok (.iload_n 2, 1) := dk_28 (dk_at dksX8_levyNow_0 14 rfl rfl)
theorem dX8_levyNow_15 : decode cX8_levyNow 15 = .ok (.aaload, 1) := dk_50 (dk_at dksX8_levyNow_0 15 rfl rfl)
theorem dX8_levyNow_16 : decode cX8_levyNow 16 = .ok (.astore 4, 2) := dk_58 4 (dk_at dksX8_levyNow_0 16 rfl rfl)
theorem dX8_levyNow_18 : decode cX8_levyNow 18 = .ok (.aload 4, 2) := dk_25 4 (dk_at dksX8_levyNow_0 18 rfl rfl)
theorem dX8_levyNow_20 : decode cX8_levyNow 20 = .ok (.ifnonnull 16, 3) := dk_199 0 16 (dk_at dksX8_levyNow_0 20 rfl rfl)
theorem dX8_levyNow_23 : decode cX8_levyNow 23 = .ok (.iload_n 3, 1) := dk_29 (dk_at dksX8_levyNow_0 23 rfl rfl)
theorem dX8_levyNow_24 : decode cX8_levyNow 24 = .ok (.iconst 5, 1) := dk_8 (dk_at dksX8_levyNow_1 0 rfl rfl)
theorem dX8_levyNow_25 : decode cX8_levyNow 25 = .ok (.if_icmp .ne 7, 3) := dk_160 0 7 (dk_at dksX8_levyNow_1 1 rfl rfl)
theorem dX8_levyNow_28 : decode cX8_levyNow 28 = .ok (.iconst 0, 1) := dk_3 (dk_at dksX8_levyNow_1 4 rfl rfl)
theorem dX8_levyNow_29 : decode cX8_levyNow 29 = .ok (.goto 11, 3) := dk_167 0 11 (dk_at dksX8_levyNow_1 5 rfl rfl)
theorem dX8_levyNow_32 : decode cX8_levyNow 32 = .ok (.iconst (-1), 1) := dk_2 (dk_at dksX8_levyNow_1 8 rfl rfl)
theorem dX8_levyNow_33 : decode cX8_levyNow 33 = .ok (.goto 7, 3) := dk_167 0 7 (dk_at dksX8_levyNow_1 9 rfl rfl)
theorem dX8_levyNow_36 : decode cX8_levyNow 36 = .ok (.aload 4, 2) := dk_25 4 (dk_at dksX8_levyNow_1 12 rfl rfl)
theorem dX8_levyNow_38 : decode cX8_levyNow 38 = .ok (.iload_n 3, 1) := dk_29 (dk_at dksX8_levyNow_1 14 rfl rfl)
theorem dX8_levyNow_39 : decode cX8_levyNow 39 = .ok (.iaload, 1) := dk_46 (dk_at dksX8_levyNow_1 15 rfl rfl)
theorem dX8_levyNow_40 : decode cX8_levyNow 40 = .ok (.ireturn, 1) := dk_172 (dk_at dksX8_levyNow_1 16 rfl rfl)
abbrev cX8_law : ByteArray := prog_19_method_67_code
def yX8_law : MethodName := ⟨RX8, "law", "(II)I"⟩
def dkwX8_law_1 : List UInt8 := [167, 0, 4, 3, 5, 182, 0, 52, 153, 0, 7, 3, 167, 0, 9, 42, 27, 28, 182, 1, 136, 172]
abbrev dktX8_law_1 : List UInt8 := dkwX8_law_1 ++ []
def dkwX8_law_0 : List UInt8 := [42, 27, 184, 0, 149, 4, 182, 0, 124, 154, 0, 25, 42, 28, 3, 7, 184, 0, 60, 154, 0, 7, 4]
abbrev dktX8_law_0 : List UInt8 := dkwX8_law_0 ++ dktX8_law_1
theorem dksX8_law_0 : cX8_law.data.toList.drop 0 = dktX8_law_0 := by decide +kernel
theorem dksX8_law_1 : cX8_law.data.toList.drop 23 = dktX8_law_1 := dk_seg dksX8_law_0 23 rfl rfl
theorem dX8_law_0 : decode cX8_law 0 = .ok (.aload_n 0, 1) := dk_42 (dk_at dksX8_law_0 0 rfl rfl)
theorem dX8_law_1 : decode cX8_law 1 = .ok (.iload_n 1, 1) := dk_27 (dk_at dksX8_law_0 1 rfl rfl)
theorem dX8_law_2 : decode cX8_law 2 = .ok (.invokestatic 149, 3) := dk_184 0 149 (dk_at dksX8_law_0 2 rfl rfl)
theorem dX8_law_5 : decode cX8_law 5 = .ok (.iconst 1, 1) := dk_4 (dk_at dksX8_law_0 5 rfl rfl)
theorem dX8_law_6 : decode cX8_law 6 = .ok (.invokevirtual 124, 3) := dk_182 0 124 (dk_at dksX8_law_0 6 rfl rfl)
theorem dX8_law_9 : decode cX8_law 9 = .ok (.ifCond .ne 25, 3) := dk_154 0 25 (dk_at dksX8_law_0 9 rfl rfl)
theorem dX8_law_12 : decode cX8_law 12 = .ok (.aload_n 0, 1) := dk_42 (dk_at dksX8_law_0 12 rfl rfl)
theorem dX8_law_13 : decode cX8_law 13 = .ok (.iload_n 2, 1) := dk_28 (dk_at dksX8_law_0 13 rfl rfl)
theorem dX8_law_14 : decode cX8_law 14 = .ok (.iconst 0, 1) := dk_3 (dk_at dksX8_law_0 14 rfl rfl)
theorem dX8_law_15 : decode cX8_law 15 = .ok (.iconst 4, 1) := dk_7 (dk_at dksX8_law_0 15 rfl rfl)
theorem dX8_law_16 : decode cX8_law 16 = .ok (.invokestatic 60, 3) := dk_184 0 60 (dk_at dksX8_law_0 16 rfl rfl)
theorem dX8_law_19 : decode cX8_law 19 = .ok (.ifCond .ne 7, 3) := dk_154 0 7 (dk_at dksX8_law_0 19 rfl rfl)
theorem dX8_law_22 : decode cX8_law 22 = .ok (.iconst 1, 1) := dk_4 (dk_at dksX8_law_0 22 rfl rfl)
theorem dX8_law_23 : decode cX8_law 23 = .ok (.goto 4, 3) := dk_167 0 4 (dk_at dksX8_law_1 0 rfl rfl)
theorem dX8_law_26 : decode cX8_law 26 = .ok (.iconst 0, 1) := dk_3 (dk_at dksX8_law_1 3 rfl rfl)
theorem dX8_law_27 : decode cX8_law 27 = .ok (.iconst 2, 1) := dk_5 (dk_at dksX8_law_1 4 rfl rfl)
theorem dX8_law_28 : decode cX8_law 28 = .ok (.invokevirtual 52, 3) := dk_182 0 52 (dk_at dksX8_law_1 5 rfl rfl)
theorem dX8_law_31 : decode cX8_law 31 = .ok (.ifCond .eq 7, 3) := dk_153 0 7 (dk_at dksX8_law_1 8 rfl rfl)
theorem dX8_law_34 : decode cX8_law 34 = .ok (.iconst 0, 1) := dk_3 (dk_at dksX8_law_1 11 rfl rfl)
theorem dX8_law_35 : decode cX8_law 35 = .ok (.goto 9, 3) := dk_167 0 9 (dk_at dksX8_law_1 12 rfl rfl)
theorem dX8_law_38 : decode cX8_law 38 = .ok (.aload_n 0, 1) := dk_42 (dk_at dksX8_law_1 15 rfl rfl)
theorem dX8_law_39 : decode cX8_law 39 = .ok (.iload_n 1, 1) := dk_27 (dk_at dksX8_law_1 16 rfl rfl)
theorem dX8_law_40 : decode cX8_law 40 = .ok (.iload_n 2, 1) := dk_28 (dk_at dksX8_law_1 17 rfl rfl)
theorem dX8_law_41 : decode cX8_law 41 = .ok (.invokevirtual 392, 3) := dk_182 1 136 (dk_at dksX8_law_1 18 rfl rfl)
theorem dX8_law_44 : decode cX8_law 44 = .ok (.ireturn, 1) := dk_172 (dk_at dksX8_law_1 21 rfl rfl)
abbrev cX8_lawNow : ByteArray := prog_19_method_66_code
def yX8_lawNow : MethodName := ⟨RX8, "lawNow", "(II)I"⟩
def dkwX8_lawNow_2 : List UInt8 := [7, 42, 180, 0, 43, 27, 46, 79, 78, 45, 28, 46, 172]
abbrev dktX8_lawNow_2 : List UInt8 := dkwX8_lawNow_2 ++ []
def dkwX8_lawNow_1 : List UInt8 := [180, 0, 33, 27, 46, 79, 89, 6, 42, 180, 0, 39, 27, 51, 153, 0, 7, 4, 167, 0, 4, 3, 79, 89]
abbrev dktX8_lawNow_1 : List UInt8 := dkwX8_lawNow_1 ++ dktX8_lawNow_2
def dkwX8_lawNow_0 : List UInt8 := [8, 188, 10, 89, 3, 42, 180, 0, 26, 27, 46, 79, 89, 4, 42, 180, 0, 30, 27, 46, 79, 89, 5, 42]
abbrev dktX8_lawNow_0 : List UInt8 := dkwX8_lawNow_0 ++ dktX8_lawNow_1
theorem dksX8_lawNow_0 : cX8_lawNow.data.toList.drop 0 = dktX8_lawNow_0 := by decide +kernel
theorem dksX8_lawNow_1 : cX8_lawNow.data.toList.drop 24 = dktX8_lawNow_1 := dk_seg dksX8_lawNow_0 24 rfl rfl
theorem dksX8_lawNow_2 : cX8_lawNow.data.toList.drop 48 = dktX8_lawNow_2 := dk_seg dksX8_lawNow_1 24 rfl rfl
theorem dX8_lawNow_0 : decode cX8_lawNow 0 = .ok (.iconst 5, 1) := dk_8 (dk_at dksX8_lawNow_0 0 rfl rfl)
theorem dX8_lawNow_1 : decode cX8_lawNow 1 = .ok (.newarray .int, 2) := dk_188_10 (dk_at dksX8_lawNow_0 1 rfl rfl)
theorem dX8_lawNow_3 : decode cX8_lawNow 3 = .ok (.dup, 1) := dk_89 (dk_at dksX8_lawNow_0 3 rfl rfl)
theorem dX8_lawNow_4 : decode cX8_lawNow 4 = .ok (.iconst 0, 1) := dk_3 (dk_at dksX8_lawNow_0 4 rfl rfl)
theorem dX8_lawNow_5 : decode cX8_lawNow 5 = .ok (.aload_n 0, 1) := dk_42 (dk_at dksX8_lawNow_0 5 rfl rfl)
theorem dX8_lawNow_6 : decode cX8_lawNow 6 = .ok (.getfield 26, 3) := dk_180 0 26 (dk_at dksX8_lawNow_0 6 rfl rfl)
theorem dX8_lawNow_9 : decode cX8_lawNow 9 = .ok (.iload_n 1, 1) := dk_27 (dk_at dksX8_lawNow_0 9 rfl rfl)
theorem dX8_lawNow_10 : decode cX8_lawNow 10 = .ok (.iaload, 1) := dk_46 (dk_at dksX8_lawNow_0 10 rfl rfl)
theorem dX8_lawNow_11 : decode cX8_lawNow 11 = .ok (.iastore, 1) := dk_79 (dk_at dksX8_lawNow_0 11 rfl rfl)
theorem dX8_lawNow_12 : decode cX8_lawNow 12 = .ok (.dup, 1) := dk_89 (dk_at dksX8_lawNow_0 12 rfl rfl)
theorem dX8_lawNow_13 : decode cX8_lawNow 13 = .ok (.iconst 1, 1) := dk_4 (dk_at dksX8_lawNow_0 13 rfl rfl)
theorem dX8_lawNow_14 : decode cX8_lawNow 14 = .ok (.aload_n 0, 1) := dk_42 (dk_at dksX8_lawNow_0 14 rfl rfl)
theorem dX8_lawNow_15 : decode cX8_lawNow 15 = .ok (.getfield 30, 3) := dk_180 0 30 (dk_at dksX8_lawNow_0 15 rfl rfl)
theorem dX8_lawNow_18 : decode cX8_lawNow 18 = .ok (.iload_n 1, 1) := dk_27 (dk_at dksX8_lawNow_0 18 rfl rfl)
theorem dX8_lawNow_19 : decode cX8_lawNow 19 = .ok (.iaload, 1) := dk_46 (dk_at dksX8_lawNow_0 19 rfl rfl)
theorem dX8_lawNow_20 : decode cX8_lawNow 20 = .ok (.iastore, 1) := dk_79 (dk_at dksX8_lawNow_0 20 rfl rfl)
theorem dX8_lawNow_21 : decode cX8_lawNow 21 = .ok (.dup, 1) := dk_89 (dk_at dksX8_lawNow_0 21 rfl rfl)
theorem dX8_lawNow_22 : decode cX8_lawNow 22 = .ok (.iconst 2, 1) := dk_5 (dk_at dksX8_lawNow_0 22 rfl rfl)
theorem dX8_lawNow_23 : decode cX8_lawNow 23 = .ok (.aload_n 0, 1) := dk_42 (dk_at dksX8_lawNow_0 23 rfl rfl)
theorem dX8_lawNow_24 : decode cX8_lawNow 24 = .ok (.getfield 33, 3) := dk_180 0 33 (dk_at dksX8_lawNow_1 0 rfl rfl)
theorem dX8_lawNow_27 : decode cX8_lawNow 27 = .ok (.iload_n 1, 1) := dk_27 (dk_at dksX8_lawNow_1 3 rfl rfl)
theorem dX8_lawNow_28 : decode cX8_lawNow 28 = .ok (.iaload, 1) := dk_46 (dk_at dksX8_lawNow_1 4 rfl rfl)
theorem dX8_lawNow_29 : decode cX8_lawNow 29 = .ok (.iastore, 1) := dk_79 (dk_at dksX8_lawNow_1 5 rfl rfl)
theorem dX8_lawNow_30 : decode cX8_lawNow 30 = .ok (.dup, 1) := dk_89 (dk_at dksX8_lawNow_1 6 rfl rfl)
theorem dX8_lawNow_31 : decode cX8_lawNow 31 = .ok (.iconst 3, 1) := dk_6 (dk_at dksX8_lawNow_1 7 rfl rfl)
theorem dX8_lawNow_32 : decode cX8_lawNow 32 = .ok (.aload_n 0, 1) := dk_42 (dk_at dksX8_lawNow_1 8 rfl rfl)
theorem dX8_lawNow_33 : decode cX8_lawNow 33 = .ok (.getfield 39, 3) := dk_180 0 39 (dk_at dksX8_lawNow_1 9 rfl rfl)
theorem dX8_lawNow_36 : decode cX8_lawNow 36 = .ok (.iload_n 1, 1) := dk_27 (dk_at dksX8_lawNow_1 12 rfl rfl)
theorem dX8_lawNow_37 : decode cX8_lawNow 37 = .ok (.baload, 1) := dk_51 (dk_at dksX8_lawNow_1 13 rfl rfl)
theorem dX8_lawNow_38 : decode cX8_lawNow 38 = .ok (.ifCond .eq 7, 3) := dk_153 0 7 (dk_at dksX8_lawNow_1 14 rfl rfl)
theorem dX8_lawNow_41 : decode cX8_lawNow 41 = .ok (.iconst 1, 1) := dk_4 (dk_at dksX8_lawNow_1 17 rfl rfl)
theorem dX8_lawNow_42 : decode cX8_lawNow 42 = .ok (.goto 4, 3) := dk_167 0 4 (dk_at dksX8_lawNow_1 18 rfl rfl)
theorem dX8_lawNow_45 : decode cX8_lawNow 45 = .ok (.iconst 0, 1) := dk_3 (dk_at dksX8_lawNow_1 21 rfl rfl)
theorem dX8_lawNow_46 : decode cX8_lawNow 46 = .ok (.iastore, 1) := dk_79 (dk_at dksX8_lawNow_1 22 rfl rfl)
theorem dX8_lawNow_47 : decode cX8_lawNow 47 = .ok (.dup, 1) := dk_89 (dk_at dksX8_lawNow_1 23 rfl rfl)
theorem dX8_lawNow_48 : decode cX8_lawNow 48 = .ok (.iconst 4, 1) := dk_7 (dk_at dksX8_lawNow_2 0 rfl rfl)
theorem dX8_lawNow_49 : decode cX8_lawNow 49 = .ok (.aload_n 0, 1) := dk_42 (dk_at dksX8_lawNow_2 1 rfl rfl)
theorem dX8_lawNow_50 : decode cX8_lawNow 50 = .ok (.getfield 43, 3) := dk_180 0 43 (dk_at dksX8_lawNow_2 2 rfl rfl)
theorem dX8_lawNow_53 : decode cX8_lawNow 53 = .ok (.iload_n 1, 1) := dk_27 (dk_at dksX8_lawNow_2 5 rfl rfl)
theorem dX8_lawNow_54 : decode cX8_lawNow 54 = .ok (.iaload, 1) := dk_46 (dk_at dksX8_lawNow_2 6 rfl rfl)
theorem dX8_lawNow_55 : decode cX8_lawNow 55 = .ok (.iastore, 1) := dk_79 (dk_at dksX8_lawNow_2 7 rfl rfl)
theorem dX8_lawNow_56 : decode cX8_lawNow 56 = .ok (.astore_n 3, 1) := dk_78 (dk_at dksX8_lawNow_2 8 rfl rfl)
theorem dX8_lawNow_57 : decode cX8_lawNow 57 = .ok (.aload_n 3, 1) := dk_45 (dk_at dksX8_lawNow_2 9 rfl rfl)
theorem dX8_lawNow_58 : decode cX8_lawNow 58 = .ok (.iload_n 2, 1) := dk_28 (dk_at dksX8_lawNow_2 10 rfl rfl)
theorem dX8_lawNow_59 : decode cX8_lawNow 59 = .ok (.iaload, 1) := dk_46 (dk_at dksX8_lawNow_2 11 rfl rfl)
theorem dX8_lawNow_60 : decode cX8_lawNow 60 = .ok (.ireturn, 1) := dk_172 (dk_at dksX8_lawNow_2 12 rfl rfl)
abbrev cX8_ofCompany : ByteArray := prog_19_method_69_code
def yX8_ofCompany : MethodName := ⟨RX8, "ofCompany", "(II)I"⟩
def dkwX8_ofCompany_1 : List UInt8 := [4, 167, 0, 4, 3, 5, 182, 0, 52, 153, 0, 7, 3, 167, 0, 9, 42, 27, 28, 182, 1, 139, 172]
abbrev dktX8_ofCompany_1 : List UInt8 := dkwX8_ofCompany_1 ++ []
def dkwX8_ofCompany_0 : List UInt8 := [42, 42, 27, 182, 0, 161, 4, 182, 0, 124, 154, 0, 26, 42, 28, 3, 16, 12, 184, 0, 60, 154, 0, 7]
abbrev dktX8_ofCompany_0 : List UInt8 := dkwX8_ofCompany_0 ++ dktX8_ofCompany_1
theorem dksX8_ofCompany_0 : cX8_ofCompany.data.toList.drop 0 = dktX8_ofCompany_0 := by decide +kernel
theorem dksX8_ofCompany_1 : cX8_ofCompany.data.toList.drop 24 = dktX8_ofCompany_1 := dk_seg dksX8_ofCompany_0 24 rfl rfl
theorem dX8_ofCompany_0 : decode cX8_ofCompany 0 = .ok (.aload_n 0, 1) := dk_42 (dk_at dksX8_ofCompany_0 0 rfl rfl)
theorem dX8_ofCompany_1 : decode cX8_ofCompany 1 = .ok (.aload_n 0, 1) := dk_42 (dk_at dksX8_ofCompany_0 1 rfl rfl)
theorem dX8_ofCompany_2 : decode cX8_ofCompany 2 = .ok (.iload_n 1, 1) := dk_27 (dk_at dksX8_ofCompany_0 2 rfl rfl)
theorem dX8_ofCompany_3 : decode cX8_ofCompany 3 = .ok (.invokevirtual 161, 3) := dk_182 0 161 (dk_at dksX8_ofCompany_0 3 rfl rfl)
theorem dX8_ofCompany_6 : decode cX8_ofCompany 6 = .ok (.iconst 1, 1) := dk_4 (dk_at dksX8_ofCompany_0 6 rfl rfl)
theorem dX8_ofCompany_7 : decode cX8_ofCompany 7 = .ok (.invokevirtual 124, 3) := dk_182 0 124 (dk_at dksX8_ofCompany_0 7 rfl rfl)
theorem dX8_ofCompany_10 : decode cX8_ofCompany 10 = .ok (.ifCond .ne 26, 3) := dk_154 0 26 (dk_at dksX8_ofCompany_0 10 rfl rfl)
theorem dX8_ofCompany_13 : decode cX8_ofCompany 13 = .ok (.aload_n 0, 1) := dk_42 (dk_at dksX8_ofCompany_0 13 rfl rfl)
theorem dX8_ofCompany_14 : decode cX8_ofCompany 14 = .ok (.iload_n 2, 1) := dk_28 (dk_at dksX8_ofCompany_0 14 rfl rfl)
theorem dX8_ofCompany_15 : decode cX8_ofCompany 15 = .ok (.iconst 0, 1) := dk_3 (dk_at dksX8_ofCompany_0 15 rfl rfl)
theorem dX8_ofCompany_16 : decode cX8_ofCompany 16 = .ok (.bipush 12, 2) := dk_16 12 (dk_at dksX8_ofCompany_0 16 rfl rfl)
theorem dX8_ofCompany_18 : decode cX8_ofCompany 18 = .ok (.invokestatic 60, 3) := dk_184 0 60 (dk_at dksX8_ofCompany_0 18 rfl rfl)
theorem dX8_ofCompany_21 : decode cX8_ofCompany 21 = .ok (.ifCond .ne 7, 3) := dk_154 0 7 (dk_at dksX8_ofCompany_0 21 rfl rfl)
theorem dX8_ofCompany_24 : decode cX8_ofCompany 24 = .ok (.iconst 1, 1) := dk_4 (dk_at dksX8_ofCompany_1 0 rfl rfl)
theorem dX8_ofCompany_25 : decode cX8_ofCompany 25 = .ok (.goto 4, 3) := dk_167 0 4 (dk_at dksX8_ofCompany_1 1 rfl rfl)
theorem dX8_ofCompany_28 : decode cX8_ofCompany 28 = .ok (.iconst 0, 1) := dk_3 (dk_at dksX8_ofCompany_1 4 rfl rfl)
theorem dX8_ofCompany_29 : decode cX8_ofCompany 29 = .ok (.iconst 2, 1) := dk_5 (dk_at dksX8_ofCompany_1 5 rfl rfl)
theorem dX8_ofCompany_30 : decode cX8_ofCompany 30 = .ok (.invokevirtual 52, 3) := dk_182 0 52 (dk_at dksX8_ofCompany_1 6 rfl rfl)
theorem dX8_ofCompany_33 : decode cX8_ofCompany 33 = .ok (.ifCond .eq 7, 3) := dk_153 0 7 (dk_at dksX8_ofCompany_1 9 rfl rfl)
theorem dX8_ofCompany_36 : decode cX8_ofCompany 36 = .ok (.iconst 0, 1) := dk_3 (dk_at dksX8_ofCompany_1 12 rfl rfl)
theorem dX8_ofCompany_37 : decode cX8_ofCompany 37 = .ok (.goto 9, 3) := dk_167 0 9 (dk_at dksX8_ofCompany_1 13 rfl rfl)
theorem dX8_ofCompany_40 : decode cX8_ofCompany 40 = .ok (.aload_n 0, 1) := dk_42 (dk_at dksX8_ofCompany_1 16 rfl rfl)
theorem dX8_ofCompany_41 : decode cX8_ofCompany 41 = .ok (.iload_n 1, 1) := dk_27 (dk_at dksX8_ofCompany_1 17 rfl rfl)
theorem dX8_ofCompany_42 : decode cX8_ofCompany 42 = .ok (.iload_n 2, 1) := dk_28 (dk_at dksX8_ofCompany_1 18 rfl rfl)
theorem dX8_ofCompany_43 : decode cX8_ofCompany 43 = .ok (.invokevirtual 395, 3) := dk_182 1 139 (dk_at dksX8_ofCompany_1 19 rfl rfl)
theorem dX8_ofCompany_46 : decode cX8_ofCompany 46 = .ok (.ireturn, 1) := dk_172 (dk_at dksX8_ofCompany_1 22 rfl rfl)
abbrev cX8_ofCompanyNow : ByteArray := prog_19_method_68_code
def yX8_ofCompanyNow : MethodName := ⟨RX8, "ofCompanyNow", "(II)I"⟩
def dkwX8_ofCompanyNow_8 : List UInt8 := [25, 5, 28, 46, 172]
abbrev dktX8_ofCompanyNow_8 : List UInt8 := dkwX8_ofCompanyNow_8 ++ []
def dkwX8_ofCompanyNow_7 : List UInt8 := [16, 10, 21, 4, 79, 89, 16, 11, 45, 180, 1, 93, 79, 89, 16, 12, 45, 180, 1, 21, 79, 58, 5]
abbrev dktX8_ofCompanyNow_7 : List UInt8 := dkwX8_ofCompanyNow_7 ++ dktX8_ofCompanyNow_8
def dkwX8_ofCompanyNow_6 : List UInt8 := [16, 7, 45, 182, 0, 183, 79, 89, 16, 8, 45, 180, 1, 18, 79, 89, 16, 9, 45, 180, 1, 50, 79, 89]
abbrev dktX8_ofCompanyNow_6 : List UInt8 := dkwX8_ofCompanyNow_6 ++ dktX8_ofCompanyNow_7
def dkwX8_ofCompanyNow_5 : List UInt8 := [180, 0, 244, 153, 0, 7, 4, 167, 0, 4, 3, 79, 89, 16, 6, 45, 180, 0, 164, 182, 0, 56, 79, 89]
abbrev dktX8_ofCompanyNow_5 : List UInt8 := dkwX8_ofCompanyNow_5 ++ dktX8_ofCompanyNow_6
def dkwX8_ofCompanyNow_4 : List UInt8 := [89, 5, 45, 180, 0, 176, 79, 89, 6, 45, 180, 0, 158, 79, 89, 7, 45, 180, 1, 24, 79, 89, 8, 45]
abbrev dktX8_ofCompanyNow_4 : List UInt8 := dkwX8_ofCompanyNow_4 ++ dktX8_ofCompanyNow_5
def dkwX8_ofCompanyNow_3 : List UInt8 := [54, 4, 167, 255, 206, 16, 13, 188, 10, 89, 3, 45, 180, 0, 155, 79, 89, 4, 42, 27, 182, 0, 234, 79]
abbrev dktX8_ofCompanyNow_3 : List UInt8 := dkwX8_ofCompanyNow_3 ++ dktX8_ofCompanyNow_4
def dkwX8_ofCompanyNow_2 : List UInt8 := [25, 6, 180, 0, 210, 4, 160, 0, 16, 25, 6, 180, 0, 228, 27, 160, 0, 7, 4, 167, 0, 4, 3, 96]
abbrev dktX8_ofCompanyNow_2 : List UInt8 := dkwX8_ofCompanyNow_2 ++ dktX8_ofCompanyNow_3
def dkwX8_ofCompanyNow_1 : List UInt8 := [25, 5, 185, 0, 199, 1, 0, 153, 0, 46, 25, 5, 185, 0, 204, 1, 0, 192, 0, 208, 58, 6, 21, 4]
abbrev dktX8_ofCompanyNow_1 : List UInt8 := dkwX8_ofCompanyNow_1 ++ dktX8_ofCompanyNow_2
def dkwX8_ofCompanyNow_0 : List UInt8 := [42, 180, 0, 20, 27, 182, 0, 78, 192, 0, 152, 78, 3, 54, 4, 42, 180, 0, 23, 182, 0, 195, 58, 5]
abbrev dktX8_ofCompanyNow_0 : List UInt8 := dkwX8_ofCompanyNow_0 ++ dktX8_ofCompanyNow_1
theorem dksX8_ofCompanyNow_0 : cX8_ofCompanyNow.data.toList.drop 0 = dktX8_ofCompanyNow_0 := by decide +kernel
theorem dksX8_ofCompanyNow_1 : cX8_ofCompanyNow.data.toList.drop 24 = dktX8_ofCompanyNow_1 := dk_seg dksX8_ofCompanyNow_0 24 rfl rfl
theorem dksX8_ofCompanyNow_2 : cX8_ofCompanyNow.data.toList.drop 48 = dktX8_ofCompanyNow_2 := dk_seg dksX8_ofCompanyNow_1 24 rfl rfl
theorem dksX8_ofCompanyNow_3 : cX8_ofCompanyNow.data.toList.drop 72 = dktX8_ofCompanyNow_3 := dk_seg dksX8_ofCompanyNow_2 24 rfl rfl
theorem dksX8_ofCompanyNow_4 : cX8_ofCompanyNow.data.toList.drop 96 = dktX8_ofCompanyNow_4 := dk_seg dksX8_ofCompanyNow_3 24 rfl rfl
theorem dksX8_ofCompanyNow_5 : cX8_ofCompanyNow.data.toList.drop 120 = dktX8_ofCompanyNow_5 := dk_seg dksX8_ofCompanyNow_4 24 rfl rfl
theorem dksX8_ofCompanyNow_6 : cX8_ofCompanyNow.data.toList.drop 144 = dktX8_ofCompanyNow_6 := dk_seg dksX8_ofCompanyNow_5 24 rfl rfl
theorem dksX8_ofCompanyNow_7 : cX8_ofCompanyNow.data.toList.drop 168 = dktX8_ofCompanyNow_7 := dk_seg dksX8_ofCompanyNow_6 24 rfl rfl
theorem dksX8_ofCompanyNow_8 : cX8_ofCompanyNow.data.toList.drop 191 = dktX8_ofCompanyNow_8 := dk_seg dksX8_ofCompanyNow_7 23 rfl rfl
theorem dX8_ofCompanyNow_0 : decode cX8_ofCompanyNow 0 = .ok (.aload_n 0, 1) := dk_42 (dk_at dksX8_ofCompanyNow_0 0 rfl rfl)
theorem dX8_ofCompanyNow_1 : decode cX8_ofCompanyNow 1 = .ok (.getfield 20, 3) := dk_180 0 20 (dk_at dksX8_ofCompanyNow_0 1 rfl rfl)
theorem dX8_ofCompanyNow_4 : decode cX8_ofCompanyNow 4 = .ok (.iload_n 1, 1) := dk_27 (dk_at dksX8_ofCompanyNow_0 4 rfl rfl)
theorem dX8_ofCompanyNow_5 : decode cX8_ofCompanyNow 5 = .ok (.invokevirtual 78, 3) := dk_182 0 78 (dk_at dksX8_ofCompanyNow_0 5 rfl rfl)
theorem dX8_ofCompanyNow_8 : decode cX8_ofCompanyNow 8 = .ok (.checkcast 152, 3) := dk_192 0 152 (dk_at dksX8_ofCompanyNow_0 8 rfl rfl)
theorem dX8_ofCompanyNow_11 : decode cX8_ofCompanyNow 11 = .ok (.astore_n 3, 1) := dk_78 (dk_at dksX8_ofCompanyNow_0 11 rfl rfl)
theorem dX8_ofCompanyNow_12 : decode cX8_ofCompanyNow 12 = .ok (.iconst 0, 1) := dk_3 (dk_at dksX8_ofCompanyNow_0 12 rfl rfl)
theorem dX8_ofCompanyNow_13 : decode cX8_ofCompanyNow 13 = .ok (.istore 4, 2) := dk_54 4 (dk_at dksX8_ofCompanyNow_0 13 rfl rfl)
theorem dX8_ofCompanyNow_15 : decode cX8_ofCompanyNow 15 = .ok (.aload_n 0, 1) := dk_42 (dk_at dksX8_ofCompanyNow_0 15 rfl rfl)
theorem dX8_ofCompanyNow_16 : decode cX8_ofCompanyNow 16 = .ok (.getfield 23, 3) := dk_180 0 23 (dk_at dksX8_ofCompanyNow_0 16 rfl rfl)
theorem dX8_ofCompanyNow_19 : decode cX8_ofCompanyNow 19 = .ok (.invokevirtual 195, 3) := dk_182 0 195 (dk_at dksX8_ofCompanyNow_0 19 rfl rfl)
theorem dX8_ofCompanyNow_22 : decode cX8_ofCompanyNow 22 = .ok (.astore 5, 2) := dk_58 5 (dk_at dksX8_ofCompanyNow_0 22 rfl rfl)
theorem dX8_ofCompanyNow_24 : decode cX8_ofCompanyNow 24 = .ok (.aload 5, 2) := dk_25 5 (dk_at dksX8_ofCompanyNow_1 0 rfl rfl)
theorem dX8_ofCompanyNow_26 : decode cX8_ofCompanyNow 26 = .ok (.invokeinterface 199 1, 5) := by decide +kernel
theorem dX8_ofCompanyNow_31 : decode cX8_ofCompanyNow 31 = .ok (.ifCond .eq 46, 3) := dk_153 0 46 (dk_at dksX8_ofCompanyNow_1 7 rfl rfl)
theorem dX8_ofCompanyNow_34 : decode cX8_ofCompanyNow 34 = .ok (.aload 5, 2) := dk_25 5 (dk_at dksX8_ofCompanyNow_1 10 rfl rfl)
theorem dX8_ofCompanyNow_36 : decode cX8_ofCompanyNow 36 = .ok (.invokeinterface 204 1, 5) := by decide +kernel
theorem dX8_ofCompanyNow_41 : decode cX8_ofCompanyNow 41 = .ok (.checkcast 208, 3) := dk_192 0 208 (dk_at dksX8_ofCompanyNow_1 17 rfl rfl)
theorem dX8_ofCompanyNow_44 : decode cX8_ofCompanyNow 44 = .ok (.astore 6, 2) := dk_58 6 (dk_at dksX8_ofCompanyNow_1 20 rfl rfl)
theorem dX8_ofCompanyNow_46 : decode cX8_ofCompanyNow 46 = .ok (.iload 4, 2) := dk_21 4 (dk_at dksX8_ofCompanyNow_1 22 rfl rfl)
theorem dX8_ofCompanyNow_48 : decode cX8_ofCompanyNow 48 = .ok (.aload 6, 2) := dk_25 6 (dk_at dksX8_ofCompanyNow_2 0 rfl rfl)
theorem dX8_ofCompanyNow_50 : decode cX8_ofCompanyNow 50 = .ok (.getfield 210, 3) := dk_180 0 210 (dk_at dksX8_ofCompanyNow_2 2 rfl rfl)
theorem dX8_ofCompanyNow_53 : decode cX8_ofCompanyNow 53 = .ok (.iconst 1, 1) := dk_4 (dk_at dksX8_ofCompanyNow_2 5 rfl rfl)
theorem dX8_ofCompanyNow_54 : decode cX8_ofCompanyNow 54 = .ok (.if_icmp .ne 16, 3) := dk_160 0 16 (dk_at dksX8_ofCompanyNow_2 6 rfl rfl)
theorem dX8_ofCompanyNow_57 : decode cX8_ofCompanyNow 57 = .ok (.aload 6, 2) := dk_25 6 (dk_at dksX8_ofCompanyNow_2 9 rfl rfl)
theorem dX8_ofCompanyNow_59 : decode cX8_ofCompanyNow 59 = .ok (.getfield 228, 3) := dk_180 0 228 (dk_at dksX8_ofCompanyNow_2 11 rfl rfl)
theorem dX8_ofCompanyNow_62 : decode cX8_ofCompanyNow 62 = .ok (.iload_n 1, 1) := dk_27 (dk_at dksX8_ofCompanyNow_2 14 rfl rfl)
theorem dX8_ofCompanyNow_63 : decode cX8_ofCompanyNow 63 = .ok (.if_icmp .ne 7, 3) := dk_160 0 7 (dk_at dksX8_ofCompanyNow_2 15 rfl rfl)
theorem dX8_ofCompanyNow_66 : decode cX8_ofCompanyNow 66 = .ok (.iconst 1, 1) := dk_4 (dk_at dksX8_ofCompanyNow_2 18 rfl rfl)
theorem dX8_ofCompanyNow_67 : decode cX8_ofCompanyNow 67 = .ok (.goto 4, 3) := dk_167 0 4 (dk_at dksX8_ofCompanyNow_2 19 rfl rfl)
theorem dX8_ofCompanyNow_70 : decode cX8_ofCompanyNow 70 = .ok (.iconst 0, 1) := dk_3 (dk_at dksX8_ofCompanyNow_2 22 rfl rfl)
theorem dX8_ofCompanyNow_71 : decode cX8_ofCompanyNow 71 = .ok (.iadd, 1) := dk_96 (dk_at dksX8_ofCompanyNow_2 23 rfl rfl)
theorem dX8_ofCompanyNow_72 : decode cX8_ofCompanyNow 72 = .ok (.istore 4, 2) := dk_54 4 (dk_at dksX8_ofCompanyNow_3 0 rfl rfl)
theorem dX8_ofCompanyNow_74 : decode cX8_ofCompanyNow 74 = .ok (.goto (-50), 3) := dk_167 255 206 (dk_at dksX8_ofCompanyNow_3 2 rfl rfl)
theorem dX8_ofCompanyNow_77 : decode cX8_ofCompanyNow 77 = .ok (.bipush 13, 2) := dk_16 13 (dk_at dksX8_ofCompanyNow_3 5 rfl rfl)
theorem dX8_ofCompanyNow_79 : decode cX8_ofCompanyNow 79 = .ok (.newarray .int, 2) := dk_188_10 (dk_at dksX8_ofCompanyNow_3 7 rfl rfl)
theorem dX8_ofCompanyNow_81 : decode cX8_ofCompanyNow 81 = .ok (.dup, 1) := dk_89 (dk_at dksX8_ofCompanyNow_3 9 rfl rfl)
theorem dX8_ofCompanyNow_82 : decode cX8_ofCompanyNow 82 = .ok (.iconst 0, 1) := dk_3 (dk_at dksX8_ofCompanyNow_3 10 rfl rfl)
theorem dX8_ofCompanyNow_83 : decode cX8_ofCompanyNow 83 = .ok (.aload_n 3, 1) := dk_45 (dk_at dksX8_ofCompanyNow_3 11 rfl rfl)
theorem dX8_ofCompanyNow_84 : decode cX8_ofCompanyNow 84 = .ok (.getfield 155, 3) := dk_180 0 155 (dk_at dksX8_ofCompanyNow_3 12 rfl rfl)
theorem dX8_ofCompanyNow_87 : decode cX8_ofCompanyNow 87 = .ok (.iastore, 1) := dk_79 (dk_at dksX8_ofCompanyNow_3 15 rfl rfl)
theorem dX8_ofCompanyNow_88 : decode cX8_ofCompanyNow 88 = .ok (.dup, 1) := dk_89 (dk_at dksX8_ofCompanyNow_3 16 rfl rfl)
theorem dX8_ofCompanyNow_89 : decode cX8_ofCompanyNow 89 = .ok (.iconst 1, 1) := dk_4 (dk_at dksX8_ofCompanyNow_3 17 rfl rfl)
theorem dX8_ofCompanyNow_90 : decode cX8_ofCompanyNow 90 = .ok (.aload_n 0, 1) := dk_42 (dk_at dksX8_ofCompanyNow_3 18 rfl rfl)
theorem dX8_ofCompanyNow_91 : decode cX8_ofCompanyNow 91 = .ok (.iload_n 1, 1) := dk_27 (dk_at dksX8_ofCompanyNow_3 19 rfl rfl)
theorem dX8_ofCompanyNow_92 : decode cX8_ofCompanyNow 92 = .ok (.invokevirtual 234, 3) := dk_182 0 234 (dk_at dksX8_ofCompanyNow_3 20 rfl rfl)
theorem dX8_ofCompanyNow_95 : decode cX8_ofCompanyNow 95 = .ok (.iastore, 1) := dk_79 (dk_at dksX8_ofCompanyNow_3 23 rfl rfl)
theorem dX8_ofCompanyNow_96 : decode cX8_ofCompanyNow 96 = .ok (.dup, 1) := dk_89 (dk_at dksX8_ofCompanyNow_4 0 rfl rfl)
theorem dX8_ofCompanyNow_97 : decode cX8_ofCompanyNow 97 = .ok (.iconst 2, 1) := dk_5 (dk_at dksX8_ofCompanyNow_4 1 rfl rfl)
theorem dX8_ofCompanyNow_98 : decode cX8_ofCompanyNow 98 = .ok (.aload_n 3, 1) := dk_45 (dk_at dksX8_ofCompanyNow_4 2 rfl rfl)
theorem dX8_ofCompanyNow_99 : decode cX8_ofCompanyNow 99 = .ok (.getfield 176, 3) := dk_180 0 176 (dk_at dksX8_ofCompanyNow_4 3 rfl rfl)
theorem dX8_ofCompanyNow_102 : decode cX8_ofCompanyNow 102 = .ok (.iastore, 1) := dk_79 (dk_at dksX8_ofCompanyNow_4 6 rfl rfl)
theorem dX8_ofCompanyNow_103 : decode cX8_ofCompanyNow 103 = .ok (.dup, 1) := dk_89 (dk_at dksX8_ofCompanyNow_4 7 rfl rfl)
theorem dX8_ofCompanyNow_104 : decode cX8_ofCompanyNow 104 = .ok (.iconst 3, 1) := dk_6 (dk_at dksX8_ofCompanyNow_4 8 rfl rfl)
theorem dX8_ofCompanyNow_105 : decode cX8_ofCompanyNow 105 = .ok (.aload_n 3, 1) := dk_45 (dk_at dksX8_ofCompanyNow_4 9 rfl rfl)
theorem dX8_ofCompanyNow_106 : decode cX8_ofCompanyNow 106 = .ok (.getfield 158, 3) := dk_180 0 158 (dk_at dksX8_ofCompanyNow_4 10 rfl rfl)
theorem dX8_ofCompanyNow_109 : decode cX8_ofCompanyNow 109 = .ok (.iastore, 1) := dk_79 (dk_at dksX8_ofCompanyNow_4 13 rfl rfl)
theorem dX8_ofCompanyNow_110 : decode cX8_ofCompanyNow 110 = .ok (.dup, 1) := dk_89 (dk_at dksX8_ofCompanyNow_4 14 rfl rfl)
theorem dX8_ofCompanyNow_111 : decode cX8_ofCompanyNow 111 = .ok (.iconst 4, 1) := dk_7 (dk_at dksX8_ofCompanyNow_4 15 rfl rfl)
theorem dX8_ofCompanyNow_112 : decode cX8_ofCompanyNow 112 = .ok (.aload_n 3, 1) := dk_45 (dk_at dksX8_ofCompanyNow_4 16 rfl rfl)
theorem dX8_ofCompanyNow_113 : decode cX8_ofCompanyNow 113 = .ok (.getfield 280, 3) := dk_180 1 24 (dk_at dksX8_ofCompanyNow_4 17 rfl rfl)
theorem dX8_ofCompanyNow_116 : decode cX8_ofCompanyNow 116 = .ok (.iastore, 1) := dk_79 (dk_at dksX8_ofCompanyNow_4 20 rfl rfl)
theorem dX8_ofCompanyNow_117 : decode cX8_ofCompanyNow 117 = .ok (.dup, 1) := dk_89 (dk_at dksX8_ofCompanyNow_4 21 rfl rfl)
theorem dX8_ofCompanyNow_118 : decode cX8_ofCompanyNow 118 = .ok (.iconst 5, 1) := dk_8 (dk_at dksX8_ofCompanyNow_4 22 rfl rfl)
theorem dX8_ofCompanyNow_119 : decode cX8_ofCompanyNow 119 = .ok (.aload_n 3, 1) := dk_45 (dk_at dksX8_ofCompanyNow_4 23 rfl rfl)
theorem dX8_ofCompanyNow_120 : decode cX8_ofCompanyNow 120 = .ok (.getfield 244, 3) := dk_180 0 244 (dk_at dksX8_ofCompanyNow_5 0 rfl rfl)
theorem dX8_ofCompanyNow_123 : decode cX8_ofCompanyNow 123 = .ok (.ifCond .eq 7, 3) := dk_153 0 7 (dk_at dksX8_ofCompanyNow_5 3 rfl rfl)
theorem dX8_ofCompanyNow_126 : decode cX8_ofCompanyNow 126 = .ok (.iconst 1, 1) := dk_4 (dk_at dksX8_ofCompanyNow_5 6 rfl rfl)
theorem dX8_ofCompanyNow_127 : decode cX8_ofCompanyNow 127 = .ok (.goto 4, 3) := dk_167 0 4 (dk_at dksX8_ofCompanyNow_5 7 rfl rfl)
theorem dX8_ofCompanyNow_130 : decode cX8_ofCompanyNow 130 = .ok (.iconst 0, 1) := dk_3 (dk_at dksX8_ofCompanyNow_5 10 rfl rfl)
theorem dX8_ofCompanyNow_131 : decode cX8_ofCompanyNow 131 = .ok (.iastore, 1) := dk_79 (dk_at dksX8_ofCompanyNow_5 11 rfl rfl)
theorem dX8_ofCompanyNow_132 : decode cX8_ofCompanyNow 132 = .ok (.dup, 1) := dk_89 (dk_at dksX8_ofCompanyNow_5 12 rfl rfl)
theorem dX8_ofCompanyNow_133 : decode cX8_ofCompanyNow 133 = .ok (.bipush 6, 2) := dk_16 6 (dk_at dksX8_ofCompanyNow_5 13 rfl rfl)
theorem dX8_ofCompanyNow_135 : decode cX8_ofCompanyNow 135 = .ok (.aload_n 3, 1) := dk_45 (dk_at dksX8_ofCompanyNow_5 15 rfl rfl)
theorem dX8_ofCompanyNow_136 : decode cX8_ofCompanyNow 136 = .ok (.getfield 164, 3) := dk_180 0 164 (dk_at dksX8_ofCompanyNow_5 16 rfl rfl)
theorem dX8_ofCompanyNow_139 : decode cX8_ofCompanyNow 139 = .ok (.invokevirtual 56, 3) := dk_182 0 56 (dk_at dksX8_ofCompanyNow_5 19 rfl rfl)
theorem dX8_ofCompanyNow_142 : decode cX8_ofCompanyNow 142 = .ok (.iastore, 1) := dk_79 (dk_at dksX8_ofCompanyNow_5 22 rfl rfl)
theorem dX8_ofCompanyNow_143 : decode cX8_ofCompanyNow 143 = .ok (.dup, 1) := dk_89 (dk_at dksX8_ofCompanyNow_5 23 rfl rfl)
theorem dX8_ofCompanyNow_144 : decode cX8_ofCompanyNow 144 = .ok (.bipush 7, 2) := dk_16 7 (dk_at dksX8_ofCompanyNow_6 0 rfl rfl)
theorem dX8_ofCompanyNow_146 : decode cX8_ofCompanyNow 146 = .ok (.aload_n 3, 1) := dk_45 (dk_at dksX8_ofCompanyNow_6 2 rfl rfl)
theorem dX8_ofCompanyNow_147 : decode cX8_ofCompanyNow 147 = .ok (.invokevirtual 183, 3) := dk_182 0 183 (dk_at dksX8_ofCompanyNow_6 3 rfl rfl)
theorem dX8_ofCompanyNow_150 : decode cX8_ofCompanyNow 150 = .ok (.iastore, 1) := dk_79 (dk_at dksX8_ofCompanyNow_6 6 rfl rfl)
theorem dX8_ofCompanyNow_151 : decode cX8_ofCompanyNow 151 = .ok (.dup, 1) := dk_89 (dk_at dksX8_ofCompanyNow_6 7 rfl rfl)
theorem dX8_ofCompanyNow_152 : decode cX8_ofCompanyNow 152 = .ok (.bipush 8, 2) := dk_16 8 (dk_at dksX8_ofCompanyNow_6 8 rfl rfl)
theorem dX8_ofCompanyNow_154 : decode cX8_ofCompanyNow 154 = .ok (.aload_n 3, 1) := dk_45 (dk_at dksX8_ofCompanyNow_6 10 rfl rfl)
theorem dX8_ofCompanyNow_155 : decode cX8_ofCompanyNow 155 = .ok (.getfield 274, 3) := dk_180 1 18 (dk_at dksX8_ofCompanyNow_6 11 rfl rfl)
theorem dX8_ofCompanyNow_158 : decode cX8_ofCompanyNow 158 = .ok (.iastore, 1) := dk_79 (dk_at dksX8_ofCompanyNow_6 14 rfl rfl)
theorem dX8_ofCompanyNow_159 : decode cX8_ofCompanyNow 159 = .ok (.dup, 1) := dk_89 (dk_at dksX8_ofCompanyNow_6 15 rfl rfl)
theorem dX8_ofCompanyNow_160 : decode cX8_ofCompanyNow 160 = .ok (.bipush 9, 2) := dk_16 9 (dk_at dksX8_ofCompanyNow_6 16 rfl rfl)
theorem dX8_ofCompanyNow_162 : decode cX8_ofCompanyNow 162 = .ok (.aload_n 3, 1) := dk_45 (dk_at dksX8_ofCompanyNow_6 18 rfl rfl)
theorem dX8_ofCompanyNow_163 : decode cX8_ofCompanyNow 163 = .ok (.getfield 306, 3) := dk_180 1 50 (dk_at dksX8_ofCompanyNow_6 19 rfl rfl)
theorem dX8_ofCompanyNow_166 : decode cX8_ofCompanyNow 166 = .ok (.iastore, 1) := dk_79 (dk_at dksX8_ofCompanyNow_6 22 rfl rfl)
theorem dX8_ofCompanyNow_167 : decode cX8_ofCompanyNow 167 = .ok (.dup, 1) := dk_89 (dk_at dksX8_ofCompanyNow_6 23 rfl rfl)
theorem dX8_ofCompanyNow_168 : decode cX8_ofCompanyNow 168 = .ok (.bipush 10, 2) := dk_16 10 (dk_at dksX8_ofCompanyNow_7 0 rfl rfl)
theorem dX8_ofCompanyNow_170 : decode cX8_ofCompanyNow 170 = .ok (.iload 4, 2) := dk_21 4 (dk_at dksX8_ofCompanyNow_7 2 rfl rfl)
theorem dX8_ofCompanyNow_172 : decode cX8_ofCompanyNow 172 = .ok (.iastore, 1) := dk_79 (dk_at dksX8_ofCompanyNow_7 4 rfl rfl)
theorem dX8_ofCompanyNow_173 : decode cX8_ofCompanyNow 173 = .ok (.dup, 1) := dk_89 (dk_at dksX8_ofCompanyNow_7 5 rfl rfl)
theorem dX8_ofCompanyNow_174 : decode cX8_ofCompanyNow 174 = .ok (.bipush 11, 2) := dk_16 11 (dk_at dksX8_ofCompanyNow_7 6 rfl rfl)
theorem dX8_ofCompanyNow_176 : decode cX8_ofCompanyNow 176 = .ok (.aload_n 3, 1) := dk_45 (dk_at dksX8_ofCompanyNow_7 8 rfl rfl)
theorem dX8_ofCompanyNow_177 : decode cX8_ofCompanyNow 177 = .ok (.getfield 349, 3) := dk_180 1 93 (dk_at dksX8_ofCompanyNow_7 9 rfl rfl)
theorem dX8_ofCompanyNow_180 : decode cX8_ofCompanyNow 180 = .ok (.iastore, 1) := dk_79 (dk_at dksX8_ofCompanyNow_7 12 rfl rfl)
theorem dX8_ofCompanyNow_181 : decode cX8_ofCompanyNow 181 = .ok (.dup, 1) := dk_89 (dk_at dksX8_ofCompanyNow_7 13 rfl rfl)
theorem dX8_ofCompanyNow_182 : decode cX8_ofCompanyNow 182 = .ok (.bipush 12, 2) := dk_16 12 (dk_at dksX8_ofCompanyNow_7 14 rfl rfl)
theorem dX8_ofCompanyNow_184 : decode cX8_ofCompanyNow 184 = .ok (.aload_n 3, 1) := dk_45 (dk_at dksX8_ofCompanyNow_7 16 rfl rfl)
theorem dX8_ofCompanyNow_185 : decode cX8_ofCompanyNow 185 = .ok (.getfield 277, 3) := dk_180 1 21 (dk_at dksX8_ofCompanyNow_7 17 rfl rfl)
theorem dX8_ofCompanyNow_188 : decode cX8_ofCompanyNow 188 = .ok (.iastore, 1) := dk_79 (dk_at dksX8_ofCompanyNow_7 20 rfl rfl)
theorem dX8_ofCompanyNow_189 : decode cX8_ofCompanyNow 189 = .ok (.astore 5, 2) := dk_58 5 (dk_at dksX8_ofCompanyNow_7 21 rfl rfl)
theorem dX8_ofCompanyNow_191 : decode cX8_ofCompanyNow 191 = .ok (.aload 5, 2) := dk_25 5 (dk_at dksX8_ofCompanyNow_8 0 rfl rfl)
theorem dX8_ofCompanyNow_193 : decode cX8_ofCompanyNow 193 = .ok (.iload_n 2, 1) := dk_28 (dk_at dksX8_ofCompanyNow_8 2 rfl rfl)
theorem dX8_ofCompanyNow_194 : decode cX8_ofCompanyNow 194 = .ok (.iaload, 1) := dk_46 (dk_at dksX8_ofCompanyNow_8 3 rfl rfl)
theorem dX8_ofCompanyNow_195 : decode cX8_ofCompanyNow 195 = .ok (.ireturn, 1) := dk_172 (dk_at dksX8_ofCompanyNow_8 4 rfl rfl)
abbrev cX8_partner : ByteArray := prog_19_method_70_code
def yX8_partner : MethodName := ⟨RX8, "partner", "(IIZ)I"⟩
def dkwX8_partner_4 : List UInt8 := [182, 0, 186, 172]
abbrev dktX8_partner_4 : List UInt8 := dkwX8_partner_4 ++ []
def dkwX8_partner_3 : List UInt8 := [167, 0, 17, 42, 180, 0, 20, 27, 182, 0, 78, 192, 0, 152, 180, 0, 164, 28, 182, 0, 78, 192, 0, 168]
abbrev dktX8_partner_3 : List UInt8 := dkwX8_partner_3 ++ dktX8_partner_4
def dkwX8_partner_2 : List UInt8 := [153, 0, 5, 3, 172, 29, 153, 0, 20, 42, 180, 0, 20, 27, 182, 0, 78, 192, 0, 152, 180, 0, 173]
abbrev dktX8_partner_2 : List UInt8 := dkwX8_partner_2 ++ dktX8_partner_3
def dkwX8_partner_1 : List UInt8 := [180, 0, 164, 182, 0, 56, 4, 100, 184, 0, 60, 154, 0, 7, 4, 167, 0, 4, 3, 4, 182, 0, 124]
abbrev dktX8_partner_1 : List UInt8 := dkwX8_partner_1 ++ dktX8_partner_2
def dkwX8_partner_0 : List UInt8 := [42, 42, 27, 182, 0, 161, 154, 0, 30, 28, 3, 42, 180, 0, 20, 27, 182, 0, 78, 192, 0, 152]
abbrev dktX8_partner_0 : List UInt8 := dkwX8_partner_0 ++ dktX8_partner_1
theorem dksX8_partner_0 : cX8_partner.data.toList.drop 0 = dktX8_partner_0 := by decide +kernel
theorem dksX8_partner_1 : cX8_partner.data.toList.drop 22 = dktX8_partner_1 := dk_seg dksX8_partner_0 22 rfl rfl
theorem dksX8_partner_2 : cX8_partner.data.toList.drop 45 = dktX8_partner_2 := dk_seg dksX8_partner_1 23 rfl rfl
theorem dksX8_partner_3 : cX8_partner.data.toList.drop 68 = dktX8_partner_3 := dk_seg dksX8_partner_2 23 rfl rfl
theorem dksX8_partner_4 : cX8_partner.data.toList.drop 92 = dktX8_partner_4 := dk_seg dksX8_partner_3 24 rfl rfl
theorem dX8_partner_0 : decode cX8_partner 0 = .ok (.aload_n 0, 1) := dk_42 (dk_at dksX8_partner_0 0 rfl rfl)
theorem dX8_partner_1 : decode cX8_partner 1 = .ok (.aload_n 0, 1) := dk_42 (dk_at dksX8_partner_0 1 rfl rfl)
theorem dX8_partner_2 : decode cX8_partner 2 = .ok (.iload_n 1, 1) := dk_27 (dk_at dksX8_partner_0 2 rfl rfl)
theorem dX8_partner_3 : decode cX8_partner 3 = .ok (.invokevirtual 161, 3) := dk_182 0 161 (dk_at dksX8_partner_0 3 rfl rfl)
theorem dX8_partner_6 : decode cX8_partner 6 = .ok (.ifCond .ne 30, 3) := dk_154 0 30 (dk_at dksX8_partner_0 6 rfl rfl)
theorem dX8_partner_9 : decode cX8_partner 9 = .ok (.iload_n 2, 1) := dk_28 (dk_at dksX8_partner_0 9 rfl rfl)
theorem dX8_partner_10 : decode cX8_partner 10 = .ok (.iconst 0, 1) := dk_3 (dk_at dksX8_partner_0 10 rfl rfl)
theorem dX8_partner_11 : decode cX8_partner 11 = .ok (.aload_n 0, 1) := dk_42 (dk_at dksX8_partner_0 11 rfl rfl)
theorem dX8_partner_12 : decode cX8_partner 12 = .ok (.getfield 20, 3) := dk_180 0 20 (dk_at dksX8_partner_0 12 rfl rfl)
theorem dX8_partner_15 : decode cX8_partner 15 = .ok (.iload_n 1, 1) := dk_27 (dk_at dksX8_partner_0 15 rfl rfl)
theorem dX8_partner_16 : decode cX8_partner 16 = .ok (.invokevirtual 78, 3) := dk_182 0 78 (dk_at dksX8_partner_0 16 rfl rfl)
theorem dX8_partner_19 : decode cX8_partner 19 = .ok (.checkcast 152, 3) := dk_192 0 152 (dk_at dksX8_partner_0 19 rfl rfl)
theorem dX8_partner_22 : decode cX8_partner 22 = .ok (.getfield 164, 3) := dk_180 0 164 (dk_at dksX8_partner_1 0 rfl rfl)
theorem dX8_partner_25 : decode cX8_partner 25 = .ok (.invokevirtual 56, 3) := dk_182 0 56 (dk_at dksX8_partner_1 3 rfl rfl)
theorem dX8_partner_28 : decode cX8_partner 28 = .ok (.iconst 1, 1) := dk_4 (dk_at dksX8_partner_1 6 rfl rfl)
theorem dX8_partner_29 : decode cX8_partner 29 = .ok (.isub, 1) := dk_100 (dk_at dksX8_partner_1 7 rfl rfl)
theorem dX8_partner_30 : decode cX8_partner 30 = .ok (.invokestatic 60, 3) := dk_184 0 60 (dk_at dksX8_partner_1 8 rfl rfl)
theorem dX8_partner_33 : decode cX8_partner 33 = .ok (.ifCond .ne 7, 3) := dk_154 0 7 (dk_at dksX8_partner_1 11 rfl rfl)
theorem dX8_partner_36 : decode cX8_partner 36 = .ok (.iconst 1, 1) := dk_4 (dk_at dksX8_partner_1 14 rfl rfl)
theorem dX8_partner_37 : decode cX8_partner 37 = .ok (.goto 4, 3) := dk_167 0 4 (dk_at dksX8_partner_1 15 rfl rfl)
theorem dX8_partner_40 : decode cX8_partner 40 = .ok (.iconst 0, 1) := dk_3 (dk_at dksX8_partner_1 18 rfl rfl)
theorem dX8_partner_41 : decode cX8_partner 41 = .ok (.iconst 1, 1) := dk_4 (dk_at dksX8_partner_1 19 rfl rfl)
theorem dX8_partner_42 : decode cX8_partner 42 = .ok (.invokevirtual 124, 3) := dk_182 0 124 (dk_at dksX8_partner_1 20 rfl rfl)
theorem dX8_partner_45 : decode cX8_partner 45 = .ok (.ifCond .eq 5, 3) := dk_153 0 5 (dk_at dksX8_partner_2 0 rfl rfl)
theorem dX8_partner_48 : decode cX8_partner 48 = .ok (.iconst 0, 1) := dk_3 (dk_at dksX8_partner_2 3 rfl rfl)
theorem dX8_partner_49 : decode cX8_partner 49 = .ok (.ireturn, 1) := dk_172 (dk_at dksX8_partner_2 4 rfl rfl)
theorem dX8_partner_50 : decode cX8_partner 50 = .ok (.iload_n 3, 1) := dk_29 (dk_at dksX8_partner_2 5 rfl rfl)
theorem dX8_partner_51 : decode cX8_partner 51 = .ok (.ifCond .eq 20, 3) := dk_153 0 20 (dk_at dksX8_partner_2 6 rfl rfl)
theorem dX8_partner_54 : decode cX8_partner 54 = .ok (.aload_n 0, 1) := dk_42 (dk_at dksX8_partner_2 9 rfl rfl)
theorem dX8_partner_55 : decode cX8_partner 55 = .ok (.getfield 20, 3) := dk_180 0 20 (dk_at dksX8_partner_2 10 rfl rfl)
theorem dX8_partner_58 : decode cX8_partner 58 = .ok (.iload_n 1, 1) := dk_27 (dk_at dksX8_partner_2 13 rfl rfl)
theorem dX8_partner_59 : decode cX8_partner 59 = .ok (.invokevirtual 78, 3) := dk_182 0 78 (dk_at dksX8_partner_2 14 rfl rfl)
theorem dX8_partner_62 : decode cX8_partner 62 = .ok (.checkcast 152, 3) := dk_192 0 152 (dk_at dksX8_partner_2 17 rfl rfl)
theorem dX8_partner_65 : decode cX8_partner 65 = .ok (.getfield 173, 3) := dk_180 0 173 (dk_at dksX8_partner_2 20 rfl rfl)
theorem dX8_partner_68 : decode cX8_partner 68 = .ok (.goto 17, 3) := dk_167 0 17 (dk_at dksX8_partner_3 0 rfl rfl)
theorem dX8_partner_71 : decode cX8_partner 71 = .ok (.aload_n 0, 1) := dk_42 (dk_at dksX8_partner_3 3 rfl rfl)
theorem dX8_partner_72 : decode cX8_partner 72 = .ok (.getfield 20, 3) := dk_180 0 20 (dk_at dksX8_partner_3 4 rfl rfl)
theorem dX8_partner_75 : decode cX8_partner 75 = .ok (.iload_n 1, 1) := dk_27 (dk_at dksX8_partner_3 7 rfl rfl)
theorem dX8_partner_76 : decode cX8_partner 76 = .ok (.invokevirtual 78, 3) := dk_182 0 78 (dk_at dksX8_partner_3 8 rfl rfl)
theorem dX8_partner_79 : decode cX8_partner 79 = .ok (.checkcast 152, 3) := dk_192 0 152 (dk_at dksX8_partner_3 11 rfl rfl)
theorem dX8_partner_82 : decode cX8_partner 82 = .ok (.getfield 164, 3) := dk_180 0 164 (dk_at dksX8_partner_3 14 rfl rfl)
theorem dX8_partner_85 : decode cX8_partner 85 = .ok (.iload_n 2, 1) := dk_28 (dk_at dksX8_partner_3 17 rfl rfl)
theorem dX8_partner_86 : decode cX8_partner 86 = .ok (.invokevirtual 78, 3) := dk_182 0 78 (dk_at dksX8_partner_3 18 rfl rfl)
theorem dX8_partner_89 : decode cX8_partner 89 = .ok (.checkcast 168, 3) := dk_192 0 168 (dk_at dksX8_partner_3 21 rfl rfl)
theorem dX8_partner_92 : decode cX8_partner 92 = .ok (.invokevirtual 186, 3) := dk_182 0 186 (dk_at dksX8_partner_4 0 rfl rfl)
theorem dX8_partner_95 : decode cX8_partner 95 = .ok (.ireturn, 1) := dk_172 (dk_at dksX8_partner_4 3 rfl rfl)
abbrev cX8_ofLot : ByteArray := prog_19_method_72_code
def yX8_ofLot : MethodName := ⟨RX8, "ofLot", "(II)I"⟩
def dkwX8_ofLot_2 : List UInt8 := [182, 0, 78, 192, 0, 208, 28, 182, 1, 142, 172]
abbrev dktX8_ofLot_2 : List UInt8 := dkwX8_ofLot_2 ++ []
def dkwX8_ofLot_1 : List UInt8 := [4, 167, 0, 4, 3, 5, 182, 0, 52, 153, 0, 7, 3, 167, 0, 19, 42, 42, 180, 0, 23, 27]
abbrev dktX8_ofLot_1 : List UInt8 := dkwX8_ofLot_1 ++ dktX8_ofLot_2
def dkwX8_ofLot_0 : List UInt8 := [42, 42, 27, 182, 0, 241, 4, 182, 0, 124, 154, 0, 26, 42, 28, 3, 16, 11, 184, 0, 60, 154, 0, 7]
abbrev dktX8_ofLot_0 : List UInt8 := dkwX8_ofLot_0 ++ dktX8_ofLot_1
theorem dksX8_ofLot_0 : cX8_ofLot.data.toList.drop 0 = dktX8_ofLot_0 := by decide +kernel
theorem dksX8_ofLot_1 : cX8_ofLot.data.toList.drop 24 = dktX8_ofLot_1 := dk_seg dksX8_ofLot_0 24 rfl rfl
theorem dksX8_ofLot_2 : cX8_ofLot.data.toList.drop 46 = dktX8_ofLot_2 := dk_seg dksX8_ofLot_1 22 rfl rfl
theorem dX8_ofLot_0 : decode cX8_ofLot 0 = .ok (.aload_n 0, 1) := dk_42 (dk_at dksX8_ofLot_0 0 rfl rfl)
theorem dX8_ofLot_1 : decode cX8_ofLot 1 = .ok (.aload_n 0, 1) := dk_42 (dk_at dksX8_ofLot_0 1 rfl rfl)
theorem dX8_ofLot_2 : decode cX8_ofLot 2 = .ok (.iload_n 1, 1) := dk_27 (dk_at dksX8_ofLot_0 2 rfl rfl)
theorem dX8_ofLot_3 : decode cX8_ofLot 3 = .ok (.invokevirtual 241, 3) := dk_182 0 241 (dk_at dksX8_ofLot_0 3 rfl rfl)
theorem dX8_ofLot_6 : decode cX8_ofLot 6 = .ok (.iconst 1, 1) := dk_4 (dk_at dksX8_ofLot_0 6 rfl rfl)
theorem dX8_ofLot_7 : decode cX8_ofLot 7 = .ok (.invokevirtual 124, 3) := dk_182 0 124 (dk_at dksX8_ofLot_0 7 rfl rfl)
theorem dX8_ofLot_10 : decode cX8_ofLot 10 = .ok (.ifCond .ne 26, 3) := dk_154 0 26 (dk_at dksX8_ofLot_0 10 rfl rfl)
theorem dX8_ofLot_13 : decode cX8_ofLot 13 = .ok (.aload_n 0, 1) := dk_42 (dk_at dksX8_ofLot_0 13 rfl rfl)
theorem dX8_ofLot_14 : decode cX8_ofLot 14 = .ok (.iload_n 2, 1) := dk_28 (dk_at dksX8_ofLot_0 14 rfl rfl)
theorem dX8_ofLot_15 : decode cX8_ofLot 15 = .ok (.iconst 0, 1) := dk_3 (dk_at dksX8_ofLot_0 15 rfl rfl)
theorem dX8_ofLot_16 : decode cX8_ofLot 16 = .ok (.bipush 11, 2) := dk_16 11 (dk_at dksX8_ofLot_0 16 rfl rfl)
theorem dX8_ofLot_18 : decode cX8_ofLot 18 = .ok (.invokestatic 60, 3) := dk_184 0 60 (dk_at dksX8_ofLot_0 18 rfl rfl)
theorem dX8_ofLot_21 : decode cX8_ofLot 21 = .ok (.ifCond .ne 7, 3) := dk_154 0 7 (dk_at dksX8_ofLot_0 21 rfl rfl)
theorem dX8_ofLot_24 : decode cX8_ofLot 24 = .ok (.iconst 1, 1) := dk_4 (dk_at dksX8_ofLot_1 0 rfl rfl)
theorem dX8_ofLot_25 : decode cX8_ofLot 25 = .ok (.goto 4, 3) := dk_167 0 4 (dk_at dksX8_ofLot_1 1 rfl rfl)
theorem dX8_ofLot_28 : decode cX8_ofLot 28 = .ok (.iconst 0, 1) := dk_3 (dk_at dksX8_ofLot_1 4 rfl rfl)
theorem dX8_ofLot_29 : decode cX8_ofLot 29 = .ok (.iconst 2, 1) := dk_5 (dk_at dksX8_ofLot_1 5 rfl rfl)
theorem dX8_ofLot_30 : decode cX8_ofLot 30 = .ok (.invokevirtual 52, 3) := dk_182 0 52 (dk_at dksX8_ofLot_1 6 rfl rfl)
theorem dX8_ofLot_33 : decode cX8_ofLot 33 = .ok (.ifCond .eq 7, 3) := dk_153 0 7 (dk_at dksX8_ofLot_1 9 rfl rfl)
theorem dX8_ofLot_36 : decode cX8_ofLot 36 = .ok (.iconst 0, 1) := dk_3 (dk_at dksX8_ofLot_1 12 rfl rfl)
theorem dX8_ofLot_37 : decode cX8_ofLot 37 = .ok (.goto 19, 3) := dk_167 0 19 (dk_at dksX8_ofLot_1 13 rfl rfl)
theorem dX8_ofLot_40 : decode cX8_ofLot 40 = .ok (.aload_n 0, 1) := dk_42 (dk_at dksX8_ofLot_1 16 rfl rfl)
theorem dX8_ofLot_41 : decode cX8_ofLot 41 = .ok (.aload_n 0, 1) := dk_42 (dk_at dksX8_ofLot_1 17 rfl rfl)
theorem dX8_ofLot_42 : decode cX8_ofLot 42 = .ok (.getfield 23, 3) := dk_180 0 23 (dk_at dksX8_ofLot_1 18 rfl rfl)
theorem dX8_ofLot_45 : decode cX8_ofLot 45 = .ok (.iload_n 1, 1) := dk_27 (dk_at dksX8_ofLot_1 21 rfl rfl)
theorem dX8_ofLot_46 : decode cX8_ofLot 46 = .ok (.invokevirtual 78, 3) := dk_182 0 78 (dk_at dksX8_ofLot_2 0 rfl rfl)
theorem dX8_ofLot_49 : decode cX8_ofLot 49 = .ok (.checkcast 208, 3) := dk_192 0 208 (dk_at dksX8_ofLot_2 3 rfl rfl)
theorem dX8_ofLot_52 : decode cX8_ofLot 52 = .ok (.iload_n 2, 1) := dk_28 (dk_at dksX8_ofLot_2 6 rfl rfl)
theorem dX8_ofLot_53 : decode cX8_ofLot 53 = .ok (.invokevirtual 398, 3) := dk_182 1 142 (dk_at dksX8_ofLot_2 7 rfl rfl)
theorem dX8_ofLot_56 : decode cX8_ofLot 56 = .ok (.ireturn, 1) := dk_172 (dk_at dksX8_ofLot_2 10 rfl rfl)
abbrev cX8_ofLotNow : ByteArray := prog_19_method_71_code
def yX8_ofLotNow : MethodName := ⟨RX8, "ofLotNow", "(LPublicanryModel$Lot;I)I"⟩
def dkwX8_ofLotNow_4 : List UInt8 := [184, 1, 30, 79, 89, 16, 11, 43, 180, 1, 13, 79, 78, 45, 28, 46, 172]
abbrev dktX8_ofLotNow_4 : List UInt8 := dkwX8_ofLotNow_4 ++ []
def dkwX8_ofLotNow_3 : List UInt8 := [160, 0, 10, 43, 180, 1, 6, 167, 0, 4, 3, 79, 89, 16, 9, 43, 180, 1, 15, 79, 89, 16, 10, 43]
abbrev dktX8_ofLotNow_3 : List UInt8 := dkwX8_ofLotNow_3 ++ dktX8_ofLotNow_4
def dkwX8_ofLotNow_2 : List UInt8 := [16, 6, 43, 180, 0, 228, 79, 89, 16, 7, 43, 180, 0, 231, 79, 89, 16, 8, 43, 180, 0, 210, 4]
abbrev dktX8_ofLotNow_2 : List UInt8 := dkwX8_ofLotNow_2 ++ dktX8_ofLotNow_3
def dkwX8_ofLotNow_1 : List UInt8 := [79, 89, 6, 43, 180, 0, 225, 79, 89, 7, 43, 180, 0, 210, 79, 89, 8, 43, 184, 0, 250, 79, 89]
abbrev dktX8_ofLotNow_1 : List UInt8 := dkwX8_ofLotNow_1 ++ dktX8_ofLotNow_2
def dkwX8_ofLotNow_0 : List UInt8 := [16, 12, 188, 10, 89, 3, 43, 180, 0, 213, 79, 89, 4, 43, 180, 0, 216, 79, 89, 5, 43, 180, 0, 222]
abbrev dktX8_ofLotNow_0 : List UInt8 := dkwX8_ofLotNow_0 ++ dktX8_ofLotNow_1
theorem dksX8_ofLotNow_0 : cX8_ofLotNow.data.toList.drop 0 = dktX8_ofLotNow_0 := by decide +kernel
theorem dksX8_ofLotNow_1 : cX8_ofLotNow.data.toList.drop 24 = dktX8_ofLotNow_1 := dk_seg dksX8_ofLotNow_0 24 rfl rfl
theorem dksX8_ofLotNow_2 : cX8_ofLotNow.data.toList.drop 47 = dktX8_ofLotNow_2 := dk_seg dksX8_ofLotNow_1 23 rfl rfl
theorem dksX8_ofLotNow_3 : cX8_ofLotNow.data.toList.drop 70 = dktX8_ofLotNow_3 := dk_seg dksX8_ofLotNow_2 23 rfl rfl
theorem dksX8_ofLotNow_4 : cX8_ofLotNow.data.toList.drop 94 = dktX8_ofLotNow_4 := dk_seg dksX8_ofLotNow_3 24 rfl rfl
theorem dX8_ofLotNow_0 : decode cX8_ofLotNow 0 = .ok (.bipush 12, 2) := dk_16 12 (dk_at dksX8_ofLotNow_0 0 rfl rfl)
theorem dX8_ofLotNow_2 : decode cX8_ofLotNow 2 = .ok (.newarray .int, 2) := dk_188_10 (dk_at dksX8_ofLotNow_0 2 rfl rfl)
theorem dX8_ofLotNow_4 : decode cX8_ofLotNow 4 = .ok (.dup, 1) := dk_89 (dk_at dksX8_ofLotNow_0 4 rfl rfl)
theorem dX8_ofLotNow_5 : decode cX8_ofLotNow 5 = .ok (.iconst 0, 1) := dk_3 (dk_at dksX8_ofLotNow_0 5 rfl rfl)
theorem dX8_ofLotNow_6 : decode cX8_ofLotNow 6 = .ok (.aload_n 1, 1) := dk_43 (dk_at dksX8_ofLotNow_0 6 rfl rfl)
theorem dX8_ofLotNow_7 : decode cX8_ofLotNow 7 = .ok (.getfield 213, 3) := dk_180 0 213 (dk_at dksX8_ofLotNow_0 7 rfl rfl)
theorem dX8_ofLotNow_10 : decode cX8_ofLotNow 10 = .ok (.iastore, 1) := dk_79 (dk_at dksX8_ofLotNow_0 10 rfl rfl)
theorem dX8_ofLotNow_11 : decode cX8_ofLotNow 11 = .ok (.dup, 1) := dk_89 (dk_at dksX8_ofLotNow_0 11 rfl rfl)
theorem dX8_ofLotNow_12 : decode cX8_ofLotNow 12 = .ok (.iconst 1, 1) := dk_4 (dk_at dksX8_ofLotNow_0 12 rfl rfl)
theorem dX8_ofLotNow_13 : decode cX8_ofLotNow 13 = .ok (.aload_n 1, 1) := dk_43 (dk_at dksX8_ofLotNow_0 13 rfl rfl)
theorem dX8_ofLotNow_14 : decode cX8_ofLotNow 14 = .ok (.getfield 216, 3) := dk_180 0 216 (dk_at dksX8_ofLotNow_0 14 rfl rfl)
theorem dX8_ofLotNow_17 : decode cX8_ofLotNow 17 = .ok (.iastore, 1) := dk_79 (dk_at dksX8_ofLotNow_0 17 rfl rfl)
theorem dX8_ofLotNow_18 : decode cX8_ofLotNow 18 = .ok (.dup, 1) := dk_89 (dk_at dksX8_ofLotNow_0 18 rfl rfl)
theorem dX8_ofLotNow_19 : decode cX8_ofLotNow 19 = .ok (.iconst 2, 1) := dk_5 (dk_at dksX8_ofLotNow_0 19 rfl rfl)
theorem dX8_ofLotNow_20 : decode cX8_ofLotNow 20 = .ok (.aload_n 1, 1) := dk_43 (dk_at dksX8_ofLotNow_0 20 rfl rfl)
theorem dX8_ofLotNow_21 : decode cX8_ofLotNow 21 = .ok (.getfield 222, 3) := dk_180 0 222 (dk_at dksX8_ofLotNow_0 21 rfl rfl)
theorem dX8_ofLotNow_24 : decode cX8_ofLotNow 24 = .ok (.iastore, 1) := dk_79 (dk_at dksX8_ofLotNow_1 0 rfl rfl)
theorem dX8_ofLotNow_25 : decode cX8_ofLotNow 25 = .ok (.dup, 1) := dk_89 (dk_at dksX8_ofLotNow_1 1 rfl rfl)
theorem dX8_ofLotNow_26 : decode cX8_ofLotNow 26 = .ok (.iconst 3, 1) := dk_6 (dk_at dksX8_ofLotNow_1 2 rfl rfl)
theorem dX8_ofLotNow_27 : decode cX8_ofLotNow 27 = .ok (.aload_n 1, 1) := dk_43 (dk_at dksX8_ofLotNow_1 3 rfl rfl)
theorem dX8_ofLotNow_28 : decode cX8_ofLotNow 28 = .ok (.getfield 225, 3) := dk_180 0 225 (dk_at dksX8_ofLotNow_1 4 rfl rfl)
theorem dX8_ofLotNow_31 : decode cX8_ofLotNow 31 = .ok (.iastore, 1) := dk_79 (dk_at dksX8_ofLotNow_1 7 rfl rfl)
theorem dX8_ofLotNow_32 : decode cX8_ofLotNow 32 = .ok (.dup, 1) := dk_89 (dk_at dksX8_ofLotNow_1 8 rfl rfl)
theorem dX8_ofLotNow_33 : decode cX8_ofLotNow 33 = .ok (.iconst 4, 1) := dk_7 (dk_at dksX8_ofLotNow_1 9 rfl rfl)
theorem dX8_ofLotNow_34 : decode cX8_ofLotNow 34 = .ok (.aload_n 1, 1) := dk_43 (dk_at dksX8_ofLotNow_1 10 rfl rfl)
theorem dX8_ofLotNow_35 : decode cX8_ofLotNow 35 = .ok (.getfield 210, 3) := dk_180 0 210 (dk_at dksX8_ofLotNow_1 11 rfl rfl)
theorem dX8_ofLotNow_38 : decode cX8_ofLotNow 38 = .ok (.iastore, 1) := dk_79 (dk_at dksX8_ofLotNow_1 14 rfl rfl)
theorem dX8_ofLotNow_39 : decode cX8_ofLotNow 39 = .ok (.dup, 1) := dk_89 (dk_at dksX8_ofLotNow_1 15 rfl rfl)
theorem dX8_ofLotNow_40 : decode cX8_ofLotNow 40 = .ok (.iconst 5, 1) := dk_8 (dk_at dksX8_ofLotNow_1 16 rfl rfl)
theorem dX8_ofLotNow_41 : decode cX8_ofLotNow 41 = .ok (.aload_n 1, 1) := dk_43 (dk_at dksX8_ofLotNow_1 17 rfl rfl)
theorem dX8_ofLotNow_42 : decode cX8_ofLotNow 42 = .ok (.invokestatic 250, 3) := dk_184 0 250 (dk_at dksX8_ofLotNow_1 18 rfl rfl)
theorem dX8_ofLotNow_45 : decode cX8_ofLotNow 45 = .ok (.iastore, 1) := dk_79 (dk_at dksX8_ofLotNow_1 21 rfl rfl)
theorem dX8_ofLotNow_46 : decode cX8_ofLotNow 46 = .ok (.dup, 1) := dk_89 (dk_at dksX8_ofLotNow_1 22 rfl rfl)
theorem dX8_ofLotNow_47 : decode cX8_ofLotNow 47 = .ok (.bipush 6, 2) := dk_16 6 (dk_at dksX8_ofLotNow_2 0 rfl rfl)
theorem dX8_ofLotNow_49 : decode cX8_ofLotNow 49 = .ok (.aload_n 1, 1) := dk_43 (dk_at dksX8_ofLotNow_2 2 rfl rfl)
theorem dX8_ofLotNow_50 : decode cX8_ofLotNow 50 = .ok (.getfield 228, 3) := dk_180 0 228 (dk_at dksX8_ofLotNow_2 3 rfl rfl)
theorem dX8_ofLotNow_53 : decode cX8_ofLotNow 53 = .ok (.iastore, 1) := dk_79 (dk_at dksX8_ofLotNow_2 6 rfl rfl)
theorem dX8_ofLotNow_54 : decode cX8_ofLotNow 54 = .ok (.dup, 1) := dk_89 (dk_at dksX8_ofLotNow_2 7 rfl rfl)
theorem dX8_ofLotNow_55 : decode cX8_ofLotNow 55 = .ok (.bipush 7, 2) := dk_16 7 (dk_at dksX8_ofLotNow_2 8 rfl rfl)
theorem dX8_ofLotNow_57 : decode cX8_ofLotNow 57 = .ok (.aload_n 1, 1) := dk_43 (dk_at dksX8_ofLotNow_2 10 rfl rfl)
theorem dX8_ofLotNow_58 : decode cX8_ofLotNow 58 = .ok (.getfield 231, 3) := dk_180 0 231 (dk_at dksX8_ofLotNow_2 11 rfl rfl)
theorem dX8_ofLotNow_61 : decode cX8_ofLotNow 61 = .ok (.iastore, 1) := dk_79 (dk_at dksX8_ofLotNow_2 14 rfl rfl)
theorem dX8_ofLotNow_62 : decode cX8_ofLotNow 62 = .ok (.dup, 1) := dk_89 (dk_at dksX8_ofLotNow_2 15 rfl rfl)
theorem dX8_ofLotNow_63 : decode cX8_ofLotNow 63 = .ok (.bipush 8, 2) := dk_16 8 (dk_at dksX8_ofLotNow_2 16 rfl rfl)
theorem dX8_ofLotNow_65 : decode cX8_ofLotNow 65 = .ok (.aload_n 1, 1) := dk_43 (dk_at dksX8_ofLotNow_2 18 rfl rfl)
theorem dX8_ofLotNow_66 : decode cX8_ofLotNow 66 = .ok (.getfield 210, 3) := dk_180 0 210 (dk_at dksX8_ofLotNow_2 19 rfl rfl)
theorem dX8_ofLotNow_69 : decode cX8_ofLotNow 69 = .ok (.iconst 1, 1) := dk_4 (dk_at dksX8_ofLotNow_2 22 rfl rfl)
theorem dX8_ofLotNow_70 : decode cX8_ofLotNow 70 = .ok (.if_icmp .ne 10, 3) := dk_160 0 10 (dk_at dksX8_ofLotNow_3 0 rfl rfl)
theorem dX8_ofLotNow_73 : decode cX8_ofLotNow 73 = .ok (.aload_n 1, 1) := dk_43 (dk_at dksX8_ofLotNow_3 3 rfl rfl)
theorem dX8_ofLotNow_74 : decode cX8_ofLotNow 74 = .ok (.getfield 262, 3) := dk_180 1 6 (dk_at dksX8_ofLotNow_3 4 rfl rfl)
theorem dX8_ofLotNow_77 : decode cX8_ofLotNow 77 = .ok (.goto 4, 3) := dk_167 0 4 (dk_at dksX8_ofLotNow_3 7 rfl rfl)
theorem dX8_ofLotNow_80 : decode cX8_ofLotNow 80 = .ok (.iconst 0, 1) := dk_3 (dk_at dksX8_ofLotNow_3 10 rfl rfl)
theorem dX8_ofLotNow_81 : decode cX8_ofLotNow 81 = .ok (.iastore, 1) := dk_79 (dk_at dksX8_ofLotNow_3 11 rfl rfl)
theorem dX8_ofLotNow_82 : decode cX8_ofLotNow 82 = .ok (.dup, 1) := dk_89 (dk_at dksX8_ofLotNow_3 12 rfl rfl)
theorem dX8_ofLotNow_83 : decode cX8_ofLotNow 83 = .ok (.bipush 9, 2) := dk_16 9 (dk_at dksX8_ofLotNow_3 13 rfl rfl)
theorem dX8_ofLotNow_85 : decode cX8_ofLotNow 85 = .ok (.aload_n 1, 1) := dk_43 (dk_at dksX8_ofLotNow_3 15 rfl rfl)
theorem dX8_ofLotNow_86 : decode cX8_ofLotNow 86 = .ok (.getfield 271, 3) := dk_180 1 15 (dk_at dksX8_ofLotNow_3 16 rfl rfl)
theorem dX8_ofLotNow_89 : decode cX8_ofLotNow 89 = .ok (.iastore, 1) := dk_79 (dk_at dksX8_ofLotNow_3 19 rfl rfl)
theorem dX8_ofLotNow_90 : decode cX8_ofLotNow 90 = .ok (.dup, 1) := dk_89 (dk_at dksX8_ofLotNow_3 20 rfl rfl)
theorem dX8_ofLotNow_91 : decode cX8_ofLotNow 91 = .ok (.bipush 10, 2) := dk_16 10 (dk_at dksX8_ofLotNow_3 21 rfl rfl)
theorem dX8_ofLotNow_93 : decode cX8_ofLotNow 93 = .ok (.aload_n 1, 1) := dk_43 (dk_at dksX8_ofLotNow_3 23 rfl rfl)
theorem dX8_ofLotNow_94 : decode cX8_ofLotNow 94 = .ok (.invokestatic 286, 3) := dk_184 1 30 (dk_at dksX8_ofLotNow_4 0 rfl rfl)
theorem dX8_ofLotNow_97 : decode cX8_ofLotNow 97 = .ok (.iastore, 1) := dk_79 (dk_at dksX8_ofLotNow_4 3 rfl rfl)
theorem dX8_ofLotNow_98 : decode cX8_ofLotNow 98 = .ok (.dup, 1) := dk_89 (dk_at dksX8_ofLotNow_4 4 rfl rfl)
theorem dX8_ofLotNow_99 : decode cX8_ofLotNow 99 = .ok (.bipush 11, 2) := dk_16 11 (dk_at dksX8_ofLotNow_4 5 rfl rfl)
theorem dX8_ofLotNow_101 : decode cX8_ofLotNow 101 = .ok (.aload_n 1, 1) := dk_43 (dk_at dksX8_ofLotNow_4 7 rfl rfl)
theorem dX8_ofLotNow_102 : decode cX8_ofLotNow 102 = .ok (.getfield 269, 3) := dk_180 1 13 (dk_at dksX8_ofLotNow_4 8 rfl rfl)
theorem dX8_ofLotNow_105 : decode cX8_ofLotNow 105 = .ok (.iastore, 1) := dk_79 (dk_at dksX8_ofLotNow_4 11 rfl rfl)
theorem dX8_ofLotNow_106 : decode cX8_ofLotNow 106 = .ok (.astore_n 3, 1) := dk_78 (dk_at dksX8_ofLotNow_4 12 rfl rfl)
theorem dX8_ofLotNow_107 : decode cX8_ofLotNow 107 = .ok (.aload_n 3, 1) := dk_45 (dk_at dksX8_ofLotNow_4 13 rfl rfl)
theorem dX8_ofLotNow_108 : decode cX8_ofLotNow 108 = .ok (.iload_n 2, 1) := dk_28 (dk_at dksX8_ofLotNow_4 14 rfl rfl)
theorem dX8_ofLotNow_109 : decode cX8_ofLotNow 109 = .ok (.iaload, 1) := dk_46 (dk_at dksX8_ofLotNow_4 15 rfl rfl)
theorem dX8_ofLotNow_110 : decode cX8_ofLotNow 110 = .ok (.ireturn, 1) := dk_172 (dk_at dksX8_ofLotNow_4 16 rfl rfl)
abbrev cX8_land : ByteArray := prog_19_method_74_code
def yX8_land : MethodName := ⟨RX8, "land", "(I)I"⟩
def dkwX8_land_1 : List UInt8 := [167, 0, 8, 42, 27, 182, 1, 145, 172]
abbrev dktX8_land_1 : List UInt8 := dkwX8_land_1 ++ []
def dkwX8_land_0 : List UInt8 := [42, 27, 3, 16, 16, 184, 0, 60, 154, 0, 7, 4, 167, 0, 4, 3, 4, 182, 0, 124, 153, 0, 7, 3]
abbrev dktX8_land_0 : List UInt8 := dkwX8_land_0 ++ dktX8_land_1
theorem dksX8_land_0 : cX8_land.data.toList.drop 0 = dktX8_land_0 := by decide +kernel
theorem dksX8_land_1 : cX8_land.data.toList.drop 24 = dktX8_land_1 := dk_seg dksX8_land_0 24 rfl rfl
theorem dX8_land_0 : decode cX8_land 0 = .ok (.aload_n 0, 1) := dk_42 (dk_at dksX8_land_0 0 rfl rfl)
theorem dX8_land_1 : decode cX8_land 1 = .ok (.iload_n 1, 1) := dk_27 (dk_at dksX8_land_0 1 rfl rfl)
theorem dX8_land_2 : decode cX8_land 2 = .ok (.iconst 0, 1) := dk_3 (dk_at dksX8_land_0 2 rfl rfl)
theorem dX8_land_3 : decode cX8_land 3 = .ok (.bipush 16, 2) := dk_16 16 (dk_at dksX8_land_0 3 rfl rfl)
theorem dX8_land_5 : decode cX8_land 5 = .ok (.invokestatic 60, 3) := dk_184 0 60 (dk_at dksX8_land_0 5 rfl rfl)
theorem dX8_land_8 : decode cX8_land 8 = .ok (.ifCond .ne 7, 3) := dk_154 0 7 (dk_at dksX8_land_0 8 rfl rfl)
theorem dX8_land_11 : decode cX8_land 11 = .ok (.iconst 1, 1) := dk_4 (dk_at dksX8_land_0 11 rfl rfl)
theorem dX8_land_12 : decode cX8_land 12 = .ok (.goto 4, 3) := dk_167 0 4 (dk_at dksX8_land_0 12 rfl rfl)
theorem dX8_land_15 : decode cX8_land 15 = .ok (.iconst 0, 1) := dk_3 (dk_at dksX8_land_0 15 rfl rfl)
theorem dX8_land_16 : decode cX8_land 16 = .ok (.iconst 1, 1) := dk_4 (dk_at dksX8_land_0 16 rfl rfl)
theorem dX8_land_17 : decode cX8_land 17 = .ok (.invokevirtual 124, 3) := dk_182 0 124 (dk_at dksX8_land_0 17 rfl rfl)
theorem dX8_land_20 : decode cX8_land 20 = .ok (.ifCond .eq 7, 3) := dk_153 0 7 (dk_at dksX8_land_0 20 rfl rfl)
theorem dX8_land_23 : decode cX8_land 23 = .ok (.iconst 0, 1) := dk_3 (dk_at dksX8_land_0 23 rfl rfl)
theorem dX8_land_24 : decode cX8_land 24 = .ok (.goto 8, 3) := dk_167 0 8 (dk_at dksX8_land_1 0 rfl rfl)
theorem dX8_land_27 : decode cX8_land 27 = .ok (.aload_n 0, 1) := dk_42 (dk_at dksX8_land_1 3 rfl rfl)
theorem dX8_land_28 : decode cX8_land 28 = .ok (.iload_n 1, 1) := dk_27 (dk_at dksX8_land_1 4 rfl rfl)
theorem dX8_land_29 : decode cX8_land 29 = .ok (.invokevirtual 401, 3) := dk_182 1 145 (dk_at dksX8_land_1 5 rfl rfl)
theorem dX8_land_32 : decode cX8_land 32 = .ok (.ireturn, 1) := dk_172 (dk_at dksX8_land_1 8 rfl rfl)
abbrev cX8_landNow : ByteArray := prog_19_method_73_code
def yX8_landNow : MethodName := ⟨RX8, "landNow", "(I)I"⟩
def dkwX8_landNow_8 : List UInt8 := [79, 89, 16, 15, 29, 79, 89, 16, 16, 42, 180, 1, 127, 79, 58, 4, 25, 4, 27, 46, 172]
abbrev dktX8_landNow_8 : List UInt8 := dkwX8_landNow_8 ++ []
def dkwX8_landNow_7 : List UInt8 := [180, 1, 44, 79, 89, 16, 12, 42, 180, 1, 56, 79, 89, 16, 13, 28, 79, 89, 16, 14, 42, 180, 0, 112]
abbrev dktX8_landNow_7 : List UInt8 := dkwX8_landNow_7 ++ dktX8_landNow_8
def dkwX8_landNow_6 : List UInt8 := [180, 0, 121, 79, 89, 16, 9, 42, 180, 1, 53, 79, 89, 16, 10, 42, 180, 1, 60, 79, 89, 16, 11, 42]
abbrev dktX8_landNow_6 : List UInt8 := dkwX8_landNow_6 ++ dktX8_landNow_7
def dkwX8_landNow_5 : List UInt8 := [182, 0, 56, 79, 89, 16, 6, 42, 180, 0, 118, 79, 89, 16, 7, 42, 180, 1, 63, 79, 89, 16, 8, 42]
abbrev dktX8_landNow_5 : List UInt8 := dkwX8_landNow_5 ++ dktX8_landNow_6
def dkwX8_landNow_4 : List UInt8 := [180, 0, 16, 182, 0, 56, 79, 89, 7, 42, 180, 0, 20, 182, 0, 56, 79, 89, 8, 42, 180, 0, 23]
abbrev dktX8_landNow_4 : List UInt8 := dkwX8_landNow_4 ++ dktX8_landNow_5
def dkwX8_landNow_3 : List UInt8 := [89, 3, 42, 180, 0, 64, 79, 89, 4, 42, 182, 1, 37, 79, 89, 5, 42, 180, 0, 7, 79, 89, 6, 42]
abbrev dktX8_landNow_3 : List UInt8 := dkwX8_landNow_3 ++ dktX8_landNow_4
def dkwX8_landNow_2 : List UInt8 := [180, 0, 115, 42, 180, 0, 112, 159, 0, 7, 4, 167, 0, 4, 3, 96, 62, 167, 255, 206, 16, 17, 188, 10]
abbrev dktX8_landNow_2 : List UInt8 := dkwX8_landNow_2 ++ dktX8_landNow_3
def dkwX8_landNow_1 : List UInt8 := [25, 4, 185, 0, 204, 1, 0, 192, 0, 68, 58, 5, 28, 25, 5, 180, 0, 75, 96, 61, 29, 25, 5]
abbrev dktX8_landNow_1 : List UInt8 := dkwX8_landNow_1 ++ dktX8_landNow_2
def dkwX8_landNow_0 : List UInt8 := [3, 61, 3, 62, 42, 180, 0, 16, 182, 0, 195, 58, 4, 25, 4, 185, 0, 199, 1, 0, 153, 0, 46]
abbrev dktX8_landNow_0 : List UInt8 := dkwX8_landNow_0 ++ dktX8_landNow_1
theorem dksX8_landNow_0 : cX8_landNow.data.toList.drop 0 = dktX8_landNow_0 := by decide +kernel
theorem dksX8_landNow_1 : cX8_landNow.data.toList.drop 23 = dktX8_landNow_1 := dk_seg dksX8_landNow_0 23 rfl rfl
theorem dksX8_landNow_2 : cX8_landNow.data.toList.drop 46 = dktX8_landNow_2 := dk_seg dksX8_landNow_1 23 rfl rfl
theorem dksX8_landNow_3 : cX8_landNow.data.toList.drop 70 = dktX8_landNow_3 := dk_seg dksX8_landNow_2 24 rfl rfl
theorem dksX8_landNow_4 : cX8_landNow.data.toList.drop 94 = dktX8_landNow_4 := dk_seg dksX8_landNow_3 24 rfl rfl
theorem dksX8_landNow_5 : cX8_landNow.data.toList.drop 117 = dktX8_landNow_5 := dk_seg dksX8_landNow_4 23 rfl rfl
theorem dksX8_landNow_6 : cX8_landNow.data.toList.drop 141 = dktX8_landNow_6 := dk_seg dksX8_landNow_5 24 rfl rfl
theorem dksX8_landNow_7 : cX8_landNow.data.toList.drop 165 = dktX8_landNow_7 := dk_seg dksX8_landNow_6 24 rfl rfl
theorem dksX8_landNow_8 : cX8_landNow.data.toList.drop 189 = dktX8_landNow_8 := dk_seg dksX8_landNow_7 24 rfl rfl
theorem dX8_landNow_0 : decode cX8_landNow 0 = .ok (.iconst 0, 1) := dk_3 (dk_at dksX8_landNow_0 0 rfl rfl)
theorem dX8_landNow_1 : decode cX8_landNow 1 = .ok (.istore_n 2, 1) := dk_61 (dk_at dksX8_landNow_0 1 rfl rfl)
theorem dX8_landNow_2 : decode cX8_landNow 2 = .ok (.iconst 0, 1) := dk_3 (dk_at dksX8_landNow_0 2 rfl rfl)
theorem dX8_landNow_3 : decode cX8_landNow 3 = .ok (.istore_n 3, 1) := dk_62 (dk_at dksX8_landNow_0 3 rfl rfl)
theorem dX8_landNow_4 : decode cX8_landNow 4 = .ok (.aload_n 0, 1) := dk_42 (dk_at dksX8_landNow_0 4 rfl rfl)
theorem dX8_landNow_5 : decode cX8_landNow 5 = .ok (.getfield 16, 3) := dk_180 0 16 (dk_at dksX8_landNow_0 5 rfl rfl)
theorem dX8_landNow_8 : decode cX8_landNow 8 = .ok (.invokevirtual 195, 3) := dk_182 0 195 (dk_at dksX8_landNow_0 8 rfl rfl)
theorem dX8_landNow_11 : decode cX8_landNow 11 = .ok (.astore 4, 2) := dk_58 4 (dk_at dksX8_landNow_0 11 rfl rfl)
theorem dX8_landNow_13 : decode cX8_landNow 13 = .ok (.aload 4, 2) := dk_25 4 (dk_at dksX8_landNow_0 13 rfl rfl)
theorem dX8_landNow_15 : decode cX8_landNow 15 = .ok (.invokeinterface 199 1, 5) := by decide +kernel
theorem dX8_landNow_20 : decode cX8_landNow 20 = .ok (.ifCond .eq 46, 3) := dk_153 0 46 (dk_at dksX8_landNow_0 20 rfl rfl)
theorem dX8_landNow_23 : decode cX8_landNow 23 = .ok (.aload 4, 2) := dk_25 4 (dk_at dksX8_landNow_1 0 rfl rfl)
theorem dX8_landNow_25 : decode cX8_landNow 25 = .ok (.invokeinterface 204 1, 5) := by decide +kernel
theorem dX8_landNow_30 : decode cX8_landNow 30 = .ok (.checkcast 68, 3) := dk_192 0 68 (dk_at dksX8_landNow_1 7 rfl rfl)
theorem dX8_landNow_33 : decode cX8_landNow 33 = .ok (.astore 5, 2) := dk_58 5 (dk_at dksX8_landNow_1 10 rfl rfl)
theorem dX8_landNow_35 : decode cX8_landNow 35 = .ok (.iload_n 2, 1) := dk_28 (dk_at dksX8_landNow_1 12 rfl rfl)
theorem dX8_landNow_36 : decode cX8_landNow 36 = .ok (.aload 5, 2) := dk_25 5 (dk_at dksX8_landNow_1 13 rfl rfl)
theorem dX8_landNow_38 : decode cX8_landNow 38 = .ok (.getfield 75, 3) := dk_180 0 75 (dk_at dksX8_landNow_1 15 rfl rfl)
theorem dX8_landNow_41 : decode cX8_landNow 41 = .ok (.iadd, 1) := dk_96 (dk_at dksX8_landNow_1 18 rfl rfl)
theorem dX8_landNow_42 : decode cX8_landNow 42 = .ok (.istore_n 2, 1) := dk_61 (dk_at dksX8_landNow_1 19 rfl rfl)
theorem dX8_landNow_43 : decode cX8_landNow 43 = .ok (.iload_n 3, 1) := dk_29 (dk_at dksX8_landNow_1 20 rfl rfl)
theorem dX8_landNow_44 : decode cX8_landNow 44 = .ok (.aload 5, 2) := dk_25 5 (dk_at dksX8_landNow_1 21 rfl rfl)
theorem dX8_landNow_46 : decode cX8_landNow 46 = .ok (.getfield 115, 3) := dk_180 0 115 (dk_at dksX8_landNow_2 0 rfl rfl)
theorem dX8_landNow_49 : decode cX8_landNow 49 = .ok (.aload_n 0, 1) := dk_42 (dk_at dksX8_landNow_2 3 rfl rfl)
theorem dX8_landNow_50 : decode cX8_landNow 50 = .ok (.getfield 112, 3) := dk_180 0 112 (dk_at dksX8_landNow_2 4 rfl rfl)
theorem dX8_landNow_53 : decode cX8_landNow 53 = .ok (.if_icmp .eq 7, 3) := dk_159 0 7 (dk_at dksX8_landNow_2 7 rfl rfl)
theorem dX8_landNow_56 : decode cX8_landNow 56 = .ok (.iconst 1, 1) := dk_4 (dk_at dksX8_landNow_2 10 rfl rfl)
theorem dX8_landNow_57 : decode cX8_landNow 57 = .ok (.goto 4, 3) := dk_167 0 4 (dk_at dksX8_landNow_2 11 rfl rfl)
theorem dX8_landNow_60 : decode cX8_landNow 60 = .ok (.iconst 0, 1) := dk_3 (dk_at dksX8_landNow_2 14 rfl rfl)
theorem dX8_landNow_61 : decode cX8_landNow 61 = .ok (.iadd, 1) := dk_96 (dk_at dksX8_landNow_2 15 rfl rfl)
theorem dX8_landNow_62 : decode cX8_landNow 62 = .ok (.istore_n 3, 1) := dk_62 (dk_at dksX8_landNow_2 16 rfl rfl)
theorem dX8_landNow_63 : decode cX8_landNow 63 = .ok (.goto (-50), 3) := dk_167 255 206 (dk_at dksX8_landNow_2 17 rfl rfl)
theorem dX8_landNow_66 : decode cX8_landNow 66 = .ok (.bipush 17, 2) := dk_16 17 (dk_at dksX8_landNow_2 20 rfl rfl)
theorem dX8_landNow_68 : decode cX8_landNow 68 = .ok (.newarray .int, 2) := dk_188_10 (dk_at dksX8_landNow_2 22 rfl rfl)
theorem dX8_landNow_70 : decode cX8_landNow 70 = .ok (.dup, 1) := dk_89 (dk_at dksX8_landNow_3 0 rfl rfl)
theorem dX8_landNow_71 : decode cX8_landNow 71 = .ok (.iconst 0, 1) := dk_3 (dk_at dksX8_landNow_3 1 rfl rfl)
theorem dX8_landNow_72 : decode cX8_landNow 72 = .ok (.aload_n 0, 1) := dk_42 (dk_at dksX8_landNow_3 2 rfl rfl)
theorem dX8_landNow_73 : decode cX8_landNow 73 = .ok (.getfield 64, 3) := dk_180 0 64 (dk_at dksX8_landNow_3 3 rfl rfl)
theorem dX8_landNow_76 : decode cX8_landNow 76 = .ok (.iastore, 1) := dk_79 (dk_at dksX8_landNow_3 6 rfl rfl)
theorem dX8_landNow_77 : decode cX8_landNow 77 = .ok (.dup, 1) := dk_89 (dk_at dksX8_landNow_3 7 rfl rfl)
theorem dX8_landNow_78 : decode cX8_landNow 78 = .ok (.iconst 1, 1) := dk_4 (dk_at dksX8_landNow_3 8 rfl rfl)
theorem dX8_landNow_79 : decode cX8_landNow 79 = .ok (.aload_n 0, 1) := dk_42 (dk_at dksX8_landNow_3 9 rfl rfl)
theorem dX8_landNow_80 : decode cX8_landNow 80 = .ok (.invokevirtual 293, 3) := dk_182 1 37 (dk_at dksX8_landNow_3 10 rfl rfl)
theorem dX8_landNow_83 : decode cX8_landNow 83 = .ok (.iastore, 1) := dk_79 (dk_at dksX8_landNow_3 13 rfl rfl)
theorem dX8_landNow_84 : decode cX8_landNow 84 = .ok (.dup, 1) := dk_89 (dk_at dksX8_landNow_3 14 rfl rfl)
theorem dX8_landNow_85 : decode cX8_landNow 85 = .ok (.iconst 2, 1) := dk_5 (dk_at dksX8_landNow_3 15 rfl rfl)
theorem dX8_landNow_86 : decode cX8_landNow 86 = .ok (.aload_n 0, 1) := dk_42 (dk_at dksX8_landNow_3 16 rfl rfl)
theorem dX8_landNow_87 : decode cX8_landNow 87 = .ok (.getfield 7, 3) := dk_180 0 7 (dk_at dksX8_landNow_3 17 rfl rfl)
theorem dX8_landNow_90 : decode cX8_landNow 90 = .ok (.iastore, 1) := dk_79 (dk_at dksX8_landNow_3 20 rfl rfl)
theorem dX8_landNow_91 : decode cX8_landNow 91 = .ok (.dup, 1) := dk_89 (dk_at dksX8_landNow_3 21 rfl rfl)
theorem dX8_landNow_92 : decode cX8_landNow 92 = .ok (.iconst 3, 1) := dk_6 (dk_at dksX8_landNow_3 22 rfl rfl)
theorem dX8_landNow_93 : decode cX8_landNow 93 = .ok (.aload_n 0, 1) := dk_42 (dk_at dksX8_landNow_3 23 rfl rfl)
theorem dX8_landNow_94 : decode cX8_landNow 94 = .ok (.getfield 16, 3) := dk_180 0 16 (dk_at dksX8_landNow_4 0 rfl rfl)
theorem dX8_landNow_97 : decode cX8_landNow 97 = .ok (.invokevirtual 56, 3) := dk_182 0 56 (dk_at dksX8_landNow_4 3 rfl rfl)
theorem dX8_landNow_100 : decode cX8_landNow 100 = .ok (.iastore, 1) := dk_79 (dk_at dksX8_landNow_4 6 rfl rfl)
theorem dX8_landNow_101 : decode cX8_landNow 101 = .ok (.dup, 1) := dk_89 (dk_at dksX8_landNow_4 7 rfl rfl)
theorem dX8_landNow_102 : decode cX8_landNow 102 = .ok (.iconst 4, 1) := dk_7 (dk_at dksX8_landNow_4 8 rfl rfl)
theorem dX8_landNow_103 : decode cX8_landNow 103 = .ok (.aload_n 0, 1) := dk_42 (dk_at dksX8_landNow_4 9 rfl rfl)
theorem dX8_landNow_104 : decode cX8_landNow 104 = .ok (.getfield 20, 3) := dk_180 0 20 (dk_at dksX8_landNow_4 10 rfl rfl)
theorem dX8_landNow_107 : decode cX8_landNow 107 = .ok (.invokevirtual 56, 3) := dk_182 0 56 (dk_at dksX8_landNow_4 13 rfl rfl)
theorem dX8_landNow_110 : decode cX8_landNow 110 = .ok (.iastore, 1) := dk_79 (dk_at dksX8_landNow_4 16 rfl rfl)
theorem dX8_landNow_111 : decode cX8_landNow 111 = .ok (.dup, 1) := dk_89 (dk_at dksX8_landNow_4 17 rfl rfl)
theorem dX8_landNow_112 : decode cX8_landNow 112 = .ok (.iconst 5, 1) := dk_8 (dk_at dksX8_landNow_4 18 rfl rfl)
theorem dX8_landNow_113 : decode cX8_landNow 113 = .ok (.aload_n 0, 1) := dk_42 (dk_at dksX8_landNow_4 19 rfl rfl)
theorem dX8_landNow_114 : decode cX8_landNow 114 = .ok (.getfield 23, 3) := dk_180 0 23 (dk_at dksX8_landNow_4 20 rfl rfl)
theorem dX8_landNow_117 : decode cX8_landNow 117 = .ok (.invokevirtual 56, 3) := dk_182 0 56 (dk_at dksX8_landNow_5 0 rfl rfl)
theorem dX8_landNow_120 : decode cX8_landNow 120 = .ok (.iastore, 1) := dk_79 (dk_at dksX8_landNow_5 3 rfl rfl)
theorem dX8_landNow_121 : decode cX8_landNow 121 = .ok (.dup, 1) := dk_89 (dk_at dksX8_landNow_5 4 rfl rfl)
theorem dX8_landNow_122 : decode cX8_landNow 122 = .ok (.bipush 6, 2) := dk_16 6 (dk_at dksX8_landNow_5 5 rfl rfl)
theorem dX8_landNow_124 : decode cX8_landNow 124 = .ok (.aload_n 0, 1) := dk_42 (dk_at dksX8_landNow_5 7 rfl rfl)
theorem dX8_landNow_125 : decode cX8_landNow 125 = .ok (.getfield 118, 3) := dk_180 0 118 (dk_at dksX8_landNow_5 8 rfl rfl)
theorem dX8_landNow_128 : decode cX8_landNow 128 = .ok (.iastore, 1) := dk_79 (dk_at dksX8_landNow_5 11 rfl rfl)
theorem dX8_landNow_129 : decode cX8_landNow 129 = .ok (.dup, 1) := dk_89 (dk_at dksX8_landNow_5 12 rfl rfl)
theorem dX8_landNow_130 : decode cX8_landNow 130 = .ok (.bipush 7, 2) := dk_16 7 (dk_at dksX8_landNow_5 13 rfl rfl)
theorem dX8_landNow_132 : decode cX8_landNow 132 = .ok (.aload_n 0, 1) := dk_42 (dk_at dksX8_landNow_5 15 rfl rfl)
theorem dX8_landNow_133 : decode cX8_landNow 133 = .ok (.getfield 319, 3) := dk_180 1 63 (dk_at dksX8_landNow_5 16 rfl rfl)
theorem dX8_landNow_136 : decode cX8_landNow 136 = .ok (.iastore, 1) := dk_79 (dk_at dksX8_landNow_5 19 rfl rfl)
theorem dX8_landNow_137 : decode cX8_landNow 137 = .ok (.dup, 1) := dk_89 (dk_at dksX8_landNow_5 20 rfl rfl)
theorem dX8_landNow_138 : decode cX8_landNow 138 = .ok (.bipush 8, 2) := dk_16 8 (dk_at dksX8_landNow_5 21 rfl rfl)
theorem dX8_landNow_140 : decode cX8_landNow 140 = .ok (.aload_n 0, 1) := dk_42 (dk_at dksX8_landNow_5 23 rfl rfl)
theorem dX8_landNow_141 : decode cX8_landNow 141 = .ok (.getfield 121, 3) := dk_180 0 121 (dk_at dksX8_landNow_6 0 rfl rfl)
theorem dX8_landNow_144 : decode cX8_landNow 144 = .ok (.iastore, 1) := dk_79 (dk_at dksX8_landNow_6 3 rfl rfl)
theorem dX8_landNow_145 : decode cX8_landNow 145 = .ok (.dup, 1) := dk_89 (dk_at dksX8_landNow_6 4 rfl rfl)
theorem dX8_landNow_146 : decode cX8_landNow 146 = .ok (.bipush 9, 2) := dk_16 9 (dk_at dksX8_landNow_6 5 rfl rfl)
theorem dX8_landNow_148 : decode cX8_landNow 148 = .ok (.aload_n 0, 1) := dk_42 (dk_at dksX8_landNow_6 7 rfl rfl)
theorem dX8_landNow_149 : decode cX8_landNow 149 = .ok (.getfield 309, 3) := dk_180 1 53 (dk_at dksX8_landNow_6 8 rfl rfl)
theorem dX8_landNow_152 : decode cX8_landNow 152 = .ok (.iastore, 1) := dk_79 (dk_at dksX8_landNow_6 11 rfl rfl)
theorem dX8_landNow_153 : decode cX8_landNow 153 = .ok (.dup, 1) := dk_89 (dk_at dksX8_landNow_6 12 rfl rfl)
theorem dX8_landNow_154 : decode cX8_landNow 154 = .ok (.bipush 10, 2) := dk_16 10 (dk_at dksX8_landNow_6 13 rfl rfl)
theorem dX8_landNow_156 : decode cX8_landNow 156 = .ok (.aload_n 0, 1) := dk_42 (dk_at dksX8_landNow_6 15 rfl rfl)
theorem dX8_landNow_157 : decode cX8_landNow 157 = .ok (.getfield 316, 3) := dk_180 1 60 (dk_at dksX8_landNow_6 16 rfl rfl)
theorem dX8_landNow_160 : decode cX8_landNow 160 = .ok (.iastore, 1) := dk_79 (dk_at dksX8_landNow_6 19 rfl rfl)
theorem dX8_landNow_161 : decode cX8_landNow 161 = .ok (.dup, 1) := dk_89 (dk_at dksX8_landNow_6 20 rfl rfl)
theorem dX8_landNow_162 : decode cX8_landNow 162 = .ok (.bipush 11, 2) := dk_16 11 (dk_at dksX8_landNow_6 21 rfl rfl)
theorem dX8_landNow_164 : decode cX8_landNow 164 = .ok (.aload_n 0, 1) := dk_42 (dk_at dksX8_landNow_6 23 rfl rfl)
theorem dX8_landNow_165 : decode cX8_landNow 165 = .ok (.getfield 300, 3) := dk_180 1 44 (dk_at dksX8_landNow_7 0 rfl rfl)
theorem dX8_landNow_168 : decode cX8_landNow 168 = .ok (.iastore, 1) := dk_79 (dk_at dksX8_landNow_7 3 rfl rfl)
theorem dX8_landNow_169 : decode cX8_landNow 169 = .ok (.dup, 1) := dk_89 (dk_at dksX8_landNow_7 4 rfl rfl)
theorem dX8_landNow_170 : decode cX8_landNow 170 = .ok (.bipush 12, 2) := dk_16 12 (dk_at dksX8_landNow_7 5 rfl rfl)
theorem dX8_landNow_172 : decode cX8_landNow 172 = .ok (.aload_n 0, 1) := dk_42 (dk_at dksX8_landNow_7 7 rfl rfl)
theorem dX8_landNow_173 : decode cX8_landNow 173 = .ok (.getfield 312, 3) := dk_180 1 56 (dk_at dksX8_landNow_7 8 rfl rfl)
theorem dX8_landNow_176 : decode cX8_landNow 176 = .ok (.iastore, 1) := dk_79 (dk_at dksX8_landNow_7 11 rfl rfl)
theorem dX8_landNow_177 : decode cX8_landNow 177 = .ok (.dup, 1) := dk_89 (dk_at dksX8_landNow_7 12 rfl rfl)
theorem dX8_landNow_178 : decode cX8_landNow 178 = .ok (.bipush 13, 2) := dk_16 13 (dk_at dksX8_landNow_7 13 rfl rfl)
theorem dX8_landNow_180 : decode cX8_landNow 180 = .ok (.iload_n 2, 1) := dk_28 (dk_at dksX8_landNow_7 15 rfl rfl)
theorem dX8_landNow_181 : decode cX8_landNow 181 = .ok (.iastore, 1) := dk_79 (dk_at dksX8_landNow_7 16 rfl rfl)
theorem dX8_landNow_182 : decode cX8_landNow 182 = .ok (.dup, 1) := dk_89 (dk_at dksX8_landNow_7 17 rfl rfl)
theorem dX8_landNow_183 : decode cX8_landNow 183 = .ok (.bipush 14, 2) := dk_16 14 (dk_at dksX8_landNow_7 18 rfl rfl)
theorem dX8_landNow_185 : decode cX8_landNow 185 = .ok (.aload_n 0, 1) := dk_42 (dk_at dksX8_landNow_7 20 rfl rfl)
theorem dX8_landNow_186 : decode cX8_landNow 186 = .ok (.getfield 112, 3) := dk_180 0 112 (dk_at dksX8_landNow_7 21 rfl rfl)
theorem dX8_landNow_189 : decode cX8_landNow 189 = .ok (.iastore, 1) := dk_79 (dk_at dksX8_landNow_8 0 rfl rfl)
theorem dX8_landNow_190 : decode cX8_landNow 190 = .ok (.dup, 1) := dk_89 (dk_at dksX8_landNow_8 1 rfl rfl)
theorem dX8_landNow_191 : decode cX8_landNow 191 = .ok (.bipush 15, 2) := dk_16 15 (dk_at dksX8_landNow_8 2 rfl rfl)
theorem dX8_landNow_193 : decode cX8_landNow 193 = .ok (.iload_n 3, 1) := dk_29 (dk_at dksX8_landNow_8 4 rfl rfl)
theorem dX8_landNow_194 : decode cX8_landNow 194 = .ok (.iastore, 1) := dk_79 (dk_at dksX8_landNow_8 5 rfl rfl)
theorem dX8_landNow_195 : decode cX8_landNow 195 = .ok (.dup, 1) := dk_89 (dk_at dksX8_landNow_8 6 rfl rfl)
theorem dX8_landNow_196 : decode cX8_landNow 196 = .ok (.bipush 16, 2) := dk_16 16 (dk_at dksX8_landNow_8 7 rfl rfl)
theorem dX8_landNow_198 : decode cX8_landNow 198 = .ok (.aload_n 0, 1) := dk_42 (dk_at dksX8_landNow_8 9 rfl rfl)
theorem dX8_landNow_199 : decode cX8_landNow 199 = .ok (.getfield 383, 3) := dk_180 1 127 (dk_at dksX8_landNow_8 10 rfl rfl)
theorem dX8_landNow_202 : decode cX8_landNow 202 = .ok (.iastore, 1) := dk_79 (dk_at dksX8_landNow_8 13 rfl rfl)
theorem dX8_landNow_203 : decode cX8_landNow 203 = .ok (.astore 4, 2) := dk_58 4 (dk_at dksX8_landNow_8 14 rfl rfl)
theorem dX8_landNow_205 : decode cX8_landNow 205 = .ok (.aload 4, 2) := dk_25 4 (dk_at dksX8_landNow_8 16 rfl rfl)
theorem dX8_landNow_207 : decode cX8_landNow 207 = .ok (.iload_n 1, 1) := dk_27 (dk_at dksX8_landNow_8 18 rfl rfl)
theorem dX8_landNow_208 : decode cX8_landNow 208 = .ok (.iaload, 1) := dk_46 (dk_at dksX8_landNow_8 19 rfl rfl)
theorem dX8_landNow_209 : decode cX8_landNow 209 = .ok (.ireturn, 1) := dk_172 (dk_at dksX8_landNow_8 20 rfl rfl)
abbrev cX8_tell : ByteArray := prog_19_method_75_code
def yX8_tell : MethodName := ⟨RX8, "tell", "(I)Ljava/lang/String;"⟩
def dkwX8_tell_6 : List UInt8 := [182, 1, 170, 176]
abbrev dktX8_tell_6 : List UInt8 := dkwX8_tell_6 ++ []
def dkwX8_tell_5 : List UInt8 := [182, 1, 159, 44, 180, 1, 90, 182, 1, 153, 182, 1, 170, 167, 0, 6, 19, 1, 148, 182, 1, 159]
abbrev dktX8_tell_5 : List UInt8 := dkwX8_tell_5 ++ dktX8_tell_6
def dkwX8_tell_4 : List UInt8 := [19, 1, 148, 182, 1, 159, 44, 180, 1, 90, 158, 0, 29, 187, 1, 150, 89, 183, 1, 152, 19, 1, 168]
abbrev dktX8_tell_4 : List UInt8 := dkwX8_tell_4 ++ dktX8_tell_5
def dkwX8_tell_3 : List UInt8 := [167, 0, 6, 19, 1, 148, 182, 1, 159, 44, 180, 0, 108, 153, 0, 9, 19, 1, 166, 167, 0, 6]
abbrev dktX8_tell_3 : List UInt8 := dkwX8_tell_3 ++ dktX8_tell_4
def dkwX8_tell_2 : List UInt8 := [44, 180, 0, 75, 182, 1, 153, 19, 1, 162, 182, 1, 159, 44, 180, 1, 73, 153, 0, 9, 19, 1, 164]
abbrev dktX8_tell_2 : List UInt8 := dkwX8_tell_2 ++ dktX8_tell_3
def dkwX8_tell_1 : List UInt8 := [182, 0, 78, 192, 0, 68, 77, 187, 1, 150, 89, 183, 1, 152, 27, 182, 1, 153, 19, 1, 157, 182, 1, 159]
abbrev dktX8_tell_1 : List UInt8 := dkwX8_tell_1 ++ dktX8_tell_2
def dkwX8_tell_0 : List UInt8 := [42, 42, 27, 182, 0, 142, 4, 182, 0, 124, 153, 0, 7, 19, 1, 148, 176, 42, 180, 0, 16, 27]
abbrev dktX8_tell_0 : List UInt8 := dkwX8_tell_0 ++ dktX8_tell_1
theorem dksX8_tell_0 : cX8_tell.data.toList.drop 0 = dktX8_tell_0 := by decide +kernel
theorem dksX8_tell_1 : cX8_tell.data.toList.drop 22 = dktX8_tell_1 := dk_seg dksX8_tell_0 22 rfl rfl
theorem dksX8_tell_2 : cX8_tell.data.toList.drop 46 = dktX8_tell_2 := dk_seg dksX8_tell_1 24 rfl rfl
theorem dksX8_tell_3 : cX8_tell.data.toList.drop 69 = dktX8_tell_3 := dk_seg dksX8_tell_2 23 rfl rfl
theorem dksX8_tell_4 : cX8_tell.data.toList.drop 91 = dktX8_tell_4 := dk_seg dksX8_tell_3 22 rfl rfl
theorem dksX8_tell_5 : cX8_tell.data.toList.drop 114 = dktX8_tell_5 := dk_seg dksX8_tell_4 23 rfl rfl
theorem dksX8_tell_6 : cX8_tell.data.toList.drop 136 = dktX8_tell_6 := dk_seg dksX8_tell_5 22 rfl rfl
theorem dX8_tell_0 : decode cX8_tell 0 = .ok (.aload_n 0, 1) := dk_42 (dk_at dksX8_tell_0 0 rfl rfl)
theorem dX8_tell_1 : decode cX8_tell 1 = .ok (.aload_n 0, 1) := dk_42 (dk_at dksX8_tell_0 1 rfl rfl)
theorem dX8_tell_2 : decode cX8_tell 2 = .ok (.iload_n 1, 1) := dk_27 (dk_at dksX8_tell_0 2 rfl rfl)
theorem dX8_tell_3 : decode cX8_tell 3 = .ok (.invokevirtual 142, 3) := dk_182 0 142 (dk_at dksX8_tell_0 3 rfl rfl)
theorem dX8_tell_6 : decode cX8_tell 6 = .ok (.iconst 1, 1) := dk_4 (dk_at dksX8_tell_0 6 rfl rfl)
theorem dX8_tell_7 : decode cX8_tell 7 = .ok (.invokevirtual 124, 3) := dk_182 0 124 (dk_at dksX8_tell_0 7 rfl rfl)
theorem dX8_tell_10 : decode cX8_tell 10 = .ok (.ifCond .eq 7, 3) := dk_153 0 7 (dk_at dksX8_tell_0 10 rfl rfl)
theorem dX8_tell_13 : decode cX8_tell 13 = .ok (.ldc_w 404, 3) := dk_19 1 148 (dk_at dksX8_tell_0 13 rfl rfl)
theorem dX8_tell_16 : decode cX8_tell 16 = .ok (.areturn, 1) := dk_176 (dk_at dksX8_tell_0 16 rfl rfl)
theorem dX8_tell_17 : decode cX8_tell 17 = .ok (.aload_n 0, 1) := dk_42 (dk_at dksX8_tell_0 17 rfl rfl)
theorem dX8_tell_18 : decode cX8_tell 18 = .ok (.getfield 16, 3) := dk_180 0 16 (dk_at dksX8_tell_0 18 rfl rfl)
theorem dX8_tell_21 : decode cX8_tell 21 = .ok (.iload_n 1, 1) := dk_27 (dk_at dksX8_tell_0 21 rfl rfl)
theorem dX8_tell_22 : decode cX8_tell 22 = .ok (.invokevirtual 78, 3) := dk_182 0 78 (dk_at dksX8_tell_1 0 rfl rfl)
theorem dX8_tell_25 : decode cX8_tell 25 = .ok (.checkcast 68, 3) := dk_192 0 68 (dk_at dksX8_tell_1 3 rfl rfl)
theorem dX8_tell_28 : decode cX8_tell 28 = .ok (.astore_n 2, 1) := dk_77 (dk_at dksX8_tell_1 6 rfl rfl)
theorem dX8_tell_29 : decode cX8_tell 29 = .ok (.new 406, 3) := dk_187 1 150 (dk_at dksX8_tell_1 7 rfl rfl)
theorem dX8_tell_32 : decode cX8_tell 32 = .ok (.dup, 1) := dk_89 (dk_at dksX8_tell_1 10 rfl rfl)
theorem dX8_tell_33 : decode cX8_tell 33 = .ok (.invokespecial 408, 3) := dk_183 1 152 (dk_at dksX8_tell_1 11 rfl rfl)
theorem dX8_tell_36 : decode cX8_tell 36 = .ok (.iload_n 1, 1) := dk_27 (dk_at dksX8_tell_1 14 rfl rfl)
theorem dX8_tell_37 : decode cX8_tell 37 = .ok (.invokevirtual 409, 3) := dk_182 1 153 (dk_at dksX8_tell_1 15 rfl rfl)
theorem dX8_tell_40 : decode cX8_tell 40 = .ok (.ldc_w 413, 3) := dk_19 1 157 (dk_at dksX8_tell_1 18 rfl rfl)
theorem dX8_tell_43 : decode cX8_tell 43 = .ok (.invokevirtual 415, 3) := dk_182 1 159 (dk_at dksX8_tell_1 21 rfl rfl)
theorem dX8_tell_46 : decode cX8_tell 46 = .ok (.aload_n 2, 1) := dk_44 (dk_at dksX8_tell_2 0 rfl rfl)
theorem dX8_tell_47 : decode cX8_tell 47 = .ok (.getfield 75, 3) := dk_180 0 75 (dk_at dksX8_tell_2 1 rfl rfl)
theorem dX8_tell_50 : decode cX8_tell 50 = .ok (.invokevirtual 409, 3) := dk_182 1 153 (dk_at dksX8_tell_2 4 rfl rfl)
theorem dX8_tell_53 : decode cX8_tell 53 = .ok (.ldc_w 418, 3) := dk_19 1 162 (dk_at dksX8_tell_2 7 rfl rfl)
theorem dX8_tell_56 : decode cX8_tell 56 = .ok (.invokevirtual 415, 3) := dk_182 1 159 (dk_at dksX8_tell_2 10 rfl rfl)
theorem dX8_tell_59 : decode cX8_tell 59 = .ok (.aload_n 2, 1) := dk_44 (dk_at dksX8_tell_2 13 rfl rfl)
theorem dX8_tell_60 : decode cX8_tell 60 = .ok (.getfield 329, 3) := dk_180 1 73 (dk_at dksX8_tell_2 14 rfl rfl)
theorem dX8_tell_63 : decode cX8_tell 63 = .ok (.ifCond .eq 9, 3) := dk_153 0 9 (dk_at dksX8_tell_2 17 rfl rfl)
theorem dX8_tell_66 : decode cX8_tell 66 = .ok (.ldc_w 420, 3) := dk_19 1 164 (dk_at dksX8_tell_2 20 rfl rfl)
theorem dX8_tell_69 : decode cX8_tell 69 = .ok (.goto 6, 3) := dk_167 0 6 (dk_at dksX8_tell_3 0 rfl rfl)
theorem dX8_tell_72 : decode cX8_tell 72 = .ok (.ldc_w 404, 3) := dk_19 1 148 (dk_at dksX8_tell_3 3 rfl rfl)
theorem dX8_tell_75 : decode cX8_tell 75 = .ok (.invokevirtual 415, 3) := dk_182 1 159 (dk_at dksX8_tell_3 6 rfl rfl)
theorem dX8_tell_78 : decode cX8_tell 78 = .ok (.aload_n 2, 1) := dk_44 (dk_at dksX8_tell_3 9 rfl rfl)
theorem dX8_tell_79 : decode cX8_tell 79 = .ok (.getfield 108, 3) := dk_180 0 108 (dk_at dksX8_tell_3 10 rfl rfl)
theorem dX8_tell_82 : decode cX8_tell 82 = .ok (.ifCond .eq 9, 3) := dk_153 0 9 (dk_at dksX8_tell_3 13 rfl rfl)
theorem dX8_tell_85 : decode cX8_tell 85 = .ok (.ldc_w 422, 3) := dk_19 1 166 (dk_at dksX8_tell_3 16 rfl rfl)
theorem dX8_tell_88 : decode cX8_tell 88 = .ok (.goto 6, 3) := dk_167 0 6 (dk_at dksX8_tell_3 19 rfl rfl)
theorem dX8_tell_91 : decode cX8_tell 91 = .ok (.ldc_w 404, 3) := dk_19 1 148 (dk_at dksX8_tell_4 0 rfl rfl)
theorem dX8_tell_94 : decode cX8_tell 94 = .ok (.invokevirtual 415, 3) := dk_182 1 159 (dk_at dksX8_tell_4 3 rfl rfl)
theorem dX8_tell_97 : decode cX8_tell 97 = .ok (.aload_n 2, 1) := dk_44 (dk_at dksX8_tell_4 6 rfl rfl)
theorem dX8_tell_98 : decode cX8_tell 98 = .ok (.getfield 346, 3) := dk_180 1 90 (dk_at dksX8_tell_4 7 rfl rfl)
theorem dX8_tell_101 : decode cX8_tell 101 = .ok (.ifCond .le 29, 3) := dk_158 0 29 (dk_at dksX8_tell_4 10 rfl rfl)
theorem dX8_tell_104 : decode cX8_tell 104 = .ok (.new 406, 3) := dk_187 1 150 (dk_at dksX8_tell_4 13 rfl rfl)
theorem dX8_tell_107 : decode cX8_tell 107 = .ok (.dup, 1) := dk_89 (dk_at dksX8_tell_4 16 rfl rfl)
theorem dX8_tell_108 : decode cX8_tell 108 = .ok (.invokespecial 408, 3) := dk_183 1 152 (dk_at dksX8_tell_4 17 rfl rfl)
theorem dX8_tell_111 : decode cX8_tell 111 = .ok (.ldc_w 424, 3) := dk_19 1 168 (dk_at dksX8_tell_4 20 rfl rfl)
theorem dX8_tell_114 : decode cX8_tell 114 = .ok (.invokevirtual 415, 3) := dk_182 1 159 (dk_at dksX8_tell_5 0 rfl rfl)
theorem dX8_tell_117 : decode cX8_tell 117 = .ok (.aload_n 2, 1) := dk_44 (dk_at dksX8_tell_5 3 rfl rfl)
theorem dX8_tell_118 : decode cX8_tell 118 = .ok (.getfield 346, 3) := dk_180 1 90 (dk_at dksX8_tell_5 4 rfl rfl)
theorem dX8_tell_121 : decode cX8_tell 121 = .ok (.invokevirtual 409, 3) := dk_182 1 153 (dk_at dksX8_tell_5 7 rfl rfl)
theorem dX8_tell_124 : decode cX8_tell 124 = .ok (.invokevirtual 426, 3) := dk_182 1 170 (dk_at dksX8_tell_5 10 rfl rfl)
theorem dX8_tell_127 : decode cX8_tell 127 = .ok (.goto 6, 3) := dk_167 0 6 (dk_at dksX8_tell_5 13 rfl rfl)
theorem dX8_tell_130 : decode cX8_tell 130 = .ok (.ldc_w 404, 3) := dk_19 1 148 (dk_at dksX8_tell_5 16 rfl rfl)
theorem dX8_tell_133 : decode cX8_tell 133 = .ok (.invokevirtual 415, 3) := dk_182 1 159 (dk_at dksX8_tell_5 19 rfl rfl)
theorem dX8_tell_136 : decode cX8_tell 136 = .ok (.invokevirtual 426, 3) := dk_182 1 170 (dk_at dksX8_tell_6 0 rfl rfl)
theorem dX8_tell_139 : decode cX8_tell 139 = .ok (.areturn, 1) := dk_176 (dk_at dksX8_tell_6 3 rfl rfl)
abbrev cX8_gain : ByteArray := prog_19_method_77_code
def yX8_gain : MethodName := ⟨RX8, "gain", "(I)D"⟩
def dkwX8_gain_0 : List UInt8 := [42, 42, 27, 182, 0, 161, 4, 182, 0, 124, 153, 0, 7, 14, 167, 0, 8, 42, 27, 182, 1, 174, 175]
abbrev dktX8_gain_0 : List UInt8 := dkwX8_gain_0 ++ []
theorem dksX8_gain_0 : cX8_gain.data.toList.drop 0 = dktX8_gain_0 := by decide +kernel
theorem dX8_gain_0 : decode cX8_gain 0 = .ok (.aload_n 0, 1) := dk_42 (dk_at dksX8_gain_0 0 rfl rfl)
theorem dX8_gain_1 : decode cX8_gain 1 = .ok (.aload_n 0, 1) := dk_42 (dk_at dksX8_gain_0 1 rfl rfl)
theorem dX8_gain_2 : decode cX8_gain 2 = .ok (.iload_n 1, 1) := dk_27 (dk_at dksX8_gain_0 2 rfl rfl)
theorem dX8_gain_3 : decode cX8_gain 3 = .ok (.invokevirtual 161, 3) := dk_182 0 161 (dk_at dksX8_gain_0 3 rfl rfl)
theorem dX8_gain_6 : decode cX8_gain 6 = .ok (.iconst 1, 1) := dk_4 (dk_at dksX8_gain_0 6 rfl rfl)
theorem dX8_gain_7 : decode cX8_gain 7 = .ok (.invokevirtual 124, 3) := dk_182 0 124 (dk_at dksX8_gain_0 7 rfl rfl)
theorem dX8_gain_10 : decode cX8_gain 10 = .ok (.ifCond .eq 7, 3) := dk_153 0 7 (dk_at dksX8_gain_0 10 rfl rfl)
theorem dX8_gain_13 : decode cX8_gain 13 = .ok (.dconst 0, 1) := dk_14 (dk_at dksX8_gain_0 13 rfl rfl)
theorem dX8_gain_14 : decode cX8_gain 14 = .ok (.goto 8, 3) := dk_167 0 8 (dk_at dksX8_gain_0 14 rfl rfl)
theorem dX8_gain_17 : decode cX8_gain 17 = .ok (.aload_n 0, 1) := dk_42 (dk_at dksX8_gain_0 17 rfl rfl)
theorem dX8_gain_18 : decode cX8_gain 18 = .ok (.iload_n 1, 1) := dk_27 (dk_at dksX8_gain_0 18 rfl rfl)
theorem dX8_gain_19 : decode cX8_gain 19 = .ok (.invokevirtual 430, 3) := dk_182 1 174 (dk_at dksX8_gain_0 19 rfl rfl)
theorem dX8_gain_22 : decode cX8_gain 22 = .ok (.dreturn, 1) := dk_175 (dk_at dksX8_gain_0 22 rfl rfl)
abbrev cX8_gainNow : ByteArray := prog_19_method_76_code
def yX8_gainNow : MethodName := ⟨RX8, "gainNow", "(I)D"⟩
def dkwX8_gainNow_1 : List UInt8 := [180, 1, 93, 135, 44, 180, 1, 21, 135, 111, 175]
abbrev dktX8_gainNow_1 : List UInt8 := dkwX8_gainNow_1 ++ []
def dkwX8_gainNow_0 : List UInt8 := [42, 180, 0, 20, 27, 182, 0, 78, 192, 0, 152, 77, 44, 180, 1, 21, 154, 0, 7, 14, 167, 0, 14, 44]
abbrev dktX8_gainNow_0 : List UInt8 := dkwX8_gainNow_0 ++ dktX8_gainNow_1
theorem dksX8_gainNow_0 : cX8_gainNow.data.toList.drop 0 = dktX8_gainNow_0 := by decide +kernel
theorem dksX8_gainNow_1 : cX8_gainNow.data.toList.drop 24 = dktX8_gainNow_1 := dk_seg dksX8_gainNow_0 24 rfl rfl
theorem dX8_gainNow_0 : decode cX8_gainNow 0 = .ok (.aload_n 0, 1) := dk_42 (dk_at dksX8_gainNow_0 0 rfl rfl)
theorem dX8_gainNow_1 : decode cX8_gainNow 1 = .ok (.getfield 20, 3) := dk_180 0 20 (dk_at dksX8_gainNow_0 1 rfl rfl)
theorem dX8_gainNow_4 : decode cX8_gainNow 4 = .ok (.iload_n 1, 1) := dk_27 (dk_at dksX8_gainNow_0 4 rfl rfl)
theorem dX8_gainNow_5 : decode cX8_gainNow 5 = .ok (.invokevirtual 78, 3) := dk_182 0 78 (dk_at dksX8_gainNow_0 5 rfl rfl)
theorem dX8_gainNow_8 : decode cX8_gainNow 8 = .ok (.checkcast 152, 3) := dk_192 0 152 (dk_at dksX8_gainNow_0 8 rfl rfl)
theorem dX8_gainNow_11 : decode cX8_gainNow 11 = .ok (.astore_n 2, 1) := dk_77 (dk_at dksX8_gainNow_0 11 rfl rfl)
theorem dX8_gainNow_12 : decode cX8_gainNow 12 = .ok (.aload_n 2, 1) := dk_44 (dk_at dksX8_gainNow_0 12 rfl rfl)
theorem dX8_gainNow_13 : decode cX8_gainNow 13 = .ok (.getfield 277, 3) := dk_180 1 21 (dk_at dksX8_gainNow_0 13 rfl rfl)
theorem dX8_gainNow_16 : decode cX8_gainNow 16 = .ok (.ifCond .ne 7, 3) := dk_154 0 7 (dk_at dksX8_gainNow_0 16 rfl rfl)
theorem dX8_gainNow_19 : decode cX8_gainNow 19 = .ok (.dconst 0, 1) := dk_14 (dk_at dksX8_gainNow_0 19 rfl rfl)
theorem dX8_gainNow_20 : decode cX8_gainNow 20 = .ok (.goto 14, 3) := dk_167 0 14 (dk_at dksX8_gainNow_0 20 rfl rfl)
theorem dX8_gainNow_23 : decode cX8_gainNow 23 = .ok (.aload_n 2, 1) := dk_44 (dk_at dksX8_gainNow_0 23 rfl rfl)
theorem dX8_gainNow_24 : decode cX8_gainNow 24 = .ok (.getfield 349, 3) := dk_180 1 93 (dk_at dksX8_gainNow_1 0 rfl rfl)
theorem dX8_gainNow_27 : decode cX8_gainNow 27 = .ok (.i2d, 1) := dk_135 (dk_at dksX8_gainNow_1 3 rfl rfl)
theorem dX8_gainNow_28 : decode cX8_gainNow 28 = .ok (.aload_n 2, 1) := dk_44 (dk_at dksX8_gainNow_1 4 rfl rfl)
theorem dX8_gainNow_29 : decode cX8_gainNow 29 = .ok (.getfield 277, 3) := dk_180 1 21 (dk_at dksX8_gainNow_1 5 rfl rfl)
theorem dX8_gainNow_32 : decode cX8_gainNow 32 = .ok (.i2d, 1) := dk_135 (dk_at dksX8_gainNow_1 8 rfl rfl)
theorem dX8_gainNow_33 : decode cX8_gainNow 33 = .ok (.ddiv, 1) := dk_111 (dk_at dksX8_gainNow_1 9 rfl rfl)
theorem dX8_gainNow_34 : decode cX8_gainNow 34 = .ok (.dreturn, 1) := dk_175 (dk_at dksX8_gainNow_1 10 rfl rfl)
abbrev cX8_wouldBring : ByteArray := prog_19_method_79_code
def yX8_wouldBring : MethodName := ⟨RX8, "wouldBring", "(II)I"⟩
def dkwX8_wouldBring_2 : List UInt8 := [192, 0, 208, 28, 182, 1, 178, 172]
abbrev dktX8_wouldBring_2 : List UInt8 := dkwX8_wouldBring_2 ++ []
def dkwX8_wouldBring_1 : List UInt8 := [167, 0, 4, 3, 5, 182, 0, 52, 153, 0, 7, 3, 167, 0, 19, 42, 42, 180, 0, 23, 27, 182, 0, 78]
abbrev dktX8_wouldBring_1 : List UInt8 := dkwX8_wouldBring_1 ++ dktX8_wouldBring_2
def dkwX8_wouldBring_0 : List UInt8 := [42, 42, 27, 182, 0, 241, 4, 182, 0, 124, 154, 0, 25, 42, 28, 3, 6, 184, 0, 60, 154, 0, 7, 4]
abbrev dktX8_wouldBring_0 : List UInt8 := dkwX8_wouldBring_0 ++ dktX8_wouldBring_1
theorem dksX8_wouldBring_0 : cX8_wouldBring.data.toList.drop 0 = dktX8_wouldBring_0 := by decide +kernel
theorem dksX8_wouldBring_1 : cX8_wouldBring.data.toList.drop 24 = dktX8_wouldBring_1 := dk_seg dksX8_wouldBring_0 24 rfl rfl
theorem dksX8_wouldBring_2 : cX8_wouldBring.data.toList.drop 48 = dktX8_wouldBring_2 := dk_seg dksX8_wouldBring_1 24 rfl rfl
theorem dX8_wouldBring_0 : decode cX8_wouldBring 0 = .ok (.aload_n 0, 1) := dk_42 (dk_at dksX8_wouldBring_0 0 rfl rfl)
theorem dX8_wouldBring_1 : decode cX8_wouldBring 1 = .ok (.aload_n 0, 1) := dk_42 (dk_at dksX8_wouldBring_0 1 rfl rfl)
theorem dX8_wouldBring_2 : decode cX8_wouldBring 2 = .ok (.iload_n 1, 1) := dk_27 (dk_at dksX8_wouldBring_0 2 rfl rfl)
theorem dX8_wouldBring_3 : decode cX8_wouldBring 3 = .ok (.invokevirtual 241, 3) := dk_182 0 241 (dk_at dksX8_wouldBring_0 3 rfl rfl)
theorem dX8_wouldBring_6 : decode cX8_wouldBring 6 = .ok (.iconst 1, 1) := dk_4 (dk_at dksX8_wouldBring_0 6 rfl rfl)
theorem dX8_wouldBring_7 : decode cX8_wouldBring 7 = .ok (.invokevirtual 124, 3) := dk_182 0 124 (dk_at dksX8_wouldBring_0 7 rfl rfl)
theorem dX8_wouldBring_10 : decode cX8_wouldBring 10 = .ok (.ifCond .ne 25, 3) := dk_154 0 25 (dk_at dksX8_wouldBring_0 10 rfl rfl)
theorem dX8_wouldBring_13 : decode cX8_wouldBring 13 = .ok (.aload_n 0, 1) := dk_42 (dk_at dksX8_wouldBring_0 13 rfl rfl)
theorem dX8_wouldBring_14 : decode cX8_wouldBring 14 = .ok (.iload_n 2, 1) := dk_28 (dk_at dksX8_wouldBring_0 14 rfl rfl)
theorem dX8_wouldBring_15 : decode cX8_wouldBring 15 = .ok (.iconst 0, 1) := dk_3 (dk_at dksX8_wouldBring_0 15 rfl rfl)
theorem dX8_wouldBring_16 : decode cX8_wouldBring 16 = .ok (.iconst 3, 1) := dk_6 (dk_at dksX8_wouldBring_0 16 rfl rfl)
theorem dX8_wouldBring_17 : decode cX8_wouldBring 17 = .ok (.invokestatic 60, 3) := dk_184 0 60 (dk_at dksX8_wouldBring_0 17 rfl rfl)
theorem dX8_wouldBring_20 : decode cX8_wouldBring 20 = .ok (.ifCond .ne 7, 3) := dk_154 0 7 (dk_at dksX8_wouldBring_0 20 rfl rfl)
theorem dX8_wouldBring_23 : decode cX8_wouldBring 23 = .ok (.iconst 1, 1) := dk_4 (dk_at dksX8_wouldBring_0 23 rfl rfl)
theorem dX8_wouldBring_24 : decode cX8_wouldBring 24 = .ok (.goto 4, 3) := dk_167 0 4 (dk_at dksX8_wouldBring_1 0 rfl rfl)
theorem dX8_wouldBring_27 : decode cX8_wouldBring 27 = .ok (.iconst 0, 1) := dk_3 (dk_at dksX8_wouldBring_1 3 rfl rfl)
theorem dX8_wouldBring_28 : decode cX8_wouldBring 28 = .ok (.iconst 2, 1) := dk_5 (dk_at dksX8_wouldBring_1 4 rfl rfl)
theorem dX8_wouldBring_29 : decode cX8_wouldBring 29 = .ok (.invokevirtual 52, 3) := dk_182 0 52 (dk_at dksX8_wouldBring_1 5 rfl rfl)
theorem dX8_wouldBring_32 : decode cX8_wouldBring 32 = .ok (.ifCond .eq 7, 3) := dk_153 0 7 (dk_at dksX8_wouldBring_1 8 rfl rfl)
theorem dX8_wouldBring_35 : decode cX8_wouldBring 35 = .ok (.iconst 0, 1) := dk_3 (dk_at dksX8_wouldBring_1 11 rfl rfl)
theorem dX8_wouldBring_36 : decode cX8_wouldBring 36 = .ok (.goto 19, 3) := dk_167 0 19 (dk_at dksX8_wouldBring_1 12 rfl rfl)
theorem dX8_wouldBring_39 : decode cX8_wouldBring 39 = .ok (.aload_n 0, 1) := dk_42 (dk_at dksX8_wouldBring_1 15 rfl rfl)
theorem dX8_wouldBring_40 : decode cX8_wouldBring 40 = .ok (.aload_n 0, 1) := dk_42 (dk_at dksX8_wouldBring_1 16 rfl rfl)
theorem dX8_wouldBring_41 : decode cX8_wouldBring 41 = .ok (.getfield 23, 3) := dk_180 0 23 (dk_at dksX8_wouldBring_1 17 rfl rfl)
theorem dX8_wouldBring_44 : decode cX8_wouldBring 44 = .ok (.iload_n 1, 1) := dk_27 (dk_at dksX8_wouldBring_1 20 rfl rfl)
theorem dX8_wouldBring_45 : decode cX8_wouldBring 45 = .ok (.invokevirtual 78, 3) := dk_182 0 78 (dk_at dksX8_wouldBring_1 21 rfl rfl)
theorem dX8_wouldBring_48 : decode cX8_wouldBring 48 = .ok (.checkcast 208, 3) := dk_192 0 208 (dk_at dksX8_wouldBring_2 0 rfl rfl)
theorem dX8_wouldBring_51 : decode cX8_wouldBring 51 = .ok (.iload_n 2, 1) := dk_28 (dk_at dksX8_wouldBring_2 3 rfl rfl)
theorem dX8_wouldBring_52 : decode cX8_wouldBring 52 = .ok (.invokevirtual 434, 3) := dk_182 1 178 (dk_at dksX8_wouldBring_2 4 rfl rfl)
theorem dX8_wouldBring_55 : decode cX8_wouldBring 55 = .ok (.ireturn, 1) := dk_172 (dk_at dksX8_wouldBring_2 7 rfl rfl)
abbrev cX8_wouldBringNow : ByteArray := prog_19_method_78_code
def yX8_wouldBringNow : MethodName := ⟨RX8, "wouldBringNow", "(LPublicanryModel$Lot;I)I"⟩
def dkwX8_wouldBringNow_6 : List UInt8 := [62, 132, 4, 1, 167, 255, 118, 29, 172]
abbrev dktX8_wouldBringNow_6 : List UInt8 := dkwX8_wouldBringNow_6 ++ []
def dkwX8_wouldBringNow_5 : List UInt8 := [167, 0, 23, 28, 4, 164, 0, 8, 21, 8, 167, 0, 13, 21, 8, 25, 5, 180, 1, 59, 184, 0, 93, 96]
abbrev dktX8_wouldBringNow_5 : List UInt8 := dkwX8_wouldBringNow_5 ++ dktX8_wouldBringNow_6
def dkwX8_wouldBringNow_4 : List UInt8 := [54, 8, 29, 43, 180, 0, 213, 154, 0, 18, 5, 21, 8, 25, 5, 180, 0, 128, 184, 0, 93, 104]
abbrev dktX8_wouldBringNow_4 : List UInt8 := dkwX8_wouldBringNow_4 ++ dktX8_wouldBringNow_5
def dkwX8_wouldBringNow_3 : List UInt8 := [21, 6, 28, 104, 16, 8, 108, 96, 54, 7, 21, 7, 21, 7, 25, 5, 180, 1, 84, 28, 184, 1, 87, 100]
abbrev dktX8_wouldBringNow_3 : List UInt8 := dkwX8_wouldBringNow_3 ++ dktX8_wouldBringNow_4
def dkwX8_wouldBringNow_2 : List UInt8 := [180, 1, 73, 153, 0, 6, 167, 0, 89, 42, 21, 4, 43, 180, 0, 213, 3, 182, 1, 80, 54, 6, 21, 6]
abbrev dktX8_wouldBringNow_2 : List UInt8 := dkwX8_wouldBringNow_2 ++ dktX8_wouldBringNow_3
def dkwX8_wouldBringNow_1 : List UInt8 := [182, 0, 78, 192, 0, 68, 58, 5, 43, 180, 0, 216, 21, 4, 184, 0, 82, 153, 0, 100, 25, 5]
abbrev dktX8_wouldBringNow_1 : List UInt8 := dkwX8_wouldBringNow_1 ++ dktX8_wouldBringNow_2
def dkwX8_wouldBringNow_0 : List UInt8 := [3, 62, 3, 54, 4, 21, 4, 42, 180, 0, 16, 182, 0, 56, 162, 0, 132, 42, 180, 0, 16, 21, 4]
abbrev dktX8_wouldBringNow_0 : List UInt8 := dkwX8_wouldBringNow_0 ++ dktX8_wouldBringNow_1
theorem dksX8_wouldBringNow_0 : cX8_wouldBringNow.data.toList.drop 0 = dktX8_wouldBringNow_0 := by decide +kernel
theorem dksX8_wouldBringNow_1 : cX8_wouldBringNow.data.toList.drop 23 = dktX8_wouldBringNow_1 := dk_seg dksX8_wouldBringNow_0 23 rfl rfl
theorem dksX8_wouldBringNow_2 : cX8_wouldBringNow.data.toList.drop 45 = dktX8_wouldBringNow_2 := dk_seg dksX8_wouldBringNow_1 22 rfl rfl
theorem dksX8_wouldBringNow_3 : cX8_wouldBringNow.data.toList.drop 69 = dktX8_wouldBringNow_3 := dk_seg dksX8_wouldBringNow_2 24 rfl rfl
theorem dksX8_wouldBringNow_4 : cX8_wouldBringNow.data.toList.drop 93 = dktX8_wouldBringNow_4 := dk_seg dksX8_wouldBringNow_3 24 rfl rfl
theorem dksX8_wouldBringNow_5 : cX8_wouldBringNow.data.toList.drop 115 = dktX8_wouldBringNow_5 := dk_seg dksX8_wouldBringNow_4 22 rfl rfl
theorem dksX8_wouldBringNow_6 : cX8_wouldBringNow.data.toList.drop 139 = dktX8_wouldBringNow_6 := dk_seg dksX8_wouldBringNow_5 24 rfl rfl
theorem dX8_wouldBringNow_0 : decode cX8_wouldBringNow 0 = .ok (.iconst 0, 1) := dk_3 (dk_at dksX8_wouldBringNow_0 0 rfl rfl)
theorem dX8_wouldBringNow_1 : decode cX8_wouldBringNow 1 = .ok (.istore_n 3, 1) := dk_62 (dk_at dksX8_wouldBringNow_0 1 rfl rfl)
theorem dX8_wouldBringNow_2 : decode cX8_wouldBringNow 2 = .ok (.iconst 0, 1) := dk_3 (dk_at dksX8_wouldBringNow_0 2 rfl rfl)
theorem dX8_wouldBringNow_3 : decode cX8_wouldBringNow 3 = .ok (.istore 4, 2) := dk_54 4 (dk_at dksX8_wouldBringNow_0 3 rfl rfl)
theorem dX8_wouldBringNow_5 : decode cX8_wouldBringNow 5 = .ok (.iload 4, 2) := dk_21 4 (dk_at dksX8_wouldBringNow_0 5 rfl rfl)
theorem dX8_wouldBringNow_7 : decode cX8_wouldBringNow 7 = .ok (.aload_n 0, 1) := dk_42 (dk_at dksX8_wouldBringNow_0 7 rfl rfl)
theorem dX8_wouldBringNow_8 : decode cX8_wouldBringNow 8 = .ok (.getfield 16, 3) := dk_180 0 16 (dk_at dksX8_wouldBringNow_0 8 rfl rfl)
theorem dX8_wouldBringNow_11 : decode cX8_wouldBringNow 11 = .ok (.invokevirtual 56, 3) := dk_182 0 56 (dk_at dksX8_wouldBringNow_0 11 rfl rfl)
theorem dX8_wouldBringNow_14 : decode cX8_wouldBringNow 14 = .ok (.if_icmp .ge 132, 3) := dk_162 0 132 (dk_at dksX8_wouldBringNow_0 14 rfl rfl)
theorem dX8_wouldBringNow_17 : decode cX8_wouldBringNow 17 = .ok (.aload_n 0, 1) := dk_42 (dk_at dksX8_wouldBringNow_0 17 rfl rfl)
theorem dX8_wouldBringNow_18 : decode cX8_wouldBringNow 18 = .ok (.getfield 16, 3) := dk_180 0 16 (dk_at dksX8_wouldBringNow_0 18 rfl rfl)
theorem dX8_wouldBringNow_21 : decode cX8_wouldBringNow 21 = .ok (.iload 4, 2) := dk_21 4 (dk_at dksX8_wouldBringNow_0 21 rfl rfl)
theorem dX8_wouldBringNow_23 : decode cX8_wouldBringNow 23 = .ok (.invokevirtual 78, 3) := dk_182 0 78 (dk_at dksX8_wouldBringNow_1 0 rfl rfl)
theorem dX8_wouldBringNow_26 : decode cX8_wouldBringNow 26 = .ok (.checkcast 68, 3) := dk_192 0 68 (dk_at dksX8_wouldBringNow_1 3 rfl rfl)
theorem dX8_wouldBringNow_29 : decode cX8_wouldBringNow 29 = .ok (.astore 5, 2) := dk_58 5 (dk_at dksX8_wouldBringNow_1 6 rfl rfl)
theorem dX8_wouldBringNow_31 : decode cX8_wouldBringNow 31 = .ok (.aload_n 1, 1) := dk_43 (dk_at dksX8_wouldBringNow_1 8 rfl rfl)
theorem dX8_wouldBringNow_32 : decode cX8_wouldBringNow 32 = .ok (.getfield 216, 3) := dk_180 0 216 (dk_at dksX8_wouldBringNow_1 9 rfl rfl)
theorem dX8_wouldBringNow_35 : decode cX8_wouldBringNow 35 = .ok (.iload 4, 2) := dk_21 4 (dk_at dksX8_wouldBringNow_1 12 rfl rfl)
theorem dX8_wouldBringNow_37 : decode cX8_wouldBringNow 37 = .ok (.invokestatic 82, 3) := dk_184 0 82 (dk_at dksX8_wouldBringNow_1 14 rfl rfl)
theorem dX8_wouldBringNow_40 : decode cX8_wouldBringNow 40 = .ok (.ifCond .eq 100, 3) := dk_153 0 100 (dk_at dksX8_wouldBringNow_1 17 rfl rfl)
theorem dX8_wouldBringNow_43 : decode cX8_wouldBringNow 43 = .ok (.aload 5, 2) := dk_25 5 (dk_at dksX8_wouldBringNow_1 20 rfl rfl)
theorem dX8_wouldBringNow_45 : decode cX8_wouldBringNow 45 = .ok (.getfield 329, 3) := dk_180 1 73 (dk_at dksX8_wouldBringNow_2 0 rfl rfl)
theorem dX8_wouldBringNow_48 : decode cX8_wouldBringNow 48 = .ok (.ifCond .eq 6, 3) := dk_153 0 6 (dk_at dksX8_wouldBringNow_2 3 rfl rfl)
theorem dX8_wouldBringNow_51 : decode cX8_wouldBringNow 51 = .ok (.goto 89, 3) := dk_167 0 89 (dk_at dksX8_wouldBringNow_2 6 rfl rfl)
theorem dX8_wouldBringNow_54 : decode cX8_wouldBringNow 54 = .ok (.aload_n 0, 1) := dk_42 (dk_at dksX8_wouldBringNow_2 9 rfl rfl)
theorem dX8_wouldBringNow_55 : decode cX8_wouldBringNow 55 = .ok (.iload 4, 2) := dk_21 4 (dk_at dksX8_wouldBringNow_2 10 rfl rfl)
theorem dX8_wouldBringNow_57 : decode cX8_wouldBringNow 57 = .ok (.aload_n 1, 1) := dk_43 (dk_at dksX8_wouldBringNow_2 12 rfl rfl)
theorem dX8_wouldBringNow_58 : decode cX8_wouldBringNow 58 = .ok (.getfield 213, 3) := dk_180 0 213 (dk_at dksX8_wouldBringNow_2 13 rfl rfl)
theorem dX8_wouldBringNow_61 : decode cX8_wouldBringNow 61 = .ok (.iconst 0, 1) := dk_3 (dk_at dksX8_wouldBringNow_2 16 rfl rfl)
theorem dX8_wouldBringNow_62 : decode cX8_wouldBringNow 62 = .ok (.invokevirtual 336, 3) := dk_182 1 80 (dk_at dksX8_wouldBringNow_2 17 rfl rfl)
theorem dX8_wouldBringNow_65 : decode cX8_wouldBringNow 65 = .ok (.istore 6, 2) := dk_54 6 (dk_at dksX8_wouldBringNow_2 20 rfl rfl)
theorem dX8_wouldBringNow_67 : decode cX8_wouldBringNow 67 = .ok (.iload 6, 2) := dk_21 6 (dk_at dksX8_wouldBringNow_2 22 rfl rfl)
theorem dX8_wouldBringNow_69 : decode cX8_wouldBringNow 69 = .ok (.iload 6, 2) := dk_21 6 (dk_at dksX8_wouldBringNow_3 0 rfl rfl)
theorem dX8_wouldBringNow_71 : decode cX8_wouldBringNow 71 = .ok (.iload_n 2, 1) := dk_28 (dk_at dksX8_wouldBringNow_3 2 rfl rfl)
theorem dX8_wouldBringNow_72 : decode cX8_wouldBringNow 72 = .ok (.imul, 1) := dk_104 (dk_at dksX8_wouldBringNow_3 3 rfl rfl)
theorem dX8_wouldBringNow_73 : decode cX8_wouldBringNow 73 = .ok (.bipush 8, 2) := dk_16 8 (dk_at dksX8_wouldBringNow_3 4 rfl rfl)
theorem dX8_wouldBringNow_75 : decode cX8_wouldBringNow 75 = .ok (.idiv, 1) := dk_108 (dk_at dksX8_wouldBringNow_3 6 rfl rfl)
theorem dX8_wouldBringNow_76 : decode cX8_wouldBringNow 76 = .ok (.iadd, 1) := dk_96 (dk_at dksX8_wouldBringNow_3 7 rfl rfl)
theorem dX8_wouldBringNow_77 : decode cX8_wouldBringNow 77 = .ok (.istore 7, 2) := dk_54 7 (dk_at dksX8_wouldBringNow_3 8 rfl rfl)
theorem dX8_wouldBringNow_79 : decode cX8_wouldBringNow 79 = .ok (.iload 7, 2) := dk_21 7 (dk_at dksX8_wouldBringNow_3 10 rfl rfl)
theorem dX8_wouldBringNow_81 : decode cX8_wouldBringNow 81 = .ok (.iload 7, 2) := dk_21 7 (dk_at dksX8_wouldBringNow_3 12 rfl rfl)
theorem dX8_wouldBringNow_83 : decode cX8_wouldBringNow 83 = .ok (.aload 5, 2) := dk_25 5 (dk_at dksX8_wouldBringNow_3 14 rfl rfl)
theorem dX8_wouldBringNow_85 : decode cX8_wouldBringNow 85 = .ok (.getfield 340, 3) := dk_180 1 84 (dk_at dksX8_wouldBringNow_3 16 rfl rfl)
theorem dX8_wouldBringNow_88 : decode cX8_wouldBringNow 88 = .ok (.iload_n 2, 1) := dk_28 (dk_at dksX8_wouldBringNow_3 19 rfl rfl)
theorem dX8_wouldBringNow_89 : decode cX8_wouldBringNow 89 = .ok (.invokestatic 343, 3) := dk_184 1 87 (dk_at dksX8_wouldBringNow_3 20 rfl rfl)
theorem dX8_wouldBringNow_92 : decode cX8_wouldBringNow 92 = .ok (.isub, 1) := dk_100 (dk_at dksX8_wouldBringNow_3 23 rfl rfl)
theorem dX8_wouldBringNow_93 : decode cX8_wouldBringNow 93 = .ok (.istore 8, 2) := dk_54 8 (dk_at dksX8_wouldBringNow_4 0 rfl rfl)
theorem dX8_wouldBringNow_95 : decode cX8_wouldBringNow 95 = .ok (.iload_n 3, 1) := dk_29 (dk_at dksX8_wouldBringNow_4 2 rfl rfl)
theorem dX8_wouldBringNow_96 : decode cX8_wouldBringNow 96 = .ok (.aload_n 1, 1) := dk_43 (dk_at dksX8_wouldBringNow_4 3 rfl rfl)
theorem dX8_wouldBringNow_97 : decode cX8_wouldBringNow 97 = .ok (.getfield 213, 3) := dk_180 0 213 (dk_at dksX8_wouldBringNow_4 4 rfl rfl)
theorem dX8_wouldBringNow_100 : decode cX8_wouldBringNow 100 = .ok (.ifCond .ne 18, 3) := dk_154 0 18 (dk_at dksX8_wouldBringNow_4 7 rfl rfl)
theorem dX8_wouldBringNow_103 : decode cX8_wouldBringNow 103 = .ok (.iconst 2, 1) := dk_5 (dk_at dksX8_wouldBringNow_4 10 rfl rfl)
theorem dX8_wouldBringNow_104 : decode cX8_wouldBringNow 104 = .ok (.iload 8, 2) := dk_21 8 (dk_at dksX8_wouldBringNow_4 11 rfl rfl)
theorem dX8_wouldBringNow_106 : decode cX8_wouldBringNow 106 = .ok (.aload 5, 2) := dk_25 5 (dk_at dksX8_wouldBringNow_4 13 rfl rfl)
theorem dX8_wouldBringNow_108 : decode cX8_wouldBringNow 108 = .ok (.getfield 128, 3) := dk_180 0 128 (dk_at dksX8_wouldBringNow_4 15 rfl rfl)
theorem dX8_wouldBringNow_111 : decode cX8_wouldBringNow 111 = .ok (.invokestatic 93, 3) := dk_184 0 93 (dk_at dksX8_wouldBringNow_4 18 rfl rfl)
theorem dX8_wouldBringNow_114 : decode cX8_wouldBringNow 114 = .ok (.imul, 1) := dk_104 (dk_at dksX8_wouldBringNow_4 21 rfl rfl)
theorem dX8_wouldBringNow_115 : decode cX8_wouldBringNow 115 = .ok (.goto 23, 3) := dk_167 0 23 (dk_at dksX8_wouldBringNow_5 0 rfl rfl)
theorem dX8_wouldBringNow_118 : decode cX8_wouldBringNow 118 = .ok (.iload_n 2, 1) := dk_28 (dk_at dksX8_wouldBringNow_5 3 rfl rfl)
theorem dX8_wouldBringNow_119 : decode cX8_wouldBringNow 119 = .ok (.iconst 1, 1) := dk_4 (dk_at dksX8_wouldBringNow_5 4 rfl rfl)
theorem dX8_wouldBringNow_120 : decode cX8_wouldBringNow 120 = .ok (.if_icmp .le 8, 3) := dk_164 0 8 (dk_at dksX8_wouldBringNow_5 5 rfl rfl)
theorem dX8_wouldBringNow_123 : decode cX8_wouldBringNow 123 = .ok (.iload 8, 2) := dk_21 8 (dk_at dksX8_wouldBringNow_5 8 rfl rfl)
theorem dX8_wouldBringNow_125 : decode cX8_wouldBringNow 125 = .ok (.goto 13, 3) := dk_167 0 13 (dk_at dksX8_wouldBringNow_5 10 rfl rfl)
theorem dX8_wouldBringNow_128 : decode cX8_wouldBringNow 128 = .ok (.iload 8, 2) := dk_21 8 (dk_at dksX8_wouldBringNow_5 13 rfl rfl)
theorem dX8_wouldBringNow_130 : decode cX8_wouldBringNow 130 = .ok (.aload 5, 2) := dk_25 5 (dk_at dksX8_wouldBringNow_5 15 rfl rfl)
theorem dX8_wouldBringNow_132 : decode cX8_wouldBringNow 132 = .ok (.getfield 315, 3) := dk_180 1 59 (dk_at dksX8_wouldBringNow_5 17 rfl rfl)
theorem dX8_wouldBringNow_135 : decode cX8_wouldBringNow 135 = .ok (.invokestatic 93, 3) := dk_184 0 93 (dk_at dksX8_wouldBringNow_5 20 rfl rfl)
theorem dX8_wouldBringNow_138 : decode cX8_wouldBringNow 138 = .ok (.iadd, 1) := dk_96 (dk_at dksX8_wouldBringNow_5 23 rfl rfl)
theorem dX8_wouldBringNow_139 : decode cX8_wouldBringNow 139 = .ok (.istore_n 3, 1) := dk_62 (dk_at dksX8_wouldBringNow_6 0 rfl rfl)
theorem dX8_wouldBringNow_140 : decode cX8_wouldBringNow 140 = .ok (.iinc 4 1, 3) := dk_132 4 1 (dk_at dksX8_wouldBringNow_6 1 rfl rfl)
theorem dX8_wouldBringNow_143 : decode cX8_wouldBringNow 143 = .ok (.goto (-138), 3) := dk_167 255 118 (dk_at dksX8_wouldBringNow_6 4 rfl rfl)
theorem dX8_wouldBringNow_146 : decode cX8_wouldBringNow 146 = .ok (.iload_n 3, 1) := dk_29 (dk_at dksX8_wouldBringNow_6 7 rfl rfl)
theorem dX8_wouldBringNow_147 : decode cX8_wouldBringNow 147 = .ok (.ireturn, 1) := dk_172 (dk_at dksX8_wouldBringNow_6 8 rfl rfl)
abbrev cX8_bestForce : ByteArray := prog_19_method_81_code
def yX8_bestForce : MethodName := ⟨RX8, "bestForce", "(I)I"⟩
def dkwX8_bestForce_1 : List UInt8 := [182, 0, 78, 192, 0, 208, 182, 1, 181, 172]
abbrev dktX8_bestForce_1 : List UInt8 := dkwX8_bestForce_1 ++ []
def dkwX8_bestForce_0 : List UInt8 := [42, 42, 27, 182, 0, 241, 4, 182, 0, 124, 153, 0, 7, 3, 167, 0, 18, 42, 42, 180, 0, 23, 27]
abbrev dktX8_bestForce_0 : List UInt8 := dkwX8_bestForce_0 ++ dktX8_bestForce_1
theorem dksX8_bestForce_0 : cX8_bestForce.data.toList.drop 0 = dktX8_bestForce_0 := by decide +kernel
theorem dksX8_bestForce_1 : cX8_bestForce.data.toList.drop 23 = dktX8_bestForce_1 := dk_seg dksX8_bestForce_0 23 rfl rfl
theorem dX8_bestForce_0 : decode cX8_bestForce 0 = .ok (.aload_n 0, 1) := dk_42 (dk_at dksX8_bestForce_0 0 rfl rfl)
theorem dX8_bestForce_1 : decode cX8_bestForce 1 = .ok (.aload_n 0, 1) := dk_42 (dk_at dksX8_bestForce_0 1 rfl rfl)
theorem dX8_bestForce_2 : decode cX8_bestForce 2 = .ok (.iload_n 1, 1) := dk_27 (dk_at dksX8_bestForce_0 2 rfl rfl)
theorem dX8_bestForce_3 : decode cX8_bestForce 3 = .ok (.invokevirtual 241, 3) := dk_182 0 241 (dk_at dksX8_bestForce_0 3 rfl rfl)
theorem dX8_bestForce_6 : decode cX8_bestForce 6 = .ok (.iconst 1, 1) := dk_4 (dk_at dksX8_bestForce_0 6 rfl rfl)
theorem dX8_bestForce_7 : decode cX8_bestForce 7 = .ok (.invokevirtual 124, 3) := dk_182 0 124 (dk_at dksX8_bestForce_0 7 rfl rfl)
theorem dX8_bestForce_10 : decode cX8_bestForce 10 = .ok (.ifCond .eq 7, 3) := dk_153 0 7 (dk_at dksX8_bestForce_0 10 rfl rfl)
theorem dX8_bestForce_13 : decode cX8_bestForce 13 = .ok (.iconst 0, 1) := dk_3 (dk_at dksX8_bestForce_0 13 rfl rfl)
theorem dX8_bestForce_14 : decode cX8_bestForce 14 = .ok (.goto 18, 3) := dk_167 0 18 (dk_at dksX8_bestForce_0 14 rfl rfl)
theorem dX8_bestForce_17 : decode cX8_bestForce 17 = .ok (.aload_n 0, 1) := dk_42 (dk_at dksX8_bestForce_0 17 rfl rfl)
theorem dX8_bestForce_18 : decode cX8_bestForce 18 = .ok (.aload_n 0, 1) := dk_42 (dk_at dksX8_bestForce_0 18 rfl rfl)
theorem dX8_bestForce_19 : decode cX8_bestForce 19 = .ok (.getfield 23, 3) := dk_180 0 23 (dk_at dksX8_bestForce_0 19 rfl rfl)
theorem dX8_bestForce_22 : decode cX8_bestForce 22 = .ok (.iload_n 1, 1) := dk_27 (dk_at dksX8_bestForce_0 22 rfl rfl)
theorem dX8_bestForce_23 : decode cX8_bestForce 23 = .ok (.invokevirtual 78, 3) := dk_182 0 78 (dk_at dksX8_bestForce_1 0 rfl rfl)
theorem dX8_bestForce_26 : decode cX8_bestForce 26 = .ok (.checkcast 208, 3) := dk_192 0 208 (dk_at dksX8_bestForce_1 3 rfl rfl)
theorem dX8_bestForce_29 : decode cX8_bestForce 29 = .ok (.invokevirtual 437, 3) := dk_182 1 181 (dk_at dksX8_bestForce_1 6 rfl rfl)
theorem dX8_bestForce_32 : decode cX8_bestForce 32 = .ok (.ireturn, 1) := dk_172 (dk_at dksX8_bestForce_1 9 rfl rfl)
abbrev cX8_bestForceNow : ByteArray := prog_19_method_80_code
def yX8_bestForceNow : MethodName := ⟨RX8, "bestForceNow", "(LPublicanryModel$Lot;)I"⟩
def dkwX8_bestForceNow_1 : List UInt8 := [29, 61, 132, 3, 1, 167, 255, 231, 28, 172]
abbrev dktX8_bestForceNow_1 : List UInt8 := dkwX8_bestForceNow_1 ++ []
def dkwX8_bestForceNow_0 : List UInt8 := [3, 61, 4, 62, 29, 7, 162, 0, 26, 42, 43, 29, 182, 1, 178, 42, 43, 28, 182, 1, 178, 164, 0, 5]
abbrev dktX8_bestForceNow_0 : List UInt8 := dkwX8_bestForceNow_0 ++ dktX8_bestForceNow_1
theorem dksX8_bestForceNow_0 : cX8_bestForceNow.data.toList.drop 0 = dktX8_bestForceNow_0 := by decide +kernel
theorem dksX8_bestForceNow_1 : cX8_bestForceNow.data.toList.drop 24 = dktX8_bestForceNow_1 := dk_seg dksX8_bestForceNow_0 24 rfl rfl
theorem dX8_bestForceNow_0 : decode cX8_bestForceNow 0 = .ok (.iconst 0, 1) := dk_3 (dk_at dksX8_bestForceNow_0 0 rfl rfl)
theorem dX8_bestForceNow_1 : decode cX8_bestForceNow 1 = .ok (.istore_n 2, 1) := dk_61 (dk_at dksX8_bestForceNow_0 1 rfl rfl)
theorem dX8_bestForceNow_2 : decode cX8_bestForceNow 2 = .ok (.iconst 1, 1) := dk_4 (dk_at dksX8_bestForceNow_0 2 rfl rfl)
theorem dX8_bestForceNow_3 : decode cX8_bestForceNow 3 = .ok (.istore_n 3, 1) := dk_62 (dk_at dksX8_bestForceNow_0 3 rfl rfl)
theorem dX8_bestForceNow_4 : decode cX8_bestForceNow 4 = .ok (.iload_n 3, 1) := dk_29 (dk_at dksX8_bestForceNow_0 4 rfl rfl)
theorem dX8_bestForceNow_5 : decode cX8_bestForceNow 5 = .ok (.iconst 4, 1) := dk_7 (dk_at dksX8_bestForceNow_0 5 rfl rfl)
theorem dX8_bestForceNow_6 : decode cX8_bestForceNow 6 = .ok (.if_icmp .ge 26, 3) := dk_162 0 26 (dk_at dksX8_bestForceNow_0 6 rfl rfl)
theorem dX8_bestForceNow_9 : decode cX8_bestForceNow 9 = .ok (.aload_n 0, 1) := dk_42 (dk_at dksX8_bestForceNow_0 9 rfl rfl)
theorem dX8_bestForceNow_10 : decode cX8_bestForceNow 10 = .ok (.aload_n 1, 1) := dk_43 (dk_at dksX8_bestForceNow_0 10 rfl rfl)
theorem dX8_bestForceNow_11 : decode cX8_bestForceNow 11 = .ok (.iload_n 3, 1) := dk_29 (dk_at dksX8_bestForceNow_0 11 rfl rfl)
theorem dX8_bestForceNow_12 : decode cX8_bestForceNow 12 = .ok (.invokevirtual 434, 3) := dk_182 1 178 (dk_at dksX8_bestForceNow_0 12 rfl rfl)
theorem dX8_bestForceNow_15 : decode cX8_bestForceNow 15 = .ok (.aload_n 0, 1) := dk_42 (dk_at dksX8_bestForceNow_0 15 rfl rfl)
theorem dX8_bestForceNow_16 : decode cX8_bestForceNow 16 = .ok (.aload_n 1, 1) := dk_43 (dk_at dksX8_bestForceNow_0 16 rfl rfl)
theorem dX8_bestForceNow_17 : decode cX8_bestForceNow 17 = .ok (.iload_n 2, 1) := dk_28 (dk_at dksX8_bestForceNow_0 17 rfl rfl)
theorem dX8_bestForceNow_18 : decode cX8_bestForceNow 18 = .ok (.invokevirtual 434, 3) := dk_182 1 178 (dk_at dksX8_bestForceNow_0 18 rfl rfl)
theorem dX8_bestForceNow_21 : decode cX8_bestForceNow 21 = .ok (.if_icmp .le 5, 3) := dk_164 0 5 (dk_at dksX8_bestForceNow_0 21 rfl rfl)
theorem dX8_bestForceNow_24 : decode cX8_bestForceNow 24 = .ok (.iload_n 3, 1) := dk_29 (dk_at dksX8_bestForceNow_1 0 rfl rfl)
theorem dX8_bestForceNow_25 : decode cX8_bestForceNow 25 = .ok (.istore_n 2, 1) := dk_61 (dk_at dksX8_bestForceNow_1 1 rfl rfl)
theorem dX8_bestForceNow_26 : decode cX8_bestForceNow 26 = .ok (.iinc 3 1, 3) := dk_132 3 1 (dk_at dksX8_bestForceNow_1 2 rfl rfl)
theorem dX8_bestForceNow_29 : decode cX8_bestForceNow 29 = .ok (.goto (-25), 3) := dk_167 255 231 (dk_at dksX8_bestForceNow_1 5 rfl rfl)
theorem dX8_bestForceNow_32 : decode cX8_bestForceNow 32 = .ok (.iload_n 2, 1) := dk_28 (dk_at dksX8_bestForceNow_1 8 rfl rfl)
theorem dX8_bestForceNow_33 : decode cX8_bestForceNow 33 = .ok (.ireturn, 1) := dk_172 (dk_at dksX8_bestForceNow_1 9 rfl rfl)
abbrev cX8_votes : ByteArray := prog_19_method_82_code
def yX8_votes : MethodName := ⟨RX8, "votes", "(IIII)I"⟩
def dkwX8_votes_3 : List UInt8 := [182, 1, 80, 54, 5, 42, 29, 21, 5, 100, 21, 5, 21, 4, 182, 1, 40, 172]
abbrev dktX8_votes_3 : List UInt8 := dkwX8_votes_3 ++ []
def dkwX8_votes_2 : List UInt8 := [184, 0, 60, 154, 0, 7, 4, 167, 0, 4, 3, 5, 182, 0, 52, 153, 0, 5, 3, 172, 42, 27, 28, 4]
abbrev dktX8_votes_2 : List UInt8 := dkwX8_votes_2 ++ dktX8_votes_3
def dkwX8_votes_1 : List UInt8 := [182, 0, 124, 154, 0, 38, 42, 29, 3, 17, 39, 15, 184, 0, 60, 153, 0, 14, 21, 4, 3, 16, 7]
abbrev dktX8_votes_1 : List UInt8 := dkwX8_votes_1 ++ dktX8_votes_2
def dkwX8_votes_0 : List UInt8 := [42, 42, 27, 182, 0, 142, 154, 0, 10, 28, 184, 0, 149, 153, 0, 7, 4, 167, 0, 4, 3, 4]
abbrev dktX8_votes_0 : List UInt8 := dkwX8_votes_0 ++ dktX8_votes_1
theorem dksX8_votes_0 : cX8_votes.data.toList.drop 0 = dktX8_votes_0 := by decide +kernel
theorem dksX8_votes_1 : cX8_votes.data.toList.drop 22 = dktX8_votes_1 := dk_seg dksX8_votes_0 22 rfl rfl
theorem dksX8_votes_2 : cX8_votes.data.toList.drop 45 = dktX8_votes_2 := dk_seg dksX8_votes_1 23 rfl rfl
theorem dksX8_votes_3 : cX8_votes.data.toList.drop 69 = dktX8_votes_3 := dk_seg dksX8_votes_2 24 rfl rfl
theorem dX8_votes_0 : decode cX8_votes 0 = .ok (.aload_n 0, 1) := dk_42 (dk_at dksX8_votes_0 0 rfl rfl)
theorem dX8_votes_1 : decode cX8_votes 1 = .ok (.aload_n 0, 1) := dk_42 (dk_at dksX8_votes_0 1 rfl rfl)
theorem dX8_votes_2 : decode cX8_votes 2 = .ok (.iload_n 1, 1) := dk_27 (dk_at dksX8_votes_0 2 rfl rfl)
theorem dX8_votes_3 : decode cX8_votes 3 = .ok (.invokevirtual 142, 3) := dk_182 0 142 (dk_at dksX8_votes_0 3 rfl rfl)
theorem dX8_votes_6 : decode cX8_votes 6 = .ok (.ifCond .ne 10, 3) := dk_154 0 10 (dk_at dksX8_votes_0 6 rfl rfl)
theorem dX8_votes_9 : decode cX8_votes 9 = .ok (.iload_n 2, 1) := dk_28 (dk_at dksX8_votes_0 9 rfl rfl)
theorem dX8_votes_10 : decode cX8_votes 10 = .ok (.invokestatic 149, 3) := dk_184 0 149 (dk_at dksX8_votes_0 10 rfl rfl)
theorem dX8_votes_13 : decode cX8_votes 13 = .ok (.ifCond .eq 7, 3) := dk_153 0 7 (dk_at dksX8_votes_0 13 rfl rfl)
theorem dX8_votes_16 : decode cX8_votes 16 = .ok (.iconst 1, 1) := dk_4 (dk_at dksX8_votes_0 16 rfl rfl)
theorem dX8_votes_17 : decode cX8_votes 17 = .ok (.goto 4, 3) := dk_167 0 4 (dk_at dksX8_votes_0 17 rfl rfl)
theorem dX8_votes_20 : decode cX8_votes 20 = .ok (.iconst 0, 1) := dk_3 (dk_at dksX8_votes_0 20 rfl rfl)
theorem dX8_votes_21 : decode cX8_votes 21 = .ok (.iconst 1, 1) := dk_4 (dk_at dksX8_votes_0 21 rfl rfl)
theorem dX8_votes_22 : decode cX8_votes 22 = .ok (.invokevirtual 124, 3) := dk_182 0 124 (dk_at dksX8_votes_1 0 rfl rfl)
theorem dX8_votes_25 : decode cX8_votes 25 = .ok (.ifCond .ne 38, 3) := dk_154 0 38 (dk_at dksX8_votes_1 3 rfl rfl)
theorem dX8_votes_28 : decode cX8_votes 28 = .ok (.aload_n 0, 1) := dk_42 (dk_at dksX8_votes_1 6 rfl rfl)
theorem dX8_votes_29 : decode cX8_votes 29 = .ok (.iload_n 3, 1) := dk_29 (dk_at dksX8_votes_1 7 rfl rfl)
theorem dX8_votes_30 : decode cX8_votes 30 = .ok (.iconst 0, 1) := dk_3 (dk_at dksX8_votes_1 8 rfl rfl)
theorem dX8_votes_31 : decode cX8_votes 31 = .ok (.sipush 9999, 3) := dk_17 39 15 (dk_at dksX8_votes_1 9 rfl rfl)
theorem dX8_votes_34 : decode cX8_votes 34 = .ok (.invokestatic 60, 3) := dk_184 0 60 (dk_at dksX8_votes_1 12 rfl rfl)
theorem dX8_votes_37 : decode cX8_votes 37 = .ok (.ifCond .eq 14, 3) := dk_153 0 14 (dk_at dksX8_votes_1 15 rfl rfl)
theorem dX8_votes_40 : decode cX8_votes 40 = .ok (.iload 4, 2) := dk_21 4 (dk_at dksX8_votes_1 18 rfl rfl)
theorem dX8_votes_42 : decode cX8_votes 42 = .ok (.iconst 0, 1) := dk_3 (dk_at dksX8_votes_1 20 rfl rfl)
theorem dX8_votes_43 : decode cX8_votes 43 = .ok (.bipush 7, 2) := dk_16 7 (dk_at dksX8_votes_1 21 rfl rfl)
theorem dX8_votes_45 : decode cX8_votes 45 = .ok (.invokestatic 60, 3) := dk_184 0 60 (dk_at dksX8_votes_2 0 rfl rfl)
theorem dX8_votes_48 : decode cX8_votes 48 = .ok (.ifCond .ne 7, 3) := dk_154 0 7 (dk_at dksX8_votes_2 3 rfl rfl)
theorem dX8_votes_51 : decode cX8_votes 51 = .ok (.iconst 1, 1) := dk_4 (dk_at dksX8_votes_2 6 rfl rfl)
theorem dX8_votes_52 : decode cX8_votes 52 = .ok (.goto 4, 3) := dk_167 0 4 (dk_at dksX8_votes_2 7 rfl rfl)
theorem dX8_votes_55 : decode cX8_votes 55 = .ok (.iconst 0, 1) := dk_3 (dk_at dksX8_votes_2 10 rfl rfl)
theorem dX8_votes_56 : decode cX8_votes 56 = .ok (.iconst 2, 1) := dk_5 (dk_at dksX8_votes_2 11 rfl rfl)
theorem dX8_votes_57 : decode cX8_votes 57 = .ok (.invokevirtual 52, 3) := dk_182 0 52 (dk_at dksX8_votes_2 12 rfl rfl)
theorem dX8_votes_60 : decode cX8_votes 60 = .ok (.ifCond .eq 5, 3) := dk_153 0 5 (dk_at dksX8_votes_2 15 rfl rfl)
theorem dX8_votes_63 : decode cX8_votes 63 = .ok (.iconst 0, 1) := dk_3 (dk_at dksX8_votes_2 18 rfl rfl)
theorem dX8_votes_64 : decode cX8_votes 64 = .ok (.ireturn, 1) := dk_172 (dk_at dksX8_votes_2 19 rfl rfl)
theorem dX8_votes_65 : decode cX8_votes 65 = .ok (.aload_n 0, 1) := dk_42 (dk_at dksX8_votes_2 20 rfl rfl)
theorem dX8_votes_66 : decode cX8_votes 66 = .ok (.iload_n 1, 1) := dk_27 (dk_at dksX8_votes_2 21 rfl rfl)
theorem dX8_votes_67 : decode cX8_votes 67 = .ok (.iload_n 2, 1) := dk_28 (dk_at dksX8_votes_2 22 rfl rfl)
theorem dX8_votes_68 : decode cX8_votes 68 = .ok (.iconst 1, 1) := dk_4 (dk_at dksX8_votes_2 23 rfl rfl)
theorem dX8_votes_69 : decode cX8_votes 69 = .ok (.invokevirtual 336, 3) := dk_182 1 80 (dk_at dksX8_votes_3 0 rfl rfl)
theorem dX8_votes_72 : decode cX8_votes 72 = .ok (.istore 5, 2) := dk_54 5 (dk_at dksX8_votes_3 3 rfl rfl)
theorem dX8_votes_74 : decode cX8_votes 74 = .ok (.aload_n 0, 1) := dk_42 (dk_at dksX8_votes_3 5 rfl rfl)
theorem dX8_votes_75 : decode cX8_votes 75 = .ok (.iload_n 3, 1) := dk_29 (dk_at dksX8_votes_3 6 rfl rfl)
theorem dX8_votes_76 : decode cX8_votes 76 = .ok (.iload 5, 2) := dk_21 5 (dk_at dksX8_votes_3 7 rfl rfl)
theorem dX8_votes_78 : decode cX8_votes 78 = .ok (.isub, 1) := dk_100 (dk_at dksX8_votes_3 9 rfl rfl)
theorem dX8_votes_79 : decode cX8_votes 79 = .ok (.iload 5, 2) := dk_21 5 (dk_at dksX8_votes_3 10 rfl rfl)
theorem dX8_votes_81 : decode cX8_votes 81 = .ok (.iload 4, 2) := dk_21 4 (dk_at dksX8_votes_3 12 rfl rfl)
theorem dX8_votes_83 : decode cX8_votes 83 = .ok (.invokevirtual 296, 3) := dk_182 1 40 (dk_at dksX8_votes_3 14 rfl rfl)
theorem dX8_votes_86 : decode cX8_votes 86 = .ok (.ireturn, 1) := dk_172 (dk_at dksX8_votes_3 17 rfl rfl)
abbrev cX8_harvest : ByteArray := prog_19_method_83_code
def yX8_harvest : MethodName := ⟨RX8, "harvest", "(II)I"⟩
def dkwX8_harvest_2 : List UInt8 := [192, 0, 68, 28, 184, 1, 105, 172]
abbrev dktX8_harvest_2 : List UInt8 := dkwX8_harvest_2 ++ []
def dkwX8_harvest_1 : List UInt8 := [4, 167, 0, 4, 3, 5, 182, 0, 52, 153, 0, 7, 3, 167, 0, 18, 42, 180, 0, 16, 27, 182, 0, 78]
abbrev dktX8_harvest_1 : List UInt8 := dkwX8_harvest_1 ++ dktX8_harvest_2
def dkwX8_harvest_0 : List UInt8 := [42, 42, 27, 182, 0, 142, 4, 182, 0, 124, 154, 0, 26, 42, 28, 3, 16, 10, 184, 0, 60, 154, 0, 7]
abbrev dktX8_harvest_0 : List UInt8 := dkwX8_harvest_0 ++ dktX8_harvest_1
theorem dksX8_harvest_0 : cX8_harvest.data.toList.drop 0 = dktX8_harvest_0 := by decide +kernel
theorem dksX8_harvest_1 : cX8_harvest.data.toList.drop 24 = dktX8_harvest_1 := dk_seg dksX8_harvest_0 24 rfl rfl
theorem dksX8_harvest_2 : cX8_harvest.data.toList.drop 48 = dktX8_harvest_2 := dk_seg dksX8_harvest_1 24 rfl rfl
theorem dX8_harvest_0 : decode cX8_harvest 0 = .ok (.aload_n 0, 1) := dk_42 (dk_at dksX8_harvest_0 0 rfl rfl)
theorem dX8_harvest_1 : decode cX8_harvest 1 = .ok (.aload_n 0, 1) := dk_42 (dk_at dksX8_harvest_0 1 rfl rfl)
theorem dX8_harvest_2 : decode cX8_harvest 2 = .ok (.iload_n 1, 1) := dk_27 (dk_at dksX8_harvest_0 2 rfl rfl)
theorem dX8_harvest_3 : decode cX8_harvest 3 = .ok (.invokevirtual 142, 3) := dk_182 0 142 (dk_at dksX8_harvest_0 3 rfl rfl)
theorem dX8_harvest_6 : decode cX8_harvest 6 = .ok (.iconst 1, 1) := dk_4 (dk_at dksX8_harvest_0 6 rfl rfl)
theorem dX8_harvest_7 : decode cX8_harvest 7 = .ok (.invokevirtual 124, 3) := dk_182 0 124 (dk_at dksX8_harvest_0 7 rfl rfl)
theorem dX8_harvest_10 : decode cX8_harvest 10 = .ok (.ifCond .ne 26, 3) := dk_154 0 26 (dk_at dksX8_harvest_0 10 rfl rfl)
theorem dX8_harvest_13 : decode cX8_harvest 13 = .ok (.aload_n 0, 1) := dk_42 (dk_at dksX8_harvest_0 13 rfl rfl)
theorem dX8_harvest_14 : decode cX8_harvest 14 = .ok (.iload_n 2, 1) := dk_28 (dk_at dksX8_harvest_0 14 rfl rfl)
theorem dX8_harvest_15 : decode cX8_harvest 15 = .ok (.iconst 0, 1) := dk_3 (dk_at dksX8_harvest_0 15 rfl rfl)
theorem dX8_harvest_16 : decode cX8_harvest 16 = .ok (.bipush 10, 2) := dk_16 10 (dk_at dksX8_harvest_0 16 rfl rfl)
theorem dX8_harvest_18 : decode cX8_harvest 18 = .ok (.invokestatic 60, 3) := dk_184 0 60 (dk_at dksX8_harvest_0 18 rfl rfl)
theorem dX8_harvest_21 : decode cX8_harvest 21 = .ok (.ifCond .ne 7, 3) := dk_154 0 7 (dk_at dksX8_harvest_0 21 rfl rfl)
theorem dX8_harvest_24 : decode cX8_harvest 24 = .ok (.iconst 1, 1) := dk_4 (dk_at dksX8_harvest_1 0 rfl rfl)
theorem dX8_harvest_25 : decode cX8_harvest 25 = .ok (.goto 4, 3) := dk_167 0 4 (dk_at dksX8_harvest_1 1 rfl rfl)
theorem dX8_harvest_28 : decode cX8_harvest 28 = .ok (.iconst 0, 1) := dk_3 (dk_at dksX8_harvest_1 4 rfl rfl)
theorem dX8_harvest_29 : decode cX8_harvest 29 = .ok (.iconst 2, 1) := dk_5 (dk_at dksX8_harvest_1 5 rfl rfl)
theorem dX8_harvest_30 : decode cX8_harvest 30 = .ok (.invokevirtual 52, 3) := dk_182 0 52 (dk_at dksX8_harvest_1 6 rfl rfl)
theorem dX8_harvest_33 : decode cX8_harvest 33 = .ok (.ifCond .eq 7, 3) := dk_153 0 7 (dk_at dksX8_harvest_1 9 rfl rfl)
theorem dX8_harvest_36 : decode cX8_harvest 36 = .ok (.iconst 0, 1) := dk_3 (dk_at dksX8_harvest_1 12 rfl rfl)
theorem dX8_harvest_37 : decode cX8_harvest 37 = .ok (.goto 18, 3) := dk_167 0 18 (dk_at dksX8_harvest_1 13 rfl rfl)
theorem dX8_harvest_40 : decode cX8_harvest 40 = .ok (.aload_n 0, 1) := dk_42 (dk_at dksX8_harvest_1 16 rfl rfl)
theorem dX8_harvest_41 : decode cX8_harvest 41 = .ok (.getfield 16, 3) := dk_180 0 16 (dk_at dksX8_harvest_1 17 rfl rfl)
theorem dX8_harvest_44 : decode cX8_harvest 44 = .ok (.iload_n 1, 1) := dk_27 (dk_at dksX8_harvest_1 20 rfl rfl)
theorem dX8_harvest_45 : decode cX8_harvest 45 = .ok (.invokevirtual 78, 3) := dk_182 0 78 (dk_at dksX8_harvest_1 21 rfl rfl)
theorem dX8_harvest_48 : decode cX8_harvest 48 = .ok (.checkcast 68, 3) := dk_192 0 68 (dk_at dksX8_harvest_2 0 rfl rfl)
theorem dX8_harvest_51 : decode cX8_harvest 51 = .ok (.iload_n 2, 1) := dk_28 (dk_at dksX8_harvest_2 3 rfl rfl)
theorem dX8_harvest_52 : decode cX8_harvest 52 = .ok (.invokestatic 361, 3) := dk_184 1 105 (dk_at dksX8_harvest_2 4 rfl rfl)
theorem dX8_harvest_55 : decode cX8_harvest 55 = .ok (.ireturn, 1) := dk_172 (dk_at dksX8_harvest_2 7 rfl rfl)
abbrev cX8_direct : ByteArray := prog_19_method_85_code
def yX8_direct : MethodName := ⟨RX8, "direct", "(I)I"⟩
def dkwX8_direct_0 : List UInt8 := [42, 27, 184, 0, 149, 4, 182, 0, 124, 153, 0, 7, 3, 167, 0, 8, 42, 27, 182, 1, 184, 172]
abbrev dktX8_direct_0 : List UInt8 := dkwX8_direct_0 ++ []
theorem dksX8_direct_0 : cX8_direct.data.toList.drop 0 = dktX8_direct_0 := by decide +kernel
theorem dX8_direct_0 : decode cX8_direct 0 = .ok (.aload_n 0, 1) := dk_42 (dk_at dksX8_direct_0 0 rfl rfl)
theorem dX8_direct_1 : decode cX8_direct 1 = .ok (.iload_n 1, 1) := dk_27 (dk_at dksX8_direct_0 1 rfl rfl)
theorem dX8_direct_2 : decode cX8_direct 2 = .ok (.invokestatic 149, 3) := dk_184 0 149 (dk_at dksX8_direct_0 2 rfl rfl)
theorem dX8_direct_5 : decode cX8_direct 5 = .ok (.iconst 1, 1) := dk_4 (dk_at dksX8_direct_0 5 rfl rfl)
theorem dX8_direct_6 : decode cX8_direct 6 = .ok (.invokevirtual 124, 3) := dk_182 0 124 (dk_at dksX8_direct_0 6 rfl rfl)
theorem dX8_direct_9 : decode cX8_direct 9 = .ok (.ifCond .eq 7, 3) := dk_153 0 7 (dk_at dksX8_direct_0 9 rfl rfl)
theorem dX8_direct_12 : decode cX8_direct 12 = .ok (.iconst 0, 1) := dk_3 (dk_at dksX8_direct_0 12 rfl rfl)
theorem dX8_direct_13 : decode cX8_direct 13 = .ok (.goto 8, 3) := dk_167 0 8 (dk_at dksX8_direct_0 13 rfl rfl)
theorem dX8_direct_16 : decode cX8_direct 16 = .ok (.aload_n 0, 1) := dk_42 (dk_at dksX8_direct_0 16 rfl rfl)
theorem dX8_direct_17 : decode cX8_direct 17 = .ok (.iload_n 1, 1) := dk_27 (dk_at dksX8_direct_0 17 rfl rfl)
theorem dX8_direct_18 : decode cX8_direct 18 = .ok (.invokevirtual 440, 3) := dk_182 1 184 (dk_at dksX8_direct_0 18 rfl rfl)
theorem dX8_direct_21 : decode cX8_direct 21 = .ok (.ireturn, 1) := dk_172 (dk_at dksX8_direct_0 21 rfl rfl)
abbrev cX8_directNow : ByteArray := prog_19_method_84_code
def yX8_directNow : MethodName := ⟨RX8, "directNow", "(I)I"⟩
def dkwX8_directNow_2 : List UInt8 := [27, 154, 0, 7, 5, 167, 0, 4, 4, 104, 7, 100, 96, 61, 132, 3, 1, 167, 255, 195, 28, 172]
abbrev dktX8_directNow_2 : List UInt8 := dkwX8_directNow_2 ++ []
def dkwX8_directNow_1 : List UInt8 := [42, 180, 0, 16, 29, 182, 0, 78, 192, 0, 68, 180, 1, 73, 154, 0, 24, 28, 42, 29, 27, 182, 1, 99]
abbrev dktX8_directNow_1 : List UInt8 := dkwX8_directNow_1 ++ dktX8_directNow_2
def dkwX8_directNow_0 : List UInt8 := [3, 61, 3, 62, 29, 42, 180, 0, 16, 182, 0, 56, 162, 0, 56, 42, 27, 29, 182, 1, 96, 154, 0, 41]
abbrev dktX8_directNow_0 : List UInt8 := dkwX8_directNow_0 ++ dktX8_directNow_1
theorem dksX8_directNow_0 : cX8_directNow.data.toList.drop 0 = dktX8_directNow_0 := by decide +kernel
theorem dksX8_directNow_1 : cX8_directNow.data.toList.drop 24 = dktX8_directNow_1 := dk_seg dksX8_directNow_0 24 rfl rfl
theorem dksX8_directNow_2 : cX8_directNow.data.toList.drop 48 = dktX8_directNow_2 := dk_seg dksX8_directNow_1 24 rfl rfl
theorem dX8_directNow_0 : decode cX8_directNow 0 = .ok (.iconst 0, 1) := dk_3 (dk_at dksX8_directNow_0 0 rfl rfl)
theorem dX8_directNow_1 : decode cX8_directNow 1 = .ok (.istore_n 2, 1) := dk_61 (dk_at dksX8_directNow_0 1 rfl rfl)
theorem dX8_directNow_2 : decode cX8_directNow 2 = .ok (.iconst 0, 1) := dk_3 (dk_at dksX8_directNow_0 2 rfl rfl)
theorem dX8_directNow_3 : decode cX8_directNow 3 = .ok (.istore_n 3, 1) := dk_62 (dk_at dksX8_directNow_0 3 rfl rfl)
theorem dX8_directNow_4 : decode cX8_directNow 4 = .ok (.iload_n 3, 1) := dk_29 (dk_at dksX8_directNow_0 4 rfl rfl)
theorem dX8_directNow_5 : decode cX8_directNow 5 = .ok (.aload_n 0, 1) := dk_42 (dk_at dksX8_directNow_0 5 rfl rfl)
theorem dX8_directNow_6 : decode cX8_directNow 6 = .ok (.getfield 16, 3) := dk_180 0 16 (dk_at dksX8_directNow_0 6 rfl rfl)
theorem dX8_directNow_9 : decode cX8_directNow 9 = .ok (.invokevirtual 56, 3) := dk_182 0 56 (dk_at dksX8_directNow_0 9 rfl rfl)
theorem dX8_directNow_12 : decode cX8_directNow 12 = .ok (.if_icmp .ge 56, 3) := dk_162 0 56 (dk_at dksX8_directNow_0 12 rfl rfl)
theorem dX8_directNow_15 : decode cX8_directNow 15 = .ok (.aload_n 0, 1) := dk_42 (dk_at dksX8_directNow_0 15 rfl rfl)
theorem dX8_directNow_16 : decode cX8_directNow 16 = .ok (.iload_n 1, 1) := dk_27 (dk_at dksX8_directNow_0 16 rfl rfl)
theorem dX8_directNow_17 : decode cX8_directNow 17 = .ok (.iload_n 3, 1) := dk_29 (dk_at dksX8_directNow_0 17 rfl rfl)
theorem dX8_directNow_18 : decode cX8_directNow 18 = .ok (.invokevirtual 352, 3) := dk_182 1 96 (dk_at dksX8_directNow_0 18 rfl rfl)
theorem dX8_directNow_21 : decode cX8_directNow 21 = .ok (.ifCond .ne 41, 3) := dk_154 0 41 (dk_at dksX8_directNow_0 21 rfl rfl)
theorem dX8_directNow_24 : decode cX8_directNow 24 = .ok (.aload_n 0, 1) := dk_42 (dk_at dksX8_directNow_1 0 rfl rfl)
theorem dX8_directNow_25 : decode cX8_directNow 25 = .ok (.getfield 16, 3) := dk_180 0 16 (dk_at dksX8_directNow_1 1 rfl rfl)
theorem dX8_directNow_28 : decode cX8_directNow 28 = .ok (.iload_n 3, 1) := dk_29 (dk_at dksX8_directNow_1 4 rfl rfl)
theorem dX8_directNow_29 : decode cX8_directNow 29 = .ok (.invokevirtual 78, 3) := dk_182 0 78 (dk_at dksX8_directNow_1 5 rfl rfl)
theorem dX8_directNow_32 : decode cX8_directNow 32 = .ok (.checkcast 68, 3) := dk_192 0 68 (dk_at dksX8_directNow_1 8 rfl rfl)
theorem dX8_directNow_35 : decode cX8_directNow 35 = .ok (.getfield 329, 3) := dk_180 1 73 (dk_at dksX8_directNow_1 11 rfl rfl)
theorem dX8_directNow_38 : decode cX8_directNow 38 = .ok (.ifCond .ne 24, 3) := dk_154 0 24 (dk_at dksX8_directNow_1 14 rfl rfl)
theorem dX8_directNow_41 : decode cX8_directNow 41 = .ok (.iload_n 2, 1) := dk_28 (dk_at dksX8_directNow_1 17 rfl rfl)
theorem dX8_directNow_42 : decode cX8_directNow 42 = .ok (.aload_n 0, 1) := dk_42 (dk_at dksX8_directNow_1 18 rfl rfl)
theorem dX8_directNow_43 : decode cX8_directNow 43 = .ok (.iload_n 3, 1) := dk_29 (dk_at dksX8_directNow_1 19 rfl rfl)
theorem dX8_directNow_44 : decode cX8_directNow 44 = .ok (.iload_n 1, 1) := dk_27 (dk_at dksX8_directNow_1 20 rfl rfl)
theorem dX8_directNow_45 : decode cX8_directNow 45 = .ok (.invokevirtual 355, 3) := dk_182 1 99 (dk_at dksX8_directNow_1 21 rfl rfl)
theorem dX8_directNow_48 : decode cX8_directNow 48 = .ok (.iload_n 1, 1) := dk_27 (dk_at dksX8_directNow_2 0 rfl rfl)
theorem dX8_directNow_49 : decode cX8_directNow 49 = .ok (.ifCond .ne 7, 3) := dk_154 0 7 (dk_at dksX8_directNow_2 1 rfl rfl)
theorem dX8_directNow_52 : decode cX8_directNow 52 = .ok (.iconst 2, 1) := dk_5 (dk_at dksX8_directNow_2 4 rfl rfl)
theorem dX8_directNow_53 : decode cX8_directNow 53 = .ok (.goto 4, 3) := dk_167 0 4 (dk_at dksX8_directNow_2 5 rfl rfl)
theorem dX8_directNow_56 : decode cX8_directNow 56 = .ok (.iconst 1, 1) := dk_4 (dk_at dksX8_directNow_2 8 rfl rfl)
theorem dX8_directNow_57 : decode cX8_directNow 57 = .ok (.imul, 1) := dk_104 (dk_at dksX8_directNow_2 9 rfl rfl)
theorem dX8_directNow_58 : decode cX8_directNow 58 = .ok (.iconst 4, 1) := dk_7 (dk_at dksX8_directNow_2 10 rfl rfl)
theorem dX8_directNow_59 : decode cX8_directNow 59 = .ok (.isub, 1) := dk_100 (dk_at dksX8_directNow_2 11 rfl rfl)
theorem dX8_directNow_60 : decode cX8_directNow 60 = .ok (.iadd, 1) := dk_96 (dk_at dksX8_directNow_2 12 rfl rfl)
theorem dX8_directNow_61 : decode cX8_directNow 61 = .ok (.istore_n 2, 1) := dk_61 (dk_at dksX8_directNow_2 13 rfl rfl)
theorem dX8_directNow_62 : decode cX8_directNow 62 = .ok (.iinc 3 1, 3) := dk_132 3 1 (dk_at dksX8_directNow_2 14 rfl rfl)
theorem dX8_directNow_65 : decode cX8_directNow 65 = .ok (.goto (-61), 3) := dk_167 255 195 (dk_at dksX8_directNow_2 17 rfl rfl)
theorem dX8_directNow_68 : decode cX8_directNow 68 = .ok (.iload_n 2, 1) := dk_28 (dk_at dksX8_directNow_2 20 rfl rfl)
theorem dX8_directNow_69 : decode cX8_directNow 69 = .ok (.ireturn, 1) := dk_172 (dk_at dksX8_directNow_2 21 rfl rfl)
abbrev cX8_wouldWin : ByteArray := prog_19_method_86_code
def yX8_wouldWin : MethodName := ⟨RX8, "wouldWin", "(I)I"⟩
def dkwX8_wouldWin_2 : List UInt8 := [167, 0, 19, 42, 42, 180, 0, 23, 27, 182, 0, 78, 192, 0, 208, 2, 182, 1, 2, 172]
abbrev dktX8_wouldWin_2 : List UInt8 := dkwX8_wouldWin_2 ++ []
def dkwX8_wouldWin_1 : List UInt8 := [192, 0, 208, 180, 0, 210, 153, 0, 7, 4, 167, 0, 4, 3, 5, 182, 0, 52, 153, 0, 7, 3]
abbrev dktX8_wouldWin_1 : List UInt8 := dkwX8_wouldWin_1 ++ dktX8_wouldWin_2
def dkwX8_wouldWin_0 : List UInt8 := [42, 42, 27, 182, 0, 241, 4, 182, 0, 124, 154, 0, 33, 42, 42, 180, 0, 23, 27, 182, 0, 78]
abbrev dktX8_wouldWin_0 : List UInt8 := dkwX8_wouldWin_0 ++ dktX8_wouldWin_1
theorem dksX8_wouldWin_0 : cX8_wouldWin.data.toList.drop 0 = dktX8_wouldWin_0 := by decide +kernel
theorem dksX8_wouldWin_1 : cX8_wouldWin.data.toList.drop 22 = dktX8_wouldWin_1 := dk_seg dksX8_wouldWin_0 22 rfl rfl
theorem dksX8_wouldWin_2 : cX8_wouldWin.data.toList.drop 44 = dktX8_wouldWin_2 := dk_seg dksX8_wouldWin_1 22 rfl rfl
theorem dX8_wouldWin_0 : decode cX8_wouldWin 0 = .ok (.aload_n 0, 1) := dk_42 (dk_at dksX8_wouldWin_0 0 rfl rfl)
theorem dX8_wouldWin_1 : decode cX8_wouldWin 1 = .ok (.aload_n 0, 1) := dk_42 (dk_at dksX8_wouldWin_0 1 rfl rfl)
theorem dX8_wouldWin_2 : decode cX8_wouldWin 2 = .ok (.iload_n 1, 1) := dk_27 (dk_at dksX8_wouldWin_0 2 rfl rfl)
theorem dX8_wouldWin_3 : decode cX8_wouldWin 3 = .ok (.invokevirtual 241, 3) := dk_182 0 241 (dk_at dksX8_wouldWin_0 3 rfl rfl)
theorem dX8_wouldWin_6 : decode cX8_wouldWin 6 = .ok (.iconst 1, 1) := dk_4 (dk_at dksX8_wouldWin_0 6 rfl rfl)
theorem dX8_wouldWin_7 : decode cX8_wouldWin 7 = .ok (.invokevirtual 124, 3) := dk_182 0 124 (dk_at dksX8_wouldWin_0 7 rfl rfl)
theorem dX8_wouldWin_10 : decode cX8_wouldWin 10 = .ok (.ifCond .ne 33, 3) := dk_154 0 33 (dk_at dksX8_wouldWin_0 10 rfl rfl)
theorem dX8_wouldWin_13 : decode cX8_wouldWin 13 = .ok (.aload_n 0, 1) := dk_42 (dk_at dksX8_wouldWin_0 13 rfl rfl)
theorem dX8_wouldWin_14 : decode cX8_wouldWin 14 = .ok (.aload_n 0, 1) := dk_42 (dk_at dksX8_wouldWin_0 14 rfl rfl)
theorem dX8_wouldWin_15 : decode cX8_wouldWin 15 = .ok (.getfield 23, 3) := dk_180 0 23 (dk_at dksX8_wouldWin_0 15 rfl rfl)
theorem dX8_wouldWin_18 : decode cX8_wouldWin 18 = .ok (.iload_n 1, 1) := dk_27 (dk_at dksX8_wouldWin_0 18 rfl rfl)
theorem dX8_wouldWin_19 : decode cX8_wouldWin 19 = .ok (.invokevirtual 78, 3) := dk_182 0 78 (dk_at dksX8_wouldWin_0 19 rfl rfl)
theorem dX8_wouldWin_22 : decode cX8_wouldWin 22 = .ok (.checkcast 208, 3) := dk_192 0 208 (dk_at dksX8_wouldWin_1 0 rfl rfl)
theorem dX8_wouldWin_25 : decode cX8_wouldWin 25 = .ok (.getfield 210, 3) := dk_180 0 210 (dk_at dksX8_wouldWin_1 3 rfl rfl)
theorem dX8_wouldWin_28 : decode cX8_wouldWin 28 = .ok (.ifCond .eq 7, 3) := dk_153 0 7 (dk_at dksX8_wouldWin_1 6 rfl rfl)
theorem dX8_wouldWin_31 : decode cX8_wouldWin 31 = .ok (.iconst 1, 1) := dk_4 (dk_at dksX8_wouldWin_1 9 rfl rfl)
theorem dX8_wouldWin_32 : decode cX8_wouldWin 32 = .ok (.goto 4, 3) := dk_167 0 4 (dk_at dksX8_wouldWin_1 10 rfl rfl)
theorem dX8_wouldWin_35 : decode cX8_wouldWin 35 = .ok (.iconst 0, 1) := dk_3 (dk_at dksX8_wouldWin_1 13 rfl rfl)
theorem dX8_wouldWin_36 : decode cX8_wouldWin 36 = .ok (.iconst 2, 1) := dk_5 (dk_at dksX8_wouldWin_1 14 rfl rfl)
theorem dX8_wouldWin_37 : decode cX8_wouldWin 37 = .ok (.invokevirtual 52, 3) := dk_182 0 52 (dk_at dksX8_wouldWin_1 15 rfl rfl)
theorem dX8_wouldWin_40 : decode cX8_wouldWin 40 = .ok (.ifCond .eq 7, 3) := dk_153 0 7 (dk_at dksX8_wouldWin_1 18 rfl rfl)
theorem dX8_wouldWin_43 : decode cX8_wouldWin 43 = .ok (.iconst 0, 1) := dk_3 (dk_at dksX8_wouldWin_1 21 rfl rfl)
theorem dX8_wouldWin_44 : decode cX8_wouldWin 44 = .ok (.goto 19, 3) := dk_167 0 19 (dk_at dksX8_wouldWin_2 0 rfl rfl)
theorem dX8_wouldWin_47 : decode cX8_wouldWin 47 = .ok (.aload_n 0, 1) := dk_42 (dk_at dksX8_wouldWin_2 3 rfl rfl)
theorem dX8_wouldWin_48 : decode cX8_wouldWin 48 = .ok (.aload_n 0, 1) := dk_42 (dk_at dksX8_wouldWin_2 4 rfl rfl)
theorem dX8_wouldWin_49 : decode cX8_wouldWin 49 = .ok (.getfield 23, 3) := dk_180 0 23 (dk_at dksX8_wouldWin_2 5 rfl rfl)
theorem dX8_wouldWin_52 : decode cX8_wouldWin 52 = .ok (.iload_n 1, 1) := dk_27 (dk_at dksX8_wouldWin_2 8 rfl rfl)
theorem dX8_wouldWin_53 : decode cX8_wouldWin 53 = .ok (.invokevirtual 78, 3) := dk_182 0 78 (dk_at dksX8_wouldWin_2 9 rfl rfl)
theorem dX8_wouldWin_56 : decode cX8_wouldWin 56 = .ok (.checkcast 208, 3) := dk_192 0 208 (dk_at dksX8_wouldWin_2 12 rfl rfl)
theorem dX8_wouldWin_59 : decode cX8_wouldWin 59 = .ok (.iconst (-1), 1) := dk_2 (dk_at dksX8_wouldWin_2 15 rfl rfl)
theorem dX8_wouldWin_60 : decode cX8_wouldWin 60 = .ok (.invokevirtual 258, 3) := dk_182 1 2 (dk_at dksX8_wouldWin_2 16 rfl rfl)
theorem dX8_wouldWin_63 : decode cX8_wouldWin 63 = .ok (.ireturn, 1) := dk_172 (dk_at dksX8_wouldWin_2 19 rfl rfl)
abbrev cX8_isSound : ByteArray := prog_19_method_88_code
def yX8_isSound : MethodName := ⟨RX8, "isSound", "()Z"⟩
def dkwX8_isSound_0 : List UInt8 := [42, 3, 181, 0, 49, 42, 182, 1, 187, 172]
abbrev dktX8_isSound_0 : List UInt8 := dkwX8_isSound_0 ++ []
theorem dksX8_isSound_0 : cX8_isSound.data.toList.drop 0 = dktX8_isSound_0 := by decide +kernel
theorem dX8_isSound_0 : decode cX8_isSound 0 = .ok (.aload_n 0, 1) := dk_42 (dk_at dksX8_isSound_0 0 rfl rfl)
theorem dX8_isSound_1 : decode cX8_isSound 1 = .ok (.iconst 0, 1) := dk_3 (dk_at dksX8_isSound_0 1 rfl rfl)
theorem dX8_isSound_2 : decode cX8_isSound 2 = .ok (.putfield 49, 3) := dk_181 0 49 (dk_at dksX8_isSound_0 2 rfl rfl)
theorem dX8_isSound_5 : decode cX8_isSound 5 = .ok (.aload_n 0, 1) := dk_42 (dk_at dksX8_isSound_0 5 rfl rfl)
theorem dX8_isSound_6 : decode cX8_isSound 6 = .ok (.invokevirtual 443, 3) := dk_182 1 187 (dk_at dksX8_isSound_0 6 rfl rfl)
theorem dX8_isSound_9 : decode cX8_isSound 9 = .ok (.ireturn, 1) := dk_172 (dk_at dksX8_isSound_0 9 rfl rfl)
abbrev cX8_isSoundNow : ByteArray := prog_19_method_87_code
def yX8_isSoundNow : MethodName := ⟨RX8, "isSoundNow", "()Z"⟩
def dkwX8_isSoundNow_15 : List UInt8 := [153, 0, 13, 31, 9, 148, 154, 0, 7, 4, 167, 0, 4, 3, 172]
abbrev dktX8_isSoundNow_15 : List UInt8 := dkwX8_isSoundNow_15 ++ []
def dkwX8_isSoundNow_14 : List UInt8 := [154, 0, 7, 4, 167, 0, 4, 3, 126, 62, 132, 6, 1, 167, 255, 163, 132, 4, 1, 167, 255, 81, 29]
abbrev dktX8_isSoundNow_14 : List UInt8 := dkwX8_isSoundNow_14 ++ dktX8_isSoundNow_15
def dkwX8_isSoundNow_13 : List UInt8 := [160, 0, 27, 25, 5, 180, 0, 216, 42, 180, 0, 23, 21, 6, 182, 0, 78, 192, 0, 208, 180, 0, 216, 126]
abbrev dktX8_isSoundNow_13 : List UInt8 := dkwX8_isSoundNow_13 ++ dktX8_isSoundNow_14
def dkwX8_isSoundNow_12 : List UInt8 := [4, 163, 0, 50, 25, 5, 180, 0, 213, 42, 180, 0, 23, 21, 6, 182, 0, 78, 192, 0, 208, 180, 0, 213]
abbrev dktX8_isSoundNow_12 : List UInt8 := dkwX8_isSoundNow_12 ++ dktX8_isSoundNow_13
def dkwX8_isSoundNow_11 : List UInt8 := [25, 5, 180, 0, 210, 4, 163, 0, 69, 42, 180, 0, 23, 21, 6, 182, 0, 78, 192, 0, 208, 180, 0, 210]
abbrev dktX8_isSoundNow_11 : List UInt8 := dkwX8_isSoundNow_11 ++ dktX8_isSoundNow_12
def dkwX8_isSoundNow_10 : List UInt8 := [180, 0, 244, 154, 0, 7, 4, 167, 0, 4, 3, 126, 62, 3, 54, 6, 21, 6, 21, 4, 162, 0, 92, 29]
abbrev dktX8_isSoundNow_10 : List UInt8 := dkwX8_isSoundNow_10 ++ dktX8_isSoundNow_11
def dkwX8_isSoundNow_9 : List UInt8 := [25, 5, 180, 0, 228, 2, 159, 0, 28, 42, 180, 0, 20, 25, 5, 180, 0, 228, 182, 0, 78, 192, 0, 152]
abbrev dktX8_isSoundNow_9 : List UInt8 := dkwX8_isSoundNow_9 ++ dktX8_isSoundNow_10
def dkwX8_isSoundNow_8 : List UInt8 := [180, 0, 23, 21, 4, 182, 0, 78, 192, 0, 208, 58, 5, 25, 5, 180, 0, 210, 4, 160, 0, 41, 29]
abbrev dktX8_isSoundNow_8 : List UInt8 := dkwX8_isSoundNow_8 ++ dktX8_isSoundNow_9
def dkwX8_isSoundNow_7 : List UInt8 := [62, 132, 4, 1, 167, 255, 187, 3, 54, 4, 21, 4, 42, 180, 0, 23, 182, 0, 56, 162, 0, 169, 42]
abbrev dktX8_isSoundNow_7 : List UInt8 := dkwX8_isSoundNow_7 ++ dktX8_isSoundNow_8
def dkwX8_isSoundNow_6 : List UInt8 := [192, 0, 152, 180, 0, 176, 155, 0, 16, 42, 21, 4, 182, 0, 247, 155, 0, 7, 4, 167, 0, 4, 3, 126]
abbrev dktX8_isSoundNow_6 : List UInt8 := dkwX8_isSoundNow_6 ++ dktX8_isSoundNow_7
def dkwX8_isSoundNow_5 : List UInt8 := [21, 4, 182, 0, 78, 192, 0, 152, 180, 0, 176, 133, 97, 64, 29, 42, 180, 0, 20, 21, 4, 182, 0, 78]
abbrev dktX8_isSoundNow_5 : List UInt8 := dkwX8_isSoundNow_5 ++ dktX8_isSoundNow_6
def dkwX8_isSoundNow_4 : List UInt8 := [62, 167, 255, 209, 3, 54, 4, 21, 4, 42, 180, 0, 20, 182, 0, 56, 162, 0, 63, 31, 42, 180, 0, 20]
abbrev dktX8_isSoundNow_4 : List UInt8 := dkwX8_isSoundNow_4 ++ dktX8_isSoundNow_5
def dkwX8_isSoundNow_3 : List UInt8 := [31, 25, 5, 180, 1, 59, 133, 97, 64, 29, 25, 5, 180, 1, 59, 155, 0, 7, 4, 167, 0, 4, 3, 126]
abbrev dktX8_isSoundNow_3 : List UInt8 := dkwX8_isSoundNow_3 ++ dktX8_isSoundNow_4
def dkwX8_isSoundNow_2 : List UInt8 := [58, 4, 25, 4, 185, 0, 199, 1, 0, 153, 0, 43, 25, 4, 185, 0, 204, 1, 0, 192, 0, 68, 58, 5]
abbrev dktX8_isSoundNow_2 : List UInt8 := dkwX8_isSoundNow_2 ++ dktX8_isSoundNow_3
def dkwX8_isSoundNow_1 : List UInt8 := [155, 0, 14, 42, 180, 1, 63, 155, 0, 7, 4, 167, 0, 4, 3, 62, 42, 180, 0, 16, 182, 0, 195]
abbrev dktX8_isSoundNow_1 : List UInt8 := dkwX8_isSoundNow_1 ++ dktX8_isSoundNow_2
def dkwX8_isSoundNow_0 : List UInt8 := [42, 180, 0, 118, 133, 42, 180, 1, 63, 133, 97, 42, 180, 0, 121, 133, 97, 64, 42, 180, 0, 118]
abbrev dktX8_isSoundNow_0 : List UInt8 := dkwX8_isSoundNow_0 ++ dktX8_isSoundNow_1
theorem dksX8_isSoundNow_0 : cX8_isSoundNow.data.toList.drop 0 = dktX8_isSoundNow_0 := by decide +kernel
theorem dksX8_isSoundNow_1 : cX8_isSoundNow.data.toList.drop 22 = dktX8_isSoundNow_1 := dk_seg dksX8_isSoundNow_0 22 rfl rfl
theorem dksX8_isSoundNow_2 : cX8_isSoundNow.data.toList.drop 45 = dktX8_isSoundNow_2 := dk_seg dksX8_isSoundNow_1 23 rfl rfl
theorem dksX8_isSoundNow_3 : cX8_isSoundNow.data.toList.drop 69 = dktX8_isSoundNow_3 := dk_seg dksX8_isSoundNow_2 24 rfl rfl
theorem dksX8_isSoundNow_4 : cX8_isSoundNow.data.toList.drop 93 = dktX8_isSoundNow_4 := dk_seg dksX8_isSoundNow_3 24 rfl rfl
theorem dksX8_isSoundNow_5 : cX8_isSoundNow.data.toList.drop 117 = dktX8_isSoundNow_5 := dk_seg dksX8_isSoundNow_4 24 rfl rfl
theorem dksX8_isSoundNow_6 : cX8_isSoundNow.data.toList.drop 141 = dktX8_isSoundNow_6 := dk_seg dksX8_isSoundNow_5 24 rfl rfl
theorem dksX8_isSoundNow_7 : cX8_isSoundNow.data.toList.drop 165 = dktX8_isSoundNow_7 := dk_seg dksX8_isSoundNow_6 24 rfl rfl
theorem dksX8_isSoundNow_8 : cX8_isSoundNow.data.toList.drop 188 = dktX8_isSoundNow_8 := dk_seg dksX8_isSoundNow_7 23 rfl rfl
theorem dksX8_isSoundNow_9 : cX8_isSoundNow.data.toList.drop 211 = dktX8_isSoundNow_9 := dk_seg dksX8_isSoundNow_8 23 rfl rfl
theorem dksX8_isSoundNow_10 : cX8_isSoundNow.data.toList.drop 235 = dktX8_isSoundNow_10 := dk_seg dksX8_isSoundNow_9 24 rfl rfl
theorem dksX8_isSoundNow_11 : cX8_isSoundNow.data.toList.drop 259 = dktX8_isSoundNow_11 := dk_seg dksX8_isSoundNow_10 24 rfl rfl
theorem dksX8_isSoundNow_12 : cX8_isSoundNow.data.toList.drop 283 = dktX8_isSoundNow_12 := dk_seg dksX8_isSoundNow_11 24 rfl rfl
theorem dksX8_isSoundNow_13 : cX8_isSoundNow.data.toList.drop 307 = dktX8_isSoundNow_13 := dk_seg dksX8_isSoundNow_12 24 rfl rfl
theorem dksX8_isSoundNow_14 : cX8_isSoundNow.data.toList.drop 331 = dktX8_isSoundNow_14 := dk_seg dksX8_isSoundNow_13 24 rfl rfl
theorem dksX8_isSoundNow_15 : cX8_isSoundNow.data.toList.drop 354 = dktX8_isSoundNow_15 := dk_seg dksX8_isSoundNow_14 23 rfl rfl
theorem dX8_isSoundNow_0 : decode cX8_isSoundNow 0 = .ok (.aload_n 0, 1) := dk_42 (dk_at dksX8_isSoundNow_0 0 rfl rfl)
theorem dX8_isSoundNow_1 : decode cX8_isSoundNow 1 = .ok (.getfield 118, 3) := dk_180 0 118 (dk_at dksX8_isSoundNow_0 1 rfl rfl)
theorem dX8_isSoundNow_4 : decode cX8_isSoundNow 4 = .ok (.i2l, 1) := dk_133 (dk_at dksX8_isSoundNow_0 4 rfl rfl)
theorem dX8_isSoundNow_5 : decode cX8_isSoundNow 5 = .ok (.aload_n 0, 1) := dk_42 (dk_at dksX8_isSoundNow_0 5 rfl rfl)
theorem dX8_isSoundNow_6 : decode cX8_isSoundNow 6 = .ok (.getfield 319, 3) := dk_180 1 63 (dk_at dksX8_isSoundNow_0 6 rfl rfl)
theorem dX8_isSoundNow_9 : decode cX8_isSoundNow 9 = .ok (.i2l, 1) := dk_133 (dk_at dksX8_isSoundNow_0 9 rfl rfl)
theorem dX8_isSoundNow_10 : decode cX8_isSoundNow 10 = .ok (.ladd, 1) := dk_97 (dk_at dksX8_isSoundNow_0 10 rfl rfl)
theorem dX8_isSoundNow_11 : decode cX8_isSoundNow 11 = .ok (.aload_n 0, 1) := dk_42 (dk_at dksX8_isSoundNow_0 11 rfl rfl)
theorem dX8_isSoundNow_12 : decode cX8_isSoundNow 12 = .ok (.getfield 121, 3) := dk_180 0 121 (dk_at dksX8_isSoundNow_0 12 rfl rfl)
theorem dX8_isSoundNow_15 : decode cX8_isSoundNow 15 = .ok (.i2l, 1) := dk_133 (dk_at dksX8_isSoundNow_0 15 rfl rfl)
theorem dX8_isSoundNow_16 : decode cX8_isSoundNow 16 = .ok (.ladd, 1) := dk_97 (dk_at dksX8_isSoundNow_0 16 rfl rfl)
theorem dX8_isSoundNow_17 : decode cX8_isSoundNow 17 = .ok (.lstore_n 1, 1) := dk_64 (dk_at dksX8_isSoundNow_0 17 rfl rfl)
theorem dX8_isSoundNow_18 : decode cX8_isSoundNow 18 = .ok (.aload_n 0, 1) := dk_42 (dk_at dksX8_isSoundNow_0 18 rfl rfl)
theorem dX8_isSoundNow_19 : decode cX8_isSoundNow 19 = .ok (.getfield 118, 3) := dk_180 0 118 (dk_at dksX8_isSoundNow_0 19 rfl rfl)
theorem dX8_isSoundNow_22 : decode cX8_isSoundNow 22 = .ok (.ifCond .lt 14, 3) := dk_155 0 14 (dk_at dksX8_isSoundNow_1 0 rfl rfl)
theorem dX8_isSoundNow_25 : decode cX8_isSoundNow 25 = .ok (.aload_n 0, 1) := dk_42 (dk_at dksX8_isSoundNow_1 3 rfl rfl)
theorem dX8_isSoundNow_26 : decode cX8_isSoundNow 26 = .ok (.getfield 319, 3) := dk_180 1 63 (dk_at dksX8_isSoundNow_1 4 rfl rfl)
theorem dX8_isSoundNow_29 : decode cX8_isSoundNow 29 = .ok (.ifCond .lt 7, 3) := dk_155 0 7 (dk_at dksX8_isSoundNow_1 7 rfl rfl)
theorem dX8_isSoundNow_32 : decode cX8_isSoundNow 32 = .ok (.iconst 1, 1) := dk_4 (dk_at dksX8_isSoundNow_1 10 rfl rfl)
theorem dX8_isSoundNow_33 : decode cX8_isSoundNow 33 = .ok (.goto 4, 3) := dk_167 0 4 (dk_at dksX8_isSoundNow_1 11 rfl rfl)
theorem dX8_isSoundNow_36 : decode cX8_isSoundNow 36 = .ok (.iconst 0, 1) := dk_3 (dk_at dksX8_isSoundNow_1 14 rfl rfl)
theorem dX8_isSoundNow_37 : decode cX8_isSoundNow 37 = .ok (.istore_n 3, 1) := dk_62 (dk_at dksX8_isSoundNow_1 15 rfl rfl)
theorem dX8_isSoundNow_38 : decode cX8_isSoundNow 38 = .ok (.aload_n 0, 1) := dk_42 (dk_at dksX8_isSoundNow_1 16 rfl rfl)
theorem dX8_isSoundNow_39 : decode cX8_isSoundNow 39 = .ok (.getfield 16, 3) := dk_180 0 16 (dk_at dksX8_isSoundNow_1 17 rfl rfl)
theorem dX8_isSoundNow_42 : decode cX8_isSoundNow 42 = .ok (.invokevirtual 195, 3) := dk_182 0 195 (dk_at dksX8_isSoundNow_1 20 rfl rfl)
theorem dX8_isSoundNow_45 : decode cX8_isSoundNow 45 = .ok (.astore 4, 2) := dk_58 4 (dk_at dksX8_isSoundNow_2 0 rfl rfl)
theorem dX8_isSoundNow_47 : decode cX8_isSoundNow 47 = .ok (.aload 4, 2) := dk_25 4 (dk_at dksX8_isSoundNow_2 2 rfl rfl)
theorem dX8_isSoundNow_49 : decode cX8_isSoundNow 49 = .ok (.invokeinterface 199 1, 5) := by decide +kernel
theorem dX8_isSoundNow_54 : decode cX8_isSoundNow 54 = .ok (.ifCond .eq 43, 3) := dk_153 0 43 (dk_at dksX8_isSoundNow_2 9 rfl rfl)
theorem dX8_isSoundNow_57 : decode cX8_isSoundNow 57 = .ok (.aload 4, 2) := dk_25 4 (dk_at dksX8_isSoundNow_2 12 rfl rfl)
theorem dX8_isSoundNow_59 : decode cX8_isSoundNow 59 = .ok (.invokeinterface 204 1, 5) := by decide +kernel
theorem dX8_isSoundNow_64 : decode cX8_isSoundNow 64 = .ok (.checkcast 68, 3) := dk_192 0 68 (dk_at dksX8_isSoundNow_2 19 rfl rfl)
theorem dX8_isSoundNow_67 : decode cX8_isSoundNow 67 = .ok (.astore 5, 2) := dk_58 5 (dk_at dksX8_isSoundNow_2 22 rfl rfl)
theorem dX8_isSoundNow_69 : decode cX8_isSoundNow 69 = .ok (.lload_n 1, 1) := dk_31 (dk_at dksX8_isSoundNow_3 0 rfl rfl)
theorem dX8_isSoundNow_70 : decode cX8_isSoundNow 70 = .ok (.aload 5, 2) := dk_25 5 (dk_at dksX8_isSoundNow_3 1 rfl rfl)
theorem dX8_isSoundNow_72 : decode cX8_isSoundNow 72 = .ok (.getfield 315, 3) := dk_180 1 59 (dk_at dksX8_isSoundNow_3 3 rfl rfl)
theorem dX8_isSoundNow_75 : decode cX8_isSoundNow 75 = .ok (.i2l, 1) := dk_133 (dk_at dksX8_isSoundNow_3 6 rfl rfl)
theorem dX8_isSoundNow_76 : decode cX8_isSoundNow 76 = .ok (.ladd, 1) := dk_97 (dk_at dksX8_isSoundNow_3 7 rfl rfl)
theorem dX8_isSoundNow_77 : decode cX8_isSoundNow 77 = .ok (.lstore_n 1, 1) := dk_64 (dk_at dksX8_isSoundNow_3 8 rfl rfl)
theorem dX8_isSoundNow_78 : decode cX8_isSoundNow 78 = .ok (.iload_n 3, 1) := dk_29 (dk_at dksX8_isSoundNow_3 9 rfl rfl)
theorem dX8_isSoundNow_79 : decode cX8_isSoundNow 79 = .ok (.aload 5, 2) := dk_25 5 (dk_at dksX8_isSoundNow_3 10 rfl rfl)
theorem dX8_isSoundNow_81 : decode cX8_isSoundNow 81 = .ok (.getfield 315, 3) := dk_180 1 59 (dk_at dksX8_isSoundNow_3 12 rfl rfl)
theorem dX8_isSoundNow_84 : decode cX8_isSoundNow 84 = .ok (.ifCond .lt 7, 3) := dk_155 0 7 (dk_at dksX8_isSoundNow_3 15 rfl rfl)
theorem dX8_isSoundNow_87 : decode cX8_isSoundNow 87 = .ok (.iconst 1, 1) := dk_4 (dk_at dksX8_isSoundNow_3 18 rfl rfl)
theorem dX8_isSoundNow_88 : decode cX8_isSoundNow 88 = .ok (.goto 4, 3) := dk_167 0 4 (dk_at dksX8_isSoundNow_3 19 rfl rfl)
theorem dX8_isSoundNow_91 : decode cX8_isSoundNow 91 = .ok (.iconst 0, 1) := dk_3 (dk_at dksX8_isSoundNow_3 22 rfl rfl)
theorem dX8_isSoundNow_92 : decode cX8_isSoundNow 92 = .ok (.iand, 1) := dk_126 (dk_at dksX8_isSoundNow_3 23 rfl rfl)
theorem dX8_isSoundNow_93 : decode cX8_isSoundNow 93 = .ok (.istore_n 3, 1) := dk_62 (dk_at dksX8_isSoundNow_4 0 rfl rfl)
theorem dX8_isSoundNow_94 : decode cX8_isSoundNow 94 = .ok (.goto (-47), 3) := dk_167 255 209 (dk_at dksX8_isSoundNow_4 1 rfl rfl)
theorem dX8_isSoundNow_97 : decode cX8_isSoundNow 97 = .ok (.iconst 0, 1) := dk_3 (dk_at dksX8_isSoundNow_4 4 rfl rfl)
theorem dX8_isSoundNow_98 : decode cX8_isSoundNow 98 = .ok (.istore 4, 2) := dk_54 4 (dk_at dksX8_isSoundNow_4 5 rfl rfl)
theorem dX8_isSoundNow_100 : decode cX8_isSoundNow 100 = .ok (.iload 4, 2) := dk_21 4 (dk_at dksX8_isSoundNow_4 7 rfl rfl)
theorem dX8_isSoundNow_102 : decode cX8_isSoundNow 102 = .ok (.aload_n 0, 1) := dk_42 (dk_at dksX8_isSoundNow_4 9 rfl rfl)
theorem dX8_isSoundNow_103 : decode cX8_isSoundNow 103 = .ok (.getfield 20, 3) := dk_180 0 20 (dk_at dksX8_isSoundNow_4 10 rfl rfl)
theorem dX8_isSoundNow_106 : decode cX8_isSoundNow 106 = .ok (.invokevirtual 56, 3) := dk_182 0 56 (dk_at dksX8_isSoundNow_4 13 rfl rfl)
theorem dX8_isSoundNow_109 : decode cX8_isSoundNow 109 = .ok (.if_icmp .ge 63, 3) := dk_162 0 63 (dk_at dksX8_isSoundNow_4 16 rfl rfl)
theorem dX8_isSoundNow_112 : decode cX8_isSoundNow 112 = .ok (.lload_n 1, 1) := dk_31 (dk_at dksX8_isSoundNow_4 19 rfl rfl)
theorem dX8_isSoundNow_113 : decode cX8_isSoundNow 113 = .ok (.aload_n 0, 1) := dk_42 (dk_at dksX8_isSoundNow_4 20 rfl rfl)
theorem dX8_isSoundNow_114 : decode cX8_isSoundNow 114 = .ok (.getfield 20, 3) := dk_180 0 20 (dk_at dksX8_isSoundNow_4 21 rfl rfl)
theorem dX8_isSoundNow_117 : decode cX8_isSoundNow 117 = .ok (.iload 4, 2) := dk_21 4 (dk_at dksX8_isSoundNow_5 0 rfl rfl)
theorem dX8_isSoundNow_119 : decode cX8_isSoundNow 119 = .ok (.invokevirtual 78, 3) := dk_182 0 78 (dk_at dksX8_isSoundNow_5 2 rfl rfl)
theorem dX8_isSoundNow_122 : decode cX8_isSoundNow 122 = .ok (.checkcast 152, 3) := dk_192 0 152 (dk_at dksX8_isSoundNow_5 5 rfl rfl)
theorem dX8_isSoundNow_125 : decode cX8_isSoundNow 125 = .ok (.getfield 176, 3) := dk_180 0 176 (dk_at dksX8_isSoundNow_5 8 rfl rfl)
theorem dX8_isSoundNow_128 : decode cX8_isSoundNow 128 = .ok (.i2l, 1) := dk_133 (dk_at dksX8_isSoundNow_5 11 rfl rfl)
theorem dX8_isSoundNow_129 : decode cX8_isSoundNow 129 = .ok (.ladd, 1) := dk_97 (dk_at dksX8_isSoundNow_5 12 rfl rfl)
theorem dX8_isSoundNow_130 : decode cX8_isSoundNow 130 = .ok (.lstore_n 1, 1) := dk_64 (dk_at dksX8_isSoundNow_5 13 rfl rfl)
theorem dX8_isSoundNow_131 : decode cX8_isSoundNow 131 = .ok (.iload_n 3, 1) := dk_29 (dk_at dksX8_isSoundNow_5 14 rfl rfl)
theorem dX8_isSoundNow_132 : decode cX8_isSoundNow 132 = .ok (.aload_n 0, 1) := dk_42 (dk_at dksX8_isSoundNow_5 15 rfl rfl)
theorem dX8_isSoundNow_133 : decode cX8_isSoundNow 133 = .ok (.getfield 20, 3) := dk_180 0 20 (dk_at dksX8_isSoundNow_5 16 rfl rfl)
theorem dX8_isSoundNow_136 : decode cX8_isSoundNow 136 = .ok (.iload 4, 2) := dk_21 4 (dk_at dksX8_isSoundNow_5 19 rfl rfl)
theorem dX8_isSoundNow_138 : decode cX8_isSoundNow 138 = .ok (.invokevirtual 78, 3) := dk_182 0 78 (dk_at dksX8_isSoundNow_5 21 rfl rfl)
theorem dX8_isSoundNow_141 : decode cX8_isSoundNow 141 = .ok (.checkcast 152, 3) := dk_192 0 152 (dk_at dksX8_isSoundNow_6 0 rfl rfl)
theorem dX8_isSoundNow_144 : decode cX8_isSoundNow 144 = .ok (.getfield 176, 3) := dk_180 0 176 (dk_at dksX8_isSoundNow_6 3 rfl rfl)
theorem dX8_isSoundNow_147 : decode cX8_isSoundNow 147 = .ok (.ifCond .lt 16, 3) := dk_155 0 16 (dk_at dksX8_isSoundNow_6 6 rfl rfl)
theorem dX8_isSoundNow_150 : decode cX8_isSoundNow 150 = .ok (.aload_n 0, 1) := dk_42 (dk_at dksX8_isSoundNow_6 9 rfl rfl)
theorem dX8_isSoundNow_151 : decode cX8_isSoundNow 151 = .ok (.iload 4, 2) := dk_21 4 (dk_at dksX8_isSoundNow_6 10 rfl rfl)
theorem dX8_isSoundNow_153 : decode cX8_isSoundNow 153 = .ok (.invokevirtual 247, 3) := dk_182 0 247 (dk_at dksX8_isSoundNow_6 12 rfl rfl)
theorem dX8_isSoundNow_156 : decode cX8_isSoundNow 156 = .ok (.ifCond .lt 7, 3) := dk_155 0 7 (dk_at dksX8_isSoundNow_6 15 rfl rfl)
theorem dX8_isSoundNow_159 : decode cX8_isSoundNow 159 = .ok (.iconst 1, 1) := dk_4 (dk_at dksX8_isSoundNow_6 18 rfl rfl)
theorem dX8_isSoundNow_160 : decode cX8_isSoundNow 160 = .ok (.goto 4, 3) := dk_167 0 4 (dk_at dksX8_isSoundNow_6 19 rfl rfl)
theorem dX8_isSoundNow_163 : decode cX8_isSoundNow 163 = .ok (.iconst 0, 1) := dk_3 (dk_at dksX8_isSoundNow_6 22 rfl rfl)
theorem dX8_isSoundNow_164 : decode cX8_isSoundNow 164 = .ok (.iand, 1) := dk_126 (dk_at dksX8_isSoundNow_6 23 rfl rfl)
theorem dX8_isSoundNow_165 : decode cX8_isSoundNow 165 = .ok (.istore_n 3, 1) := dk_62 (dk_at dksX8_isSoundNow_7 0 rfl rfl)
theorem dX8_isSoundNow_166 : decode cX8_isSoundNow 166 = .ok (.iinc 4 1, 3) := dk_132 4 1 (dk_at dksX8_isSoundNow_7 1 rfl rfl)
theorem dX8_isSoundNow_169 : decode cX8_isSoundNow 169 = .ok (.goto (-69), 3) := dk_167 255 187 (dk_at dksX8_isSoundNow_7 4 rfl rfl)
theorem dX8_isSoundNow_172 : decode cX8_isSoundNow 172 = .ok (.iconst 0, 1) := dk_3 (dk_at dksX8_isSoundNow_7 7 rfl rfl)
theorem dX8_isSoundNow_173 : decode cX8_isSoundNow 173 = .ok (.istore 4, 2) := dk_54 4 (dk_at dksX8_isSoundNow_7 8 rfl rfl)
theorem dX8_isSoundNow_175 : decode cX8_isSoundNow 175 = .ok (.iload 4, 2) := dk_21 4 (dk_at dksX8_isSoundNow_7 10 rfl rfl)
theorem dX8_isSoundNow_177 : decode cX8_isSoundNow 177 = .ok (.aload_n 0, 1) := dk_42 (dk_at dksX8_isSoundNow_7 12 rfl rfl)
theorem dX8_isSoundNow_178 : decode cX8_isSoundNow 178 = .ok (.getfield 23, 3) := dk_180 0 23 (dk_at dksX8_isSoundNow_7 13 rfl rfl)
theorem dX8_isSoundNow_181 : decode cX8_isSoundNow 181 = .ok (.invokevirtual 56, 3) := dk_182 0 56 (dk_at dksX8_isSoundNow_7 16 rfl rfl)
theorem dX8_isSoundNow_184 : decode cX8_isSoundNow 184 = .ok (.if_icmp .ge 169, 3) := dk_162 0 169 (dk_at dksX8_isSoundNow_7 19 rfl rfl)
theorem dX8_isSoundNow_187 : decode cX8_isSoundNow 187 = .ok (.aload_n 0, 1) := dk_42 (dk_at dksX8_isSoundNow_7 22 rfl rfl)
theorem dX8_isSoundNow_188 : decode cX8_isSoundNow 188 = .ok (.getfield 23, 3) := dk_180 0 23 (dk_at dksX8_isSoundNow_8 0 rfl rfl)
theorem dX8_isSoundNow_191 : decode cX8_isSoundNow 191 = .ok (.iload 4, 2) := dk_21 4 (dk_at dksX8_isSoundNow_8 3 rfl rfl)
theorem dX8_isSoundNow_193 : decode cX8_isSoundNow 193 = .ok (.invokevirtual 78, 3) := dk_182 0 78 (dk_at dksX8_isSoundNow_8 5 rfl rfl)
theorem dX8_isSoundNow_196 : decode cX8_isSoundNow 196 = .ok (.checkcast 208, 3) := dk_192 0 208 (dk_at dksX8_isSoundNow_8 8 rfl rfl)
theorem dX8_isSoundNow_199 : decode cX8_isSoundNow 199 = .ok (.astore 5, 2) := dk_58 5 (dk_at dksX8_isSoundNow_8 11 rfl rfl)
theorem dX8_isSoundNow_201 : decode cX8_isSoundNow 201 = .ok (.aload 5, 2) := dk_25 5 (dk_at dksX8_isSoundNow_8 13 rfl rfl)
theorem dX8_isSoundNow_203 : decode cX8_isSoundNow 203 = .ok (.getfield 210, 3) := dk_180 0 210 (dk_at dksX8_isSoundNow_8 15 rfl rfl)
theorem dX8_isSoundNow_206 : decode cX8_isSoundNow 206 = .ok (.iconst 1, 1) := dk_4 (dk_at dksX8_isSoundNow_8 18 rfl rfl)
theorem dX8_isSoundNow_207 : decode cX8_isSoundNow 207 = .ok (.if_icmp .ne 41, 3) := dk_160 0 41 (dk_at dksX8_isSoundNow_8 19 rfl rfl)
theorem dX8_isSoundNow_210 : decode cX8_isSoundNow 210 = .ok (.iload_n 3, 1) := dk_29 (dk_at dksX8_isSoundNow_8 22 rfl rfl)
theorem dX8_isSoundNow_211 : decode cX8_isSoundNow 211 = .ok (.aload 5, 2) := dk_25 5 (dk_at dksX8_isSoundNow_9 0 rfl rfl)
theorem dX8_isSoundNow_213 : decode cX8_isSoundNow 213 = .ok (.getfield 228, 3) := dk_180 0 228 (dk_at dksX8_isSoundNow_9 2 rfl rfl)
theorem dX8_isSoundNow_216 : decode cX8_isSoundNow 216 = .ok (.iconst (-1), 1) := dk_2 (dk_at dksX8_isSoundNow_9 5 rfl rfl)
theorem dX8_isSoundNow_217 : decode cX8_isSoundNow 217 = .ok (.if_icmp .eq 28, 3) := dk_159 0 28 (dk_at dksX8_isSoundNow_9 6 rfl rfl)
theorem dX8_isSoundNow_220 : decode cX8_isSoundNow 220 = .ok (.aload_n 0, 1) := dk_42 (dk_at dksX8_isSoundNow_9 9 rfl rfl)
theorem dX8_isSoundNow_221 : decode cX8_isSoundNow 221 = .ok (.getfield 20, 3) := dk_180 0 20 (dk_at dksX8_isSoundNow_9 10 rfl rfl)
theorem dX8_isSoundNow_224 : decode cX8_isSoundNow 224 = .ok (.aload 5, 2) := dk_25 5 (dk_at dksX8_isSoundNow_9 13 rfl rfl)
theorem dX8_isSoundNow_226 : decode cX8_isSoundNow 226 = .ok (.getfield 228, 3) := dk_180 0 228 (dk_at dksX8_isSoundNow_9 15 rfl rfl)
theorem dX8_isSoundNow_229 : decode cX8_isSoundNow 229 = .ok (.invokevirtual 78, 3) := dk_182 0 78 (dk_at dksX8_isSoundNow_9 18 rfl rfl)
theorem dX8_isSoundNow_232 : decode cX8_isSoundNow 232 = .ok (.checkcast 152, 3) := dk_192 0 152 (dk_at dksX8_isSoundNow_9 21 rfl rfl)
theorem dX8_isSoundNow_235 : decode cX8_isSoundNow 235 = .ok (.getfield 244, 3) := dk_180 0 244 (dk_at dksX8_isSoundNow_10 0 rfl rfl)
theorem dX8_isSoundNow_238 : decode cX8_isSoundNow 238 = .ok (.ifCond .ne 7, 3) := dk_154 0 7 (dk_at dksX8_isSoundNow_10 3 rfl rfl)
theorem dX8_isSoundNow_241 : decode cX8_isSoundNow 241 = .ok (.iconst 1, 1) := dk_4 (dk_at dksX8_isSoundNow_10 6 rfl rfl)
theorem dX8_isSoundNow_242 : decode cX8_isSoundNow 242 = .ok (.goto 4, 3) := dk_167 0 4 (dk_at dksX8_isSoundNow_10 7 rfl rfl)
theorem dX8_isSoundNow_245 : decode cX8_isSoundNow 245 = .ok (.iconst 0, 1) := dk_3 (dk_at dksX8_isSoundNow_10 10 rfl rfl)
theorem dX8_isSoundNow_246 : decode cX8_isSoundNow 246 = .ok (.iand, 1) := dk_126 (dk_at dksX8_isSoundNow_10 11 rfl rfl)
theorem dX8_isSoundNow_247 : decode cX8_isSoundNow 247 = .ok (.istore_n 3, 1) := dk_62 (dk_at dksX8_isSoundNow_10 12 rfl rfl)
theorem dX8_isSoundNow_248 : decode cX8_isSoundNow 248 = .ok (.iconst 0, 1) := dk_3 (dk_at dksX8_isSoundNow_10 13 rfl rfl)
theorem dX8_isSoundNow_249 : decode cX8_isSoundNow 249 = .ok (.istore 6, 2) := dk_54 6 (dk_at dksX8_isSoundNow_10 14 rfl rfl)
theorem dX8_isSoundNow_251 : decode cX8_isSoundNow 251 = .ok (.iload 6, 2) := dk_21 6 (dk_at dksX8_isSoundNow_10 16 rfl rfl)
theorem dX8_isSoundNow_253 : decode cX8_isSoundNow 253 = .ok (.iload 4, 2) := dk_21 4 (dk_at dksX8_isSoundNow_10 18 rfl rfl)
theorem dX8_isSoundNow_255 : decode cX8_isSoundNow 255 = .ok (.if_icmp .ge 92, 3) := dk_162 0 92 (dk_at dksX8_isSoundNow_10 20 rfl rfl)
theorem dX8_isSoundNow_258 : decode cX8_isSoundNow 258 = .ok (.iload_n 3, 1) := dk_29 (dk_at dksX8_isSoundNow_10 23 rfl rfl)
theorem dX8_isSoundNow_259 : decode cX8_isSoundNow 259 = .ok (.aload 5, 2) := dk_25 5 (dk_at dksX8_isSoundNow_11 0 rfl rfl)
theorem dX8_isSoundNow_261 : decode cX8_isSoundNow 261 = .ok (.getfield 210, 3) := dk_180 0 210 (dk_at dksX8_isSoundNow_11 2 rfl rfl)
theorem dX8_isSoundNow_264 : decode cX8_isSoundNow 264 = .ok (.iconst 1, 1) := dk_4 (dk_at dksX8_isSoundNow_11 5 rfl rfl)
theorem dX8_isSoundNow_265 : decode cX8_isSoundNow 265 = .ok (.if_icmp .gt 69, 3) := dk_163 0 69 (dk_at dksX8_isSoundNow_11 6 rfl rfl)
theorem dX8_isSoundNow_268 : decode cX8_isSoundNow 268 = .ok (.aload_n 0, 1) := dk_42 (dk_at dksX8_isSoundNow_11 9 rfl rfl)
theorem dX8_isSoundNow_269 : decode cX8_isSoundNow 269 = .ok (.getfield 23, 3) := dk_180 0 23 (dk_at dksX8_isSoundNow_11 10 rfl rfl)
theorem dX8_isSoundNow_272 : decode cX8_isSoundNow 272 = .ok (.iload 6, 2) := dk_21 6 (dk_at dksX8_isSoundNow_11 13 rfl rfl)
theorem dX8_isSoundNow_274 : decode cX8_isSoundNow 274 = .ok (.invokevirtual 78, 3) := dk_182 0 78 (dk_at dksX8_isSoundNow_11 15 rfl rfl)
theorem dX8_isSoundNow_277 : decode cX8_isSoundNow 277 = .ok (.checkcast 208, 3) := dk_192 0 208 (dk_at dksX8_isSoundNow_11 18 rfl rfl)
theorem dX8_isSoundNow_280 : decode cX8_isSoundNow 280 = .ok (.getfield 210, 3) := dk_180 0 210 (dk_at dksX8_isSoundNow_11 21 rfl rfl)
theorem dX8_isSoundNow_283 : decode cX8_isSoundNow 283 = .ok (.iconst 1, 1) := dk_4 (dk_at dksX8_isSoundNow_12 0 rfl rfl)
theorem dX8_isSoundNow_284 : decode cX8_isSoundNow 284 = .ok (.if_icmp .gt 50, 3) := dk_163 0 50 (dk_at dksX8_isSoundNow_12 1 rfl rfl)
theorem dX8_isSoundNow_287 : decode cX8_isSoundNow 287 = .ok (.aload 5, 2) := dk_25 5 (dk_at dksX8_isSoundNow_12 4 rfl rfl)
theorem dX8_isSoundNow_289 : decode cX8_isSoundNow 289 = .ok (.getfield 213, 3) := dk_180 0 213 (dk_at dksX8_isSoundNow_12 6 rfl rfl)
theorem dX8_isSoundNow_292 : decode cX8_isSoundNow 292 = .ok (.aload_n 0, 1) := dk_42 (dk_at dksX8_isSoundNow_12 9 rfl rfl)
theorem dX8_isSoundNow_293 : decode cX8_isSoundNow 293 = .ok (.getfield 23, 3) := dk_180 0 23 (dk_at dksX8_isSoundNow_12 10 rfl rfl)
theorem dX8_isSoundNow_296 : decode cX8_isSoundNow 296 = .ok (.iload 6, 2) := dk_21 6 (dk_at dksX8_isSoundNow_12 13 rfl rfl)
theorem dX8_isSoundNow_298 : decode cX8_isSoundNow 298 = .ok (.invokevirtual 78, 3) := dk_182 0 78 (dk_at dksX8_isSoundNow_12 15 rfl rfl)
theorem dX8_isSoundNow_301 : decode cX8_isSoundNow 301 = .ok (.checkcast 208, 3) := dk_192 0 208 (dk_at dksX8_isSoundNow_12 18 rfl rfl)
theorem dX8_isSoundNow_304 : decode cX8_isSoundNow 304 = .ok (.getfield 213, 3) := dk_180 0 213 (dk_at dksX8_isSoundNow_12 21 rfl rfl)
theorem dX8_isSoundNow_307 : decode cX8_isSoundNow 307 = .ok (.if_icmp .ne 27, 3) := dk_160 0 27 (dk_at dksX8_isSoundNow_13 0 rfl rfl)
theorem dX8_isSoundNow_310 : decode cX8_isSoundNow 310 = .ok (.aload 5, 2) := dk_25 5 (dk_at dksX8_isSoundNow_13 3 rfl rfl)
theorem dX8_isSoundNow_312 : decode cX8_isSoundNow 312 = .ok (.getfield 216, 3) := dk_180 0 216 (dk_at dksX8_isSoundNow_13 5 rfl rfl)
theorem dX8_isSoundNow_315 : decode cX8_isSoundNow 315 = .ok (.aload_n 0, 1) := dk_42 (dk_at dksX8_isSoundNow_13 8 rfl rfl)
theorem dX8_isSoundNow_316 : decode cX8_isSoundNow 316 = .ok (.getfield 23, 3) := dk_180 0 23 (dk_at dksX8_isSoundNow_13 9 rfl rfl)
theorem dX8_isSoundNow_319 : decode cX8_isSoundNow 319 = .ok (.iload 6, 2) := dk_21 6 (dk_at dksX8_isSoundNow_13 12 rfl rfl)
theorem dX8_isSoundNow_321 : decode cX8_isSoundNow 321 = .ok (.invokevirtual 78, 3) := dk_182 0 78 (dk_at dksX8_isSoundNow_13 14 rfl rfl)
theorem dX8_isSoundNow_324 : decode cX8_isSoundNow 324 = .ok (.checkcast 208, 3) := dk_192 0 208 (dk_at dksX8_isSoundNow_13 17 rfl rfl)
theorem dX8_isSoundNow_327 : decode cX8_isSoundNow 327 = .ok (.getfield 216, 3) := dk_180 0 216 (dk_at dksX8_isSoundNow_13 20 rfl rfl)
theorem dX8_isSoundNow_330 : decode cX8_isSoundNow 330 = .ok (.iand, 1) := dk_126 (dk_at dksX8_isSoundNow_13 23 rfl rfl)
theorem dX8_isSoundNow_331 : decode cX8_isSoundNow 331 = .ok (.ifCond .ne 7, 3) := dk_154 0 7 (dk_at dksX8_isSoundNow_14 0 rfl rfl)
theorem dX8_isSoundNow_334 : decode cX8_isSoundNow 334 = .ok (.iconst 1, 1) := dk_4 (dk_at dksX8_isSoundNow_14 3 rfl rfl)
theorem dX8_isSoundNow_335 : decode cX8_isSoundNow 335 = .ok (.goto 4, 3) := dk_167 0 4 (dk_at dksX8_isSoundNow_14 4 rfl rfl)
theorem dX8_isSoundNow_338 : decode cX8_isSoundNow 338 = .ok (.iconst 0, 1) := dk_3 (dk_at dksX8_isSoundNow_14 7 rfl rfl)
theorem dX8_isSoundNow_339 : decode cX8_isSoundNow 339 = .ok (.iand, 1) := dk_126 (dk_at dksX8_isSoundNow_14 8 rfl rfl)
theorem dX8_isSoundNow_340 : decode cX8_isSoundNow 340 = .ok (.istore_n 3, 1) := dk_62 (dk_at dksX8_isSoundNow_14 9 rfl rfl)
theorem dX8_isSoundNow_341 : decode cX8_isSoundNow 341 = .ok (.iinc 6 1, 3) := dk_132 6 1 (dk_at dksX8_isSoundNow_14 10 rfl rfl)
theorem dX8_isSoundNow_344 : decode cX8_isSoundNow 344 = .ok (.goto (-93), 3) := dk_167 255 163 (dk_at dksX8_isSoundNow_14 13 rfl rfl)
theorem dX8_isSoundNow_347 : decode cX8_isSoundNow 347 = .ok (.iinc 4 1, 3) := dk_132 4 1 (dk_at dksX8_isSoundNow_14 16 rfl rfl)
theorem dX8_isSoundNow_350 : decode cX8_isSoundNow 350 = .ok (.goto (-175), 3) := dk_167 255 81 (dk_at dksX8_isSoundNow_14 19 rfl rfl)
theorem dX8_isSoundNow_353 : decode cX8_isSoundNow 353 = .ok (.iload_n 3, 1) := dk_29 (dk_at dksX8_isSoundNow_14 22 rfl rfl)
theorem dX8_isSoundNow_354 : decode cX8_isSoundNow 354 = .ok (.ifCond .eq 13, 3) := dk_153 0 13 (dk_at dksX8_isSoundNow_15 0 rfl rfl)
theorem dX8_isSoundNow_357 : decode cX8_isSoundNow 357 = .ok (.lload_n 1, 1) := dk_31 (dk_at dksX8_isSoundNow_15 3 rfl rfl)
theorem dX8_isSoundNow_358 : decode cX8_isSoundNow 358 = .ok (.lconst 0, 1) := dk_9 (dk_at dksX8_isSoundNow_15 4 rfl rfl)
theorem dX8_isSoundNow_359 : decode cX8_isSoundNow 359 = .ok (.lcmp, 1) := dk_148 (dk_at dksX8_isSoundNow_15 5 rfl rfl)
theorem dX8_isSoundNow_360 : decode cX8_isSoundNow 360 = .ok (.ifCond .ne 7, 3) := dk_154 0 7 (dk_at dksX8_isSoundNow_15 6 rfl rfl)
theorem dX8_isSoundNow_363 : decode cX8_isSoundNow 363 = .ok (.iconst 1, 1) := dk_4 (dk_at dksX8_isSoundNow_15 9 rfl rfl)
theorem dX8_isSoundNow_364 : decode cX8_isSoundNow 364 = .ok (.goto 4, 3) := dk_167 0 4 (dk_at dksX8_isSoundNow_15 10 rfl rfl)
theorem dX8_isSoundNow_367 : decode cX8_isSoundNow 367 = .ok (.iconst 0, 1) := dk_3 (dk_at dksX8_isSoundNow_15 13 rfl rfl)
theorem dX8_isSoundNow_368 : decode cX8_isSoundNow 368 = .ok (.ireturn, 1) := dk_172 (dk_at dksX8_isSoundNow_15 14 rfl rfl)
abbrev cX8_digest : ByteArray := prog_19_method_89_code
def yX8_digest : MethodName := ⟨RX8, "digest", "()J"⟩
def dkwX8_digest_21 : List UInt8 := [20, 1, 192, 105, 42, 182, 1, 187, 153, 0, 7, 4, 167, 0, 4, 3, 133, 97, 173]
abbrev dktX8_digest_21 : List UInt8 := dkwX8_digest_21 ++ []
def dkwX8_digest_20 : List UInt8 := [182, 1, 178, 133, 97, 64, 31, 20, 1, 192, 105, 42, 25, 4, 182, 1, 181, 133, 97, 64, 167, 255, 175, 31]
abbrev dktX8_digest_20 : List UInt8 := dkwX8_digest_20 ++ dktX8_digest_21
def dkwX8_digest_19 : List UInt8 := [21, 5, 182, 1, 142, 133, 97, 64, 132, 5, 1, 167, 255, 230, 31, 20, 1, 192, 105, 42, 25, 4, 4]
abbrev dktX8_digest_19 : List UInt8 := dkwX8_digest_19 ++ dktX8_digest_20
def dkwX8_digest_18 : List UInt8 := [192, 0, 208, 58, 4, 3, 54, 5, 21, 5, 16, 11, 163, 0, 25, 31, 20, 1, 192, 105, 42, 25, 4]
abbrev dktX8_digest_18 : List UInt8 := dkwX8_digest_18 ++ dktX8_digest_19
def dkwX8_digest_17 : List UInt8 := [180, 0, 23, 182, 0, 195, 78, 45, 185, 0, 199, 1, 0, 153, 0, 78, 45, 185, 0, 204, 1, 0]
abbrev dktX8_digest_17 : List UInt8 := dkwX8_digest_17 ++ dktX8_digest_18
def dkwX8_digest_16 : List UInt8 := [192, 0, 168, 182, 0, 186, 133, 97, 64, 132, 4, 1, 167, 255, 165, 132, 3, 1, 167, 255, 97, 42]
abbrev dktX8_digest_16 : List UInt8 := dkwX8_digest_16 ++ dktX8_digest_17
def dkwX8_digest_15 : List UInt8 := [20, 1, 192, 105, 42, 180, 0, 20, 29, 182, 0, 78, 192, 0, 152, 180, 0, 173, 21, 4, 182, 0, 78]
abbrev dktX8_digest_15 : List UInt8 := dkwX8_digest_15 ++ dktX8_digest_16
def dkwX8_digest_14 : List UInt8 := [182, 0, 78, 192, 0, 152, 180, 0, 164, 21, 4, 182, 0, 78, 192, 0, 168, 182, 0, 186, 133, 97, 64, 31]
abbrev dktX8_digest_14 : List UInt8 := dkwX8_digest_14 ++ dktX8_digest_15
def dkwX8_digest_13 : List UInt8 := [192, 0, 152, 180, 0, 164, 182, 0, 56, 162, 0, 75, 31, 20, 1, 192, 105, 42, 180, 0, 20, 29]
abbrev dktX8_digest_13 : List UInt8 := dkwX8_digest_13 ++ dktX8_digest_14
def dkwX8_digest_12 : List UInt8 := [42, 29, 182, 1, 174, 107, 143, 97, 64, 3, 54, 4, 21, 4, 42, 180, 0, 20, 29, 182, 0, 78]
abbrev dktX8_digest_12 : List UInt8 := dkwX8_digest_12 ++ dktX8_digest_13
def dkwX8_digest_11 : List UInt8 := [42, 29, 21, 4, 182, 1, 139, 133, 97, 64, 132, 4, 1, 167, 255, 231, 31, 20, 1, 192, 105, 20, 1, 194]
abbrev dktX8_digest_11 : List UInt8 := dkwX8_digest_11 ++ dktX8_digest_12
def dkwX8_digest_10 : List UInt8 := [180, 0, 20, 182, 0, 56, 162, 0, 154, 3, 54, 4, 21, 4, 16, 12, 163, 0, 24, 31, 20, 1, 192, 105]
abbrev dktX8_digest_10 : List UInt8 := dkwX8_digest_10 ++ dktX8_digest_11
def dkwX8_digest_9 : List UInt8 := [64, 132, 5, 1, 167, 255, 230, 132, 4, 1, 167, 255, 183, 132, 3, 1, 167, 255, 122, 3, 62, 29, 42]
abbrev dktX8_digest_9 : List UInt8 := dkwX8_digest_9 ++ dktX8_digest_10
def dkwX8_digest_8 : List UInt8 := [54, 5, 21, 5, 8, 163, 0, 26, 31, 20, 1, 192, 105, 42, 29, 21, 4, 21, 5, 182, 1, 133, 133, 97]
abbrev dktX8_digest_8 : List UInt8 := dkwX8_digest_8 ++ dktX8_digest_9
def dkwX8_digest_7 : List UInt8 := [3, 182, 1, 80, 133, 97, 64, 31, 20, 1, 192, 105, 42, 29, 21, 4, 4, 182, 1, 80, 133, 97, 64, 3]
abbrev dktX8_digest_7 : List UInt8 := dkwX8_digest_7 ++ dktX8_digest_8
def dkwX8_digest_6 : List UInt8 := [132, 4, 1, 167, 255, 221, 3, 54, 4, 21, 4, 6, 162, 0, 73, 31, 20, 1, 192, 105, 42, 29, 21, 4]
abbrev dktX8_digest_6 : List UInt8 := dkwX8_digest_6 ++ dktX8_digest_7
def dkwX8_digest_5 : List UInt8 := [20, 1, 192, 105, 42, 42, 180, 0, 16, 29, 182, 0, 78, 192, 0, 68, 21, 4, 182, 1, 130, 133, 97, 64]
abbrev dktX8_digest_5 : List UInt8 := dkwX8_digest_5 ++ dktX8_digest_6
def dkwX8_digest_4 : List UInt8 := [29, 42, 180, 0, 16, 182, 0, 56, 162, 0, 129, 3, 54, 4, 21, 4, 16, 13, 163, 0, 34, 31]
abbrev dktX8_digest_4 : List UInt8 := dkwX8_digest_4 ++ dktX8_digest_5
def dkwX8_digest_3 : List UInt8 := [167, 255, 232, 31, 20, 1, 192, 105, 42, 29, 182, 1, 184, 133, 97, 64, 132, 3, 1, 167, 255, 205, 3, 62]
abbrev dktX8_digest_3 : List UInt8 := dkwX8_digest_3 ++ dktX8_digest_4
def dkwX8_digest_2 : List UInt8 := [7, 163, 0, 24, 31, 20, 1, 192, 105, 42, 29, 21, 4, 182, 1, 136, 133, 97, 64, 132, 4, 1]
abbrev dktX8_digest_2 : List UInt8 := dkwX8_digest_2 ++ dktX8_digest_3
def dkwX8_digest_1 : List UInt8 := [182, 1, 145, 133, 97, 64, 132, 3, 1, 167, 255, 234, 3, 62, 29, 6, 162, 0, 52, 3, 54, 4, 21, 4]
abbrev dktX8_digest_1 : List UInt8 := dkwX8_digest_1 ++ dktX8_digest_2
def dkwX8_digest_0 : List UInt8 := [42, 3, 181, 0, 49, 20, 1, 190, 64, 3, 62, 29, 16, 16, 163, 0, 22, 31, 20, 1, 192, 105, 42, 29]
abbrev dktX8_digest_0 : List UInt8 := dkwX8_digest_0 ++ dktX8_digest_1
theorem dksX8_digest_0 : cX8_digest.data.toList.drop 0 = dktX8_digest_0 := by decide +kernel
theorem dksX8_digest_1 : cX8_digest.data.toList.drop 24 = dktX8_digest_1 := dk_seg dksX8_digest_0 24 rfl rfl
theorem dksX8_digest_2 : cX8_digest.data.toList.drop 48 = dktX8_digest_2 := dk_seg dksX8_digest_1 24 rfl rfl
theorem dksX8_digest_3 : cX8_digest.data.toList.drop 70 = dktX8_digest_3 := dk_seg dksX8_digest_2 22 rfl rfl
theorem dksX8_digest_4 : cX8_digest.data.toList.drop 94 = dktX8_digest_4 := dk_seg dksX8_digest_3 24 rfl rfl
theorem dksX8_digest_5 : cX8_digest.data.toList.drop 116 = dktX8_digest_5 := dk_seg dksX8_digest_4 22 rfl rfl
theorem dksX8_digest_6 : cX8_digest.data.toList.drop 140 = dktX8_digest_6 := dk_seg dksX8_digest_5 24 rfl rfl
theorem dksX8_digest_7 : cX8_digest.data.toList.drop 164 = dktX8_digest_7 := dk_seg dksX8_digest_6 24 rfl rfl
theorem dksX8_digest_8 : cX8_digest.data.toList.drop 188 = dktX8_digest_8 := dk_seg dksX8_digest_7 24 rfl rfl
theorem dksX8_digest_9 : cX8_digest.data.toList.drop 212 = dktX8_digest_9 := dk_seg dksX8_digest_8 24 rfl rfl
theorem dksX8_digest_10 : cX8_digest.data.toList.drop 235 = dktX8_digest_10 := dk_seg dksX8_digest_9 23 rfl rfl
theorem dksX8_digest_11 : cX8_digest.data.toList.drop 259 = dktX8_digest_11 := dk_seg dksX8_digest_10 24 rfl rfl
theorem dksX8_digest_12 : cX8_digest.data.toList.drop 283 = dktX8_digest_12 := dk_seg dksX8_digest_11 24 rfl rfl
theorem dksX8_digest_13 : cX8_digest.data.toList.drop 305 = dktX8_digest_13 := dk_seg dksX8_digest_12 22 rfl rfl
theorem dksX8_digest_14 : cX8_digest.data.toList.drop 327 = dktX8_digest_14 := dk_seg dksX8_digest_13 22 rfl rfl
theorem dksX8_digest_15 : cX8_digest.data.toList.drop 351 = dktX8_digest_15 := dk_seg dksX8_digest_14 24 rfl rfl
theorem dksX8_digest_16 : cX8_digest.data.toList.drop 374 = dktX8_digest_16 := dk_seg dksX8_digest_15 23 rfl rfl
theorem dksX8_digest_17 : cX8_digest.data.toList.drop 396 = dktX8_digest_17 := dk_seg dksX8_digest_16 22 rfl rfl
theorem dksX8_digest_18 : cX8_digest.data.toList.drop 418 = dktX8_digest_18 := dk_seg dksX8_digest_17 22 rfl rfl
theorem dksX8_digest_19 : cX8_digest.data.toList.drop 441 = dktX8_digest_19 := dk_seg dksX8_digest_18 23 rfl rfl
theorem dksX8_digest_20 : cX8_digest.data.toList.drop 464 = dktX8_digest_20 := dk_seg dksX8_digest_19 23 rfl rfl
theorem dksX8_digest_21 : cX8_digest.data.toList.drop 488 = dktX8_digest_21 := dk_seg dksX8_digest_20 24 rfl rfl
theorem dX8_digest_0 : decode cX8_digest 0 = .ok (.aload_n 0, 1) := dk_42 (dk_at dksX8_digest_0 0 rfl rfl)
theorem dX8_digest_1 : decode cX8_digest 1 = .ok (.iconst 0, 1) := dk_3 (dk_at dksX8_digest_0 1 rfl rfl)
theorem dX8_digest_2 : decode cX8_digest 2 = .ok (.putfield 49, 3) := dk_181 0 49 (dk_at dksX8_digest_0 2 rfl rfl)
theorem dX8_digest_5 : decode cX8_digest 5 = .ok (.ldc2_w 446, 3) := dk_20 1 190 (dk_at dksX8_digest_0 5 rfl rfl)
theorem dX8_digest_8 : decode cX8_digest 8 = .ok (.lstore_n 1, 1) := dk_64 (dk_at dksX8_digest_0 8 rfl rfl)
theorem dX8_digest_9 : decode cX8_digest 9 = .ok (.iconst 0, 1) := dk_3 (dk_at dksX8_digest_0 9 rfl rfl)
theorem dX8_digest_10 : decode cX8_digest 10 = .ok (.istore_n 3, 1) := dk_62 (dk_at dksX8_digest_0 10 rfl rfl)
theorem dX8_digest_11 : decode cX8_digest 11 = .ok (.iload_n 3, 1) := dk_29 (dk_at dksX8_digest_0 11 rfl rfl)
theorem dX8_digest_12 : decode cX8_digest 12 = .ok (.bipush 16, 2) := dk_16 16 (dk_at dksX8_digest_0 12 rfl rfl)
theorem dX8_digest_14 : decode cX8_digest 14 = .ok (.if_icmp .gt 22, 3) := dk_163 0 22 (dk_at dksX8_digest_0 14 rfl rfl)
theorem dX8_digest_17 : decode cX8_digest 17 = .ok (.lload_n 1, 1) := dk_31 (dk_at dksX8_digest_0 17 rfl rfl)
theorem dX8_digest_18 : decode cX8_digest 18 = .ok (.ldc2_w 448, 3) := dk_20 1 192 (dk_at dksX8_digest_0 18 rfl rfl)
theorem dX8_digest_21 : decode cX8_digest 21 = .ok (.lmul, 1) := dk_105 (dk_at dksX8_digest_0 21 rfl rfl)
theorem dX8_digest_22 : decode cX8_digest 22 = .ok (.aload_n 0, 1) := dk_42 (dk_at dksX8_digest_0 22 rfl rfl)
theorem dX8_digest_23 : decode cX8_digest 23 = .ok (.iload_n 3, 1) := dk_29 (dk_at dksX8_digest_0 23 rfl rfl)
theorem dX8_digest_24 : decode cX8_digest 24 = .ok (.invokevirtual 401, 3) := dk_182 1 145 (dk_at dksX8_digest_1 0 rfl rfl)
theorem dX8_digest_27 : decode cX8_digest 27 = .ok (.i2l, 1) := dk_133 (dk_at dksX8_digest_1 3 rfl rfl)
theorem dX8_digest_28 : decode cX8_digest 28 = .ok (.ladd, 1) := dk_97 (dk_at dksX8_digest_1 4 rfl rfl)
theorem dX8_digest_29 : decode cX8_digest 29 = .ok (.lstore_n 1, 1) := dk_64 (dk_at dksX8_digest_1 5 rfl rfl)
theorem dX8_digest_30 : decode cX8_digest 30 = .ok (.iinc 3 1, 3) := dk_132 3 1 (dk_at dksX8_digest_1 6 rfl rfl)
theorem dX8_digest_33 : decode cX8_digest 33 = .ok (.goto (-22), 3) := dk_167 255 234 (dk_at dksX8_digest_1 9 rfl rfl)
theorem dX8_digest_36 : decode cX8_digest 36 = .ok (.iconst 0, 1) := dk_3 (dk_at dksX8_digest_1 12 rfl rfl)
theorem dX8_digest_37 : decode cX8_digest 37 = .ok (.istore_n 3, 1) := dk_62 (dk_at dksX8_digest_1 13 rfl rfl)
theorem dX8_digest_38 : decode cX8_digest 38 = .ok (.iload_n 3, 1) := dk_29 (dk_at dksX8_digest_1 14 rfl rfl)
theorem dX8_digest_39 : decode cX8_digest 39 = .ok (.iconst 3, 1) := dk_6 (dk_at dksX8_digest_1 15 rfl rfl)
theorem dX8_digest_40 : decode cX8_digest 40 = .ok (.if_icmp .ge 52, 3) := dk_162 0 52 (dk_at dksX8_digest_1 16 rfl rfl)
theorem dX8_digest_43 : decode cX8_digest 43 = .ok (.iconst 0, 1) := dk_3 (dk_at dksX8_digest_1 19 rfl rfl)
theorem dX8_digest_44 : decode cX8_digest 44 = .ok (.istore 4, 2) := dk_54 4 (dk_at dksX8_digest_1 20 rfl rfl)
theorem dX8_digest_46 : decode cX8_digest 46 = .ok (.iload 4, 2) := dk_21 4 (dk_at dksX8_digest_1 22 rfl rfl)
theorem dX8_digest_48 : decode cX8_digest 48 = .ok (.iconst 4, 1) := dk_7 (dk_at dksX8_digest_2 0 rfl rfl)
theorem dX8_digest_49 : decode cX8_digest 49 = .ok (.if_icmp .gt 24, 3) := dk_163 0 24 (dk_at dksX8_digest_2 1 rfl rfl)
theorem dX8_digest_52 : decode cX8_digest 52 = .ok (.lload_n 1, 1) := dk_31 (dk_at dksX8_digest_2 4 rfl rfl)
theorem dX8_digest_53 : decode cX8_digest 53 = .ok (.ldc2_w 448, 3) := dk_20 1 192 (dk_at dksX8_digest_2 5 rfl rfl)
theorem dX8_digest_56 : decode cX8_digest 56 = .ok (.lmul, 1) := dk_105 (dk_at dksX8_digest_2 8 rfl rfl)
theorem dX8_digest_57 : decode cX8_digest 57 = .ok (.aload_n 0, 1) := dk_42 (dk_at dksX8_digest_2 9 rfl rfl)
theorem dX8_digest_58 : decode cX8_digest 58 = .ok (.iload_n 3, 1) := dk_29 (dk_at dksX8_digest_2 10 rfl rfl)
theorem dX8_digest_59 : decode cX8_digest 59 = .ok (.iload 4, 2) := dk_21 4 (dk_at dksX8_digest_2 11 rfl rfl)
theorem dX8_digest_61 : decode cX8_digest 61 = .ok (.invokevirtual 392, 3) := dk_182 1 136 (dk_at dksX8_digest_2 13 rfl rfl)
theorem dX8_digest_64 : decode cX8_digest 64 = .ok (.i2l, 1) := dk_133 (dk_at dksX8_digest_2 16 rfl rfl)
theorem dX8_digest_65 : decode cX8_digest 65 = .ok (.ladd, 1) := dk_97 (dk_at dksX8_digest_2 17 rfl rfl)
theorem dX8_digest_66 : decode cX8_digest 66 = .ok (.lstore_n 1, 1) := dk_64 (dk_at dksX8_digest_2 18 rfl rfl)
theorem dX8_digest_67 : decode cX8_digest 67 = .ok (.iinc 4 1, 3) := dk_132 4 1 (dk_at dksX8_digest_2 19 rfl rfl)
theorem dX8_digest_70 : decode cX8_digest 70 = .ok (.goto (-24), 3) := dk_167 255 232 (dk_at dksX8_digest_3 0 rfl rfl)
theorem dX8_digest_73 : decode cX8_digest 73 = .ok (.lload_n 1, 1) := dk_31 (dk_at dksX8_digest_3 3 rfl rfl)
theorem dX8_digest_74 : decode cX8_digest 74 = .ok (.ldc2_w 448, 3) := dk_20 1 192 (dk_at dksX8_digest_3 4 rfl rfl)
theorem dX8_digest_77 : decode cX8_digest 77 = .ok (.lmul, 1) := dk_105 (dk_at dksX8_digest_3 7 rfl rfl)
theorem dX8_digest_78 : decode cX8_digest 78 = .ok (.aload_n 0, 1) := dk_42 (dk_at dksX8_digest_3 8 rfl rfl)
theorem dX8_digest_79 : decode cX8_digest 79 = .ok (.iload_n 3, 1) := dk_29 (dk_at dksX8_digest_3 9 rfl rfl)
theorem dX8_digest_80 : decode cX8_digest 80 = .ok (.invokevirtual 440, 3) := dk_182 1 184 (dk_at dksX8_digest_3 10 rfl rfl)
theorem dX8_digest_83 : decode cX8_digest 83 = .ok (.i2l, 1) := dk_133 (dk_at dksX8_digest_3 13 rfl rfl)
theorem dX8_digest_84 : decode cX8_digest 84 = .ok (.ladd, 1) := dk_97 (dk_at dksX8_digest_3 14 rfl rfl)
theorem dX8_digest_85 : decode cX8_digest 85 = .ok (.lstore_n 1, 1) := dk_64 (dk_at dksX8_digest_3 15 rfl rfl)
theorem dX8_digest_86 : decode cX8_digest 86 = .ok (.iinc 3 1, 3) := dk_132 3 1 (dk_at dksX8_digest_3 16 rfl rfl)
theorem dX8_digest_89 : decode cX8_digest 89 = .ok (.goto (-51), 3) := dk_167 255 205 (dk_at dksX8_digest_3 19 rfl rfl)
theorem dX8_digest_92 : decode cX8_digest 92 = .ok (.iconst 0, 1) := dk_3 (dk_at dksX8_digest_3 22 rfl rfl)
theorem dX8_digest_93 : decode cX8_digest 93 = .ok (.istore_n 3, 1) := dk_62 (dk_at dksX8_digest_3 23 rfl rfl)
theorem dX8_digest_94 : decode cX8_digest 94 = .ok (.iload_n 3, 1) := dk_29 (dk_at dksX8_digest_4 0 rfl rfl)
theorem dX8_digest_95 : decode cX8_digest 95 = .ok (.aload_n 0, 1) := dk_42 (dk_at dksX8_digest_4 1 rfl rfl)
theorem dX8_digest_96 : decode cX8_digest 96 = .ok (.getfield 16, 3) := dk_180 0 16 (dk_at dksX8_digest_4 2 rfl rfl)
theorem dX8_digest_99 : decode cX8_digest 99 = .ok (.invokevirtual 56, 3) := dk_182 0 56 (dk_at dksX8_digest_4 5 rfl rfl)
theorem dX8_digest_102 : decode cX8_digest 102 = .ok (.if_icmp .ge 129, 3) := dk_162 0 129 (dk_at dksX8_digest_4 8 rfl rfl)
theorem dX8_digest_105 : decode cX8_digest 105 = .ok (.iconst 0, 1) := dk_3 (dk_at dksX8_digest_4 11 rfl rfl)
theorem dX8_digest_106 : decode cX8_digest 106 = .ok (.istore 4, 2) := dk_54 4 (dk_at dksX8_digest_4 12 rfl rfl)
theorem dX8_digest_108 : decode cX8_digest 108 = .ok (.iload 4, 2) := dk_21 4 (dk_at dksX8_digest_4 14 rfl rfl)
theorem dX8_digest_110 : decode cX8_digest 110 = .ok (.bipush 13, 2) := dk_16 13 (dk_at dksX8_digest_4 16 rfl rfl)
theorem dX8_digest_112 : decode cX8_digest 112 = .ok (.if_icmp .gt 34, 3) := dk_163 0 34 (dk_at dksX8_digest_4 18 rfl rfl)
theorem dX8_digest_115 : decode cX8_digest 115 = .ok (.lload_n 1, 1) := dk_31 (dk_at dksX8_digest_4 21 rfl rfl)
theorem dX8_digest_116 : decode cX8_digest 116 = .ok (.ldc2_w 448, 3) := dk_20 1 192 (dk_at dksX8_digest_5 0 rfl rfl)
theorem dX8_digest_119 : decode cX8_digest 119 = .ok (.lmul, 1) := dk_105 (dk_at dksX8_digest_5 3 rfl rfl)
theorem dX8_digest_120 : decode cX8_digest 120 = .ok (.aload_n 0, 1) := dk_42 (dk_at dksX8_digest_5 4 rfl rfl)
theorem dX8_digest_121 : decode cX8_digest 121 = .ok (.aload_n 0, 1) := dk_42 (dk_at dksX8_digest_5 5 rfl rfl)
theorem dX8_digest_122 : decode cX8_digest 122 = .ok (.getfield 16, 3) := dk_180 0 16 (dk_at dksX8_digest_5 6 rfl rfl)
theorem dX8_digest_125 : decode cX8_digest 125 = .ok (.iload_n 3, 1) := dk_29 (dk_at dksX8_digest_5 9 rfl rfl)
theorem dX8_digest_126 : decode cX8_digest 126 = .ok (.invokevirtual 78, 3) := dk_182 0 78 (dk_at dksX8_digest_5 10 rfl rfl)
theorem dX8_digest_129 : decode cX8_digest 129 = .ok (.checkcast 68, 3) := dk_192 0 68 (dk_at dksX8_digest_5 13 rfl rfl)
theorem dX8_digest_132 : decode cX8_digest 132 = .ok (.iload 4, 2) := dk_21 4 (dk_at dksX8_digest_5 16 rfl rfl)
theorem dX8_digest_134 : decode cX8_digest 134 = .ok (.invokevirtual 386, 3) := dk_182 1 130 (dk_at dksX8_digest_5 18 rfl rfl)
theorem dX8_digest_137 : decode cX8_digest 137 = .ok (.i2l, 1) := dk_133 (dk_at dksX8_digest_5 21 rfl rfl)
theorem dX8_digest_138 : decode cX8_digest 138 = .ok (.ladd, 1) := dk_97 (dk_at dksX8_digest_5 22 rfl rfl)
theorem dX8_digest_139 : decode cX8_digest 139 = .ok (.lstore_n 1, 1) := dk_64 (dk_at dksX8_digest_5 23 rfl rfl)
theorem dX8_digest_140 : decode cX8_digest 140 = .ok (.iinc 4 1, 3) := dk_132 4 1 (dk_at dksX8_digest_6 0 rfl rfl)
theorem dX8_digest_143 : decode cX8_digest 143 = .ok (.goto (-35), 3) := dk_167 255 221 (dk_at dksX8_digest_6 3 rfl rfl)
theorem dX8_digest_146 : decode cX8_digest 146 = .ok (.iconst 0, 1) := dk_3 (dk_at dksX8_digest_6 6 rfl rfl)
theorem dX8_digest_147 : decode cX8_digest 147 = .ok (.istore 4, 2) := dk_54 4 (dk_at dksX8_digest_6 7 rfl rfl)
theorem dX8_digest_149 : decode cX8_digest 149 = .ok (.iload 4, 2) := dk_21 4 (dk_at dksX8_digest_6 9 rfl rfl)
theorem dX8_digest_151 : decode cX8_digest 151 = .ok (.iconst 3, 1) := dk_6 (dk_at dksX8_digest_6 11 rfl rfl)
theorem dX8_digest_152 : decode cX8_digest 152 = .ok (.if_icmp .ge 73, 3) := dk_162 0 73 (dk_at dksX8_digest_6 12 rfl rfl)
theorem dX8_digest_155 : decode cX8_digest 155 = .ok (.lload_n 1, 1) := dk_31 (dk_at dksX8_digest_6 15 rfl rfl)
theorem dX8_digest_156 : decode cX8_digest 156 = .ok (.ldc2_w 448, 3) := dk_20 1 192 (dk_at dksX8_digest_6 16 rfl rfl)
theorem dX8_digest_159 : decode cX8_digest 159 = .ok (.lmul, 1) := dk_105 (dk_at dksX8_digest_6 19 rfl rfl)
theorem dX8_digest_160 : decode cX8_digest 160 = .ok (.aload_n 0, 1) := dk_42 (dk_at dksX8_digest_6 20 rfl rfl)
theorem dX8_digest_161 : decode cX8_digest 161 = .ok (.iload_n 3, 1) := dk_29 (dk_at dksX8_digest_6 21 rfl rfl)
theorem dX8_digest_162 : decode cX8_digest 162 = .ok (.iload 4, 2) := dk_21 4 (dk_at dksX8_digest_6 22 rfl rfl)
theorem dX8_digest_164 : decode cX8_digest 164 = .ok (.iconst 0, 1) := dk_3 (dk_at dksX8_digest_7 0 rfl rfl)
theorem dX8_digest_165 : decode cX8_digest 165 = .ok (.invokevirtual 336, 3) := dk_182 1 80 (dk_at dksX8_digest_7 1 rfl rfl)
theorem dX8_digest_168 : decode cX8_digest 168 = .ok (.i2l, 1) := dk_133 (dk_at dksX8_digest_7 4 rfl rfl)
theorem dX8_digest_169 : decode cX8_digest 169 = .ok (.ladd, 1) := dk_97 (dk_at dksX8_digest_7 5 rfl rfl)
theorem dX8_digest_170 : decode cX8_digest 170 = .ok (.lstore_n 1, 1) := dk_64 (dk_at dksX8_digest_7 6 rfl rfl)
theorem dX8_digest_171 : decode cX8_digest 171 = .ok (.lload_n 1, 1) := dk_31 (dk_at dksX8_digest_7 7 rfl rfl)
theorem dX8_digest_172 : decode cX8_digest 172 = .ok (.ldc2_w 448, 3) := dk_20 1 192 (dk_at dksX8_digest_7 8 rfl rfl)
theorem dX8_digest_175 : decode cX8_digest 175 = .ok (.lmul, 1) := dk_105 (dk_at dksX8_digest_7 11 rfl rfl)
theorem dX8_digest_176 : decode cX8_digest 176 = .ok (.aload_n 0, 1) := dk_42 (dk_at dksX8_digest_7 12 rfl rfl)
theorem dX8_digest_177 : decode cX8_digest 177 = .ok (.iload_n 3, 1) := dk_29 (dk_at dksX8_digest_7 13 rfl rfl)
theorem dX8_digest_178 : decode cX8_digest 178 = .ok (.iload 4, 2) := dk_21 4 (dk_at dksX8_digest_7 14 rfl rfl)
theorem dX8_digest_180 : decode cX8_digest 180 = .ok (.iconst 1, 1) := dk_4 (dk_at dksX8_digest_7 16 rfl rfl)
theorem dX8_digest_181 : decode cX8_digest 181 = .ok (.invokevirtual 336, 3) := dk_182 1 80 (dk_at dksX8_digest_7 17 rfl rfl)
theorem dX8_digest_184 : decode cX8_digest 184 = .ok (.i2l, 1) := dk_133 (dk_at dksX8_digest_7 20 rfl rfl)
theorem dX8_digest_185 : decode cX8_digest 185 = .ok (.ladd, 1) := dk_97 (dk_at dksX8_digest_7 21 rfl rfl)
theorem dX8_digest_186 : decode cX8_digest 186 = .ok (.lstore_n 1, 1) := dk_64 (dk_at dksX8_digest_7 22 rfl rfl)
theorem dX8_digest_187 : decode cX8_digest 187 = .ok (.iconst 0, 1) := dk_3 (dk_at dksX8_digest_7 23 rfl rfl)
theorem dX8_digest_188 : decode cX8_digest 188 = .ok (.istore 5, 2) := dk_54 5 (dk_at dksX8_digest_8 0 rfl rfl)
theorem dX8_digest_190 : decode cX8_digest 190 = .ok (.iload 5, 2) := dk_21 5 (dk_at dksX8_digest_8 2 rfl rfl)
theorem dX8_digest_192 : decode cX8_digest 192 = .ok (.iconst 5, 1) := dk_8 (dk_at dksX8_digest_8 4 rfl rfl)
theorem dX8_digest_193 : decode cX8_digest 193 = .ok (.if_icmp .gt 26, 3) := dk_163 0 26 (dk_at dksX8_digest_8 5 rfl rfl)
theorem dX8_digest_196 : decode cX8_digest 196 = .ok (.lload_n 1, 1) := dk_31 (dk_at dksX8_digest_8 8 rfl rfl)
theorem dX8_digest_197 : decode cX8_digest 197 = .ok (.ldc2_w 448, 3) := dk_20 1 192 (dk_at dksX8_digest_8 9 rfl rfl)
theorem dX8_digest_200 : decode cX8_digest 200 = .ok (.lmul, 1) := dk_105 (dk_at dksX8_digest_8 12 rfl rfl)
theorem dX8_digest_201 : decode cX8_digest 201 = .ok (.aload_n 0, 1) := dk_42 (dk_at dksX8_digest_8 13 rfl rfl)
theorem dX8_digest_202 : decode cX8_digest 202 = .ok (.iload_n 3, 1) := dk_29 (dk_at dksX8_digest_8 14 rfl rfl)
theorem dX8_digest_203 : decode cX8_digest 203 = .ok (.iload 4, 2) := dk_21 4 (dk_at dksX8_digest_8 15 rfl rfl)
theorem dX8_digest_205 : decode cX8_digest 205 = .ok (.iload 5, 2) := dk_21 5 (dk_at dksX8_digest_8 17 rfl rfl)
theorem dX8_digest_207 : decode cX8_digest 207 = .ok (.invokevirtual 389, 3) := dk_182 1 133 (dk_at dksX8_digest_8 19 rfl rfl)
theorem dX8_digest_210 : decode cX8_digest 210 = .ok (.i2l, 1) := dk_133 (dk_at dksX8_digest_8 22 rfl rfl)
theorem dX8_digest_211 : decode cX8_digest 211 = .ok (.ladd, 1) := dk_97 (dk_at dksX8_digest_8 23 rfl rfl)
theorem dX8_digest_212 : decode cX8_digest 212 = .ok (.lstore_n 1, 1) := dk_64 (dk_at dksX8_digest_9 0 rfl rfl)
theorem dX8_digest_213 : decode cX8_digest 213 = .ok (.iinc 5 1, 3) := dk_132 5 1 (dk_at dksX8_digest_9 1 rfl rfl)
theorem dX8_digest_216 : decode cX8_digest 216 = .ok (.goto (-26), 3) := dk_167 255 230 (dk_at dksX8_digest_9 4 rfl rfl)
theorem dX8_digest_219 : decode cX8_digest 219 = .ok (.iinc 4 1, 3) := dk_132 4 1 (dk_at dksX8_digest_9 7 rfl rfl)
theorem dX8_digest_222 : decode cX8_digest 222 = .ok (.goto (-73), 3) := dk_167 255 183 (dk_at dksX8_digest_9 10 rfl rfl)
theorem dX8_digest_225 : decode cX8_digest 225 = .ok (.iinc 3 1, 3) := dk_132 3 1 (dk_at dksX8_digest_9 13 rfl rfl)
theorem dX8_digest_228 : decode cX8_digest 228 = .ok (.goto (-134), 3) := dk_167 255 122 (dk_at dksX8_digest_9 16 rfl rfl)
theorem dX8_digest_231 : decode cX8_digest 231 = .ok (.iconst 0, 1) := dk_3 (dk_at dksX8_digest_9 19 rfl rfl)
theorem dX8_digest_232 : decode cX8_digest 232 = .ok (.istore_n 3, 1) := dk_62 (dk_at dksX8_digest_9 20 rfl rfl)
theorem dX8_digest_233 : decode cX8_digest 233 = .ok (.iload_n 3, 1) := dk_29 (dk_at dksX8_digest_9 21 rfl rfl)
theorem dX8_digest_234 : decode cX8_digest 234 = .ok (.aload_n 0, 1) := dk_42 (dk_at dksX8_digest_9 22 rfl rfl)
theorem dX8_digest_235 : decode cX8_digest 235 = .ok (.getfield 20, 3) := dk_180 0 20 (dk_at dksX8_digest_10 0 rfl rfl)
theorem dX8_digest_238 : decode cX8_digest 238 = .ok (.invokevirtual 56, 3) := dk_182 0 56 (dk_at dksX8_digest_10 3 rfl rfl)
theorem dX8_digest_241 : decode cX8_digest 241 = .ok (.if_icmp .ge 154, 3) := dk_162 0 154 (dk_at dksX8_digest_10 6 rfl rfl)
theorem dX8_digest_244 : decode cX8_digest 244 = .ok (.iconst 0, 1) := dk_3 (dk_at dksX8_digest_10 9 rfl rfl)
theorem dX8_digest_245 : decode cX8_digest 245 = .ok (.istore 4, 2) := dk_54 4 (dk_at dksX8_digest_10 10 rfl rfl)
theorem dX8_digest_247 : decode cX8_digest 247 = .ok (.iload 4, 2) := dk_21 4 (dk_at dksX8_digest_10 12 rfl rfl)
theorem dX8_digest_249 : decode cX8_digest 249 = .ok (.bipush 12, 2) := dk_16 12 (dk_at dksX8_digest_10 14 rfl rfl)
theorem dX8_digest_251 : decode cX8_digest 251 = .ok (.if_icmp .gt 24, 3) := dk_163 0 24 (dk_at dksX8_digest_10 16 rfl rfl)
theorem dX8_digest_254 : decode cX8_digest 254 = .ok (.lload_n 1, 1) := dk_31 (dk_at dksX8_digest_10 19 rfl rfl)
theorem dX8_digest_255 : decode cX8_digest 255 = .ok (.ldc2_w 448, 3) := dk_20 1 192 (dk_at dksX8_digest_10 20 rfl rfl)
theorem dX8_digest_258 : decode cX8_digest 258 = .ok (.lmul, 1) := dk_105 (dk_at dksX8_digest_10 23 rfl rfl)
theorem dX8_digest_259 : decode cX8_digest 259 = .ok (.aload_n 0, 1) := dk_42 (dk_at dksX8_digest_11 0 rfl rfl)
theorem dX8_digest_260 : decode cX8_digest 260 = .ok (.iload_n 3, 1) := dk_29 (dk_at dksX8_digest_11 1 rfl rfl)
theorem dX8_digest_261 : decode cX8_digest 261 = .ok (.iload 4, 2) := dk_21 4 (dk_at dksX8_digest_11 2 rfl rfl)
theorem dX8_digest_263 : decode cX8_digest 263 = .ok (.invokevirtual 395, 3) := dk_182 1 139 (dk_at dksX8_digest_11 4 rfl rfl)
theorem dX8_digest_266 : decode cX8_digest 266 = .ok (.i2l, 1) := dk_133 (dk_at dksX8_digest_11 7 rfl rfl)
theorem dX8_digest_267 : decode cX8_digest 267 = .ok (.ladd, 1) := dk_97 (dk_at dksX8_digest_11 8 rfl rfl)
theorem dX8_digest_268 : decode cX8_digest 268 = .ok (.lstore_n 1, 1) := dk_64 (dk_at dksX8_digest_11 9 rfl rfl)
theorem dX8_digest_269 : decode cX8_digest 269 = .ok (.iinc 4 1, 3) := dk_132 4 1 (dk_at dksX8_digest_11 10 rfl rfl)
theorem dX8_digest_272 : decode cX8_digest 272 = .ok (.goto (-25), 3) := dk_167 255 231 (dk_at dksX8_digest_11 13 rfl rfl)
theorem dX8_digest_275 : decode cX8_digest 275 = .ok (.lload_n 1, 1) := dk_31 (dk_at dksX8_digest_11 16 rfl rfl)
theorem dX8_digest_276 : decode cX8_digest 276 = .ok (.ldc2_w 448, 3) := dk_20 1 192 (dk_at dksX8_digest_11 17 rfl rfl)
theorem dX8_digest_279 : decode cX8_digest 279 = .ok (.lmul, 1) := dk_105 (dk_at dksX8_digest_11 20 rfl rfl)
theorem dX8_digest_280 : decode cX8_digest 280 = .ok (.ldc2_w 450, 3) := dk_20 1 194 (dk_at dksX8_digest_11 21 rfl rfl)
theorem dX8_digest_283 : decode cX8_digest 283 = .ok (.aload_n 0, 1) := dk_42 (dk_at dksX8_digest_12 0 rfl rfl)
theorem dX8_digest_284 : decode cX8_digest 284 = .ok (.iload_n 3, 1) := dk_29 (dk_at dksX8_digest_12 1 rfl rfl)
theorem dX8_digest_285 : decode cX8_digest 285 = .ok (.invokevirtual 430, 3) := dk_182 1 174 (dk_at dksX8_digest_12 2 rfl rfl)
theorem dX8_digest_288 : decode cX8_digest 288 = .ok (.dmul, 1) := dk_107 (dk_at dksX8_digest_12 5 rfl rfl)
theorem dX8_digest_289 : decode cX8_digest 289 = .ok (.d2l, 1) := dk_143 (dk_at dksX8_digest_12 6 rfl rfl)
theorem dX8_digest_290 : decode cX8_digest 290 = .ok (.ladd, 1) := dk_97 (dk_at dksX8_digest_12 7 rfl rfl)
theorem dX8_digest_291 : decode cX8_digest 291 = .ok (.lstore_n 1, 1) := dk_64 (dk_at dksX8_digest_12 8 rfl rfl)
theorem dX8_digest_292 : decode cX8_digest 292 = .ok (.iconst 0, 1) := dk_3 (dk_at dksX8_digest_12 9 rfl rfl)
theorem dX8_digest_293 : decode cX8_digest 293 = .ok (.istore 4, 2) := dk_54 4 (dk_at dksX8_digest_12 10 rfl rfl)
theorem dX8_digest_295 : decode cX8_digest 295 = .ok (.iload 4, 2) := dk_21 4 (dk_at dksX8_digest_12 12 rfl rfl)
theorem dX8_digest_297 : decode cX8_digest 297 = .ok (.aload_n 0, 1) := dk_42 (dk_at dksX8_digest_12 14 rfl rfl)
theorem dX8_digest_298 : decode cX8_digest 298 = .ok (.getfield 20, 3) := dk_180 0 20 (dk_at dksX8_digest_12 15 rfl rfl)
theorem dX8_digest_301 : decode cX8_digest 301 = .ok (.iload_n 3, 1) := dk_29 (dk_at dksX8_digest_12 18 rfl rfl)
theorem dX8_digest_302 : decode cX8_digest 302 = .ok (.invokevirtual 78, 3) := dk_182 0 78 (dk_at dksX8_digest_12 19 rfl rfl)
theorem dX8_digest_305 : decode cX8_digest 305 = .ok (.checkcast 152, 3) := dk_192 0 152 (dk_at dksX8_digest_13 0 rfl rfl)
theorem dX8_digest_308 : decode cX8_digest 308 = .ok (.getfield 164, 3) := dk_180 0 164 (dk_at dksX8_digest_13 3 rfl rfl)
theorem dX8_digest_311 : decode cX8_digest 311 = .ok (.invokevirtual 56, 3) := dk_182 0 56 (dk_at dksX8_digest_13 6 rfl rfl)
theorem dX8_digest_314 : decode cX8_digest 314 = .ok (.if_icmp .ge 75, 3) := dk_162 0 75 (dk_at dksX8_digest_13 9 rfl rfl)
theorem dX8_digest_317 : decode cX8_digest 317 = .ok (.lload_n 1, 1) := dk_31 (dk_at dksX8_digest_13 12 rfl rfl)
theorem dX8_digest_318 : decode cX8_digest 318 = .ok (.ldc2_w 448, 3) := dk_20 1 192 (dk_at dksX8_digest_13 13 rfl rfl)
theorem dX8_digest_321 : decode cX8_digest 321 = .ok (.lmul, 1) := dk_105 (dk_at dksX8_digest_13 16 rfl rfl)
theorem dX8_digest_322 : decode cX8_digest 322 = .ok (.aload_n 0, 1) := dk_42 (dk_at dksX8_digest_13 17 rfl rfl)
theorem dX8_digest_323 : decode cX8_digest 323 = .ok (.getfield 20, 3) := dk_180 0 20 (dk_at dksX8_digest_13 18 rfl rfl)
theorem dX8_digest_326 : decode cX8_digest 326 = .ok (.iload_n 3, 1) := dk_29 (dk_at dksX8_digest_13 21 rfl rfl)
theorem dX8_digest_327 : decode cX8_digest 327 = .ok (.invokevirtual 78, 3) := dk_182 0 78 (dk_at dksX8_digest_14 0 rfl rfl)
theorem dX8_digest_330 : decode cX8_digest 330 = .ok (.checkcast 152, 3) := dk_192 0 152 (dk_at dksX8_digest_14 3 rfl rfl)
theorem dX8_digest_333 : decode cX8_digest 333 = .ok (.getfield 164, 3) := dk_180 0 164 (dk_at dksX8_digest_14 6 rfl rfl)
theorem dX8_digest_336 : decode cX8_digest 336 = .ok (.iload 4, 2) := dk_21 4 (dk_at dksX8_digest_14 9 rfl rfl)
theorem dX8_digest_338 : decode cX8_digest 338 = .ok (.invokevirtual 78, 3) := dk_182 0 78 (dk_at dksX8_digest_14 11 rfl rfl)
theorem dX8_digest_341 : decode cX8_digest 341 = .ok (.checkcast 168, 3) := dk_192 0 168 (dk_at dksX8_digest_14 14 rfl rfl)
theorem dX8_digest_344 : decode cX8_digest 344 = .ok (.invokevirtual 186, 3) := dk_182 0 186 (dk_at dksX8_digest_14 17 rfl rfl)
theorem dX8_digest_347 : decode cX8_digest 347 = .ok (.i2l, 1) := dk_133 (dk_at dksX8_digest_14 20 rfl rfl)
theorem dX8_digest_348 : decode cX8_digest 348 = .ok (.ladd, 1) := dk_97 (dk_at dksX8_digest_14 21 rfl rfl)
theorem dX8_digest_349 : decode cX8_digest 349 = .ok (.lstore_n 1, 1) := dk_64 (dk_at dksX8_digest_14 22 rfl rfl)
theorem dX8_digest_350 : decode cX8_digest 350 = .ok (.lload_n 1, 1) := dk_31 (dk_at dksX8_digest_14 23 rfl rfl)
theorem dX8_digest_351 : decode cX8_digest 351 = .ok (.ldc2_w 448, 3) := dk_20 1 192 (dk_at dksX8_digest_15 0 rfl rfl)
theorem dX8_digest_354 : decode cX8_digest 354 = .ok (.lmul, 1) := dk_105 (dk_at dksX8_digest_15 3 rfl rfl)
theorem dX8_digest_355 : decode cX8_digest 355 = .ok (.aload_n 0, 1) := dk_42 (dk_at dksX8_digest_15 4 rfl rfl)
theorem dX8_digest_356 : decode cX8_digest 356 = .ok (.getfield 20, 3) := dk_180 0 20 (dk_at dksX8_digest_15 5 rfl rfl)
theorem dX8_digest_359 : decode cX8_digest 359 = .ok (.iload_n 3, 1) := dk_29 (dk_at dksX8_digest_15 8 rfl rfl)
theorem dX8_digest_360 : decode cX8_digest 360 = .ok (.invokevirtual 78, 3) := dk_182 0 78 (dk_at dksX8_digest_15 9 rfl rfl)
theorem dX8_digest_363 : decode cX8_digest 363 = .ok (.checkcast 152, 3) := dk_192 0 152 (dk_at dksX8_digest_15 12 rfl rfl)
theorem dX8_digest_366 : decode cX8_digest 366 = .ok (.getfield 173, 3) := dk_180 0 173 (dk_at dksX8_digest_15 15 rfl rfl)
theorem dX8_digest_369 : decode cX8_digest 369 = .ok (.iload 4, 2) := dk_21 4 (dk_at dksX8_digest_15 18 rfl rfl)
theorem dX8_digest_371 : decode cX8_digest 371 = .ok (.invokevirtual 78, 3) := dk_182 0 78 (dk_at dksX8_digest_15 20 rfl rfl)
theorem dX8_digest_374 : decode cX8_digest 374 = .ok (.checkcast 168, 3) := dk_192 0 168 (dk_at dksX8_digest_16 0 rfl rfl)
theorem dX8_digest_377 : decode cX8_digest 377 = .ok (.invokevirtual 186, 3) := dk_182 0 186 (dk_at dksX8_digest_16 3 rfl rfl)
theorem dX8_digest_380 : decode cX8_digest 380 = .ok (.i2l, 1) := dk_133 (dk_at dksX8_digest_16 6 rfl rfl)
theorem dX8_digest_381 : decode cX8_digest 381 = .ok (.ladd, 1) := dk_97 (dk_at dksX8_digest_16 7 rfl rfl)
theorem dX8_digest_382 : decode cX8_digest 382 = .ok (.lstore_n 1, 1) := dk_64 (dk_at dksX8_digest_16 8 rfl rfl)
theorem dX8_digest_383 : decode cX8_digest 383 = .ok (.iinc 4 1, 3) := dk_132 4 1 (dk_at dksX8_digest_16 9 rfl rfl)
theorem dX8_digest_386 : decode cX8_digest 386 = .ok (.goto (-91), 3) := dk_167 255 165 (dk_at dksX8_digest_16 12 rfl rfl)
theorem dX8_digest_389 : decode cX8_digest 389 = .ok (.iinc 3 1, 3) := dk_132 3 1 (dk_at dksX8_digest_16 15 rfl rfl)
theorem dX8_digest_392 : decode cX8_digest 392 = .ok (.goto (-159), 3) := dk_167 255 97 (dk_at dksX8_digest_16 18 rfl rfl)
theorem dX8_digest_395 : decode cX8_digest 395 = .ok (.aload_n 0, 1) := dk_42 (dk_at dksX8_digest_16 21 rfl rfl)
theorem dX8_digest_396 : decode cX8_digest 396 = .ok (.getfield 23, 3) := dk_180 0 23 (dk_at dksX8_digest_17 0 rfl rfl)
theorem dX8_digest_399 : decode cX8_digest 399 = .ok (.invokevirtual 195, 3) := dk_182 0 195 (dk_at dksX8_digest_17 3 rfl rfl)
theorem dX8_digest_402 : decode cX8_digest 402 = .ok (.astore_n 3, 1) := dk_78 (dk_at dksX8_digest_17 6 rfl rfl)
theorem dX8_digest_403 : decode cX8_digest 403 = .ok (.aload_n 3, 1) := dk_45 (dk_at dksX8_digest_17 7 rfl rfl)
theorem dX8_digest_404 : decode cX8_digest 404 = .ok (.invokeinterface 199 1, 5) := by decide +kernel
theorem dX8_digest_409 : decode cX8_digest 409 = .ok (.ifCond .eq 78, 3) := dk_153 0 78 (dk_at dksX8_digest_17 13 rfl rfl)
theorem dX8_digest_412 : decode cX8_digest 412 = .ok (.aload_n 3, 1) := dk_45 (dk_at dksX8_digest_17 16 rfl rfl)
theorem dX8_digest_413 : decode cX8_digest 413 = .ok (.invokeinterface 204 1, 5) := by decide +kernel
theorem dX8_digest_418 : decode cX8_digest 418 = .ok (.checkcast 208, 3) := dk_192 0 208 (dk_at dksX8_digest_18 0 rfl rfl)
theorem dX8_digest_421 : decode cX8_digest 421 = .ok (.astore 4, 2) := dk_58 4 (dk_at dksX8_digest_18 3 rfl rfl)
theorem dX8_digest_423 : decode cX8_digest 423 = .ok (.iconst 0, 1) := dk_3 (dk_at dksX8_digest_18 5 rfl rfl)
theorem dX8_digest_424 : decode cX8_digest 424 = .ok (.istore 5, 2) := dk_54 5 (dk_at dksX8_digest_18 6 rfl rfl)
theorem dX8_digest_426 : decode cX8_digest 426 = .ok (.iload 5, 2) := dk_21 5 (dk_at dksX8_digest_18 8 rfl rfl)
theorem dX8_digest_428 : decode cX8_digest 428 = .ok (.bipush 11, 2) := dk_16 11 (dk_at dksX8_digest_18 10 rfl rfl)
theorem dX8_digest_430 : decode cX8_digest 430 = .ok (.if_icmp .gt 25, 3) := dk_163 0 25 (dk_at dksX8_digest_18 12 rfl rfl)
theorem dX8_digest_433 : decode cX8_digest 433 = .ok (.lload_n 1, 1) := dk_31 (dk_at dksX8_digest_18 15 rfl rfl)
theorem dX8_digest_434 : decode cX8_digest 434 = .ok (.ldc2_w 448, 3) := dk_20 1 192 (dk_at dksX8_digest_18 16 rfl rfl)
theorem dX8_digest_437 : decode cX8_digest 437 = .ok (.lmul, 1) := dk_105 (dk_at dksX8_digest_18 19 rfl rfl)
theorem dX8_digest_438 : decode cX8_digest 438 = .ok (.aload_n 0, 1) := dk_42 (dk_at dksX8_digest_18 20 rfl rfl)
theorem dX8_digest_439 : decode cX8_digest 439 = .ok (.aload 4, 2) := dk_25 4 (dk_at dksX8_digest_18 21 rfl rfl)
theorem dX8_digest_441 : decode cX8_digest 441 = .ok (.iload 5, 2) := dk_21 5 (dk_at dksX8_digest_19 0 rfl rfl)
theorem dX8_digest_443 : decode cX8_digest 443 = .ok (.invokevirtual 398, 3) := dk_182 1 142 (dk_at dksX8_digest_19 2 rfl rfl)
theorem dX8_digest_446 : decode cX8_digest 446 = .ok (.i2l, 1) := dk_133 (dk_at dksX8_digest_19 5 rfl rfl)
theorem dX8_digest_447 : decode cX8_digest 447 = .ok (.ladd, 1) := dk_97 (dk_at dksX8_digest_19 6 rfl rfl)
theorem dX8_digest_448 : decode cX8_digest 448 = .ok (.lstore_n 1, 1) := dk_64 (dk_at dksX8_digest_19 7 rfl rfl)
theorem dX8_digest_449 : decode cX8_digest 449 = .ok (.iinc 5 1, 3) := dk_132 5 1 (dk_at dksX8_digest_19 8 rfl rfl)
theorem dX8_digest_452 : decode cX8_digest 452 = .ok (.goto (-26), 3) := dk_167 255 230 (dk_at dksX8_digest_19 11 rfl rfl)
theorem dX8_digest_455 : decode cX8_digest 455 = .ok (.lload_n 1, 1) := dk_31 (dk_at dksX8_digest_19 14 rfl rfl)
theorem dX8_digest_456 : decode cX8_digest 456 = .ok (.ldc2_w 448, 3) := dk_20 1 192 (dk_at dksX8_digest_19 15 rfl rfl)
theorem dX8_digest_459 : decode cX8_digest 459 = .ok (.lmul, 1) := dk_105 (dk_at dksX8_digest_19 18 rfl rfl)
theorem dX8_digest_460 : decode cX8_digest 460 = .ok (.aload_n 0, 1) := dk_42 (dk_at dksX8_digest_19 19 rfl rfl)
theorem dX8_digest_461 : decode cX8_digest 461 = .ok (.aload 4, 2) := dk_25 4 (dk_at dksX8_digest_19 20 rfl rfl)
theorem dX8_digest_463 : decode cX8_digest 463 = .ok (.iconst 1, 1) := dk_4 (dk_at dksX8_digest_19 22 rfl rfl)
theorem dX8_digest_464 : decode cX8_digest 464 = .ok (.invokevirtual 434, 3) := dk_182 1 178 (dk_at dksX8_digest_20 0 rfl rfl)
theorem dX8_digest_467 : decode cX8_digest 467 = .ok (.i2l, 1) := dk_133 (dk_at dksX8_digest_20 3 rfl rfl)
theorem dX8_digest_468 : decode cX8_digest 468 = .ok (.ladd, 1) := dk_97 (dk_at dksX8_digest_20 4 rfl rfl)
theorem dX8_digest_469 : decode cX8_digest 469 = .ok (.lstore_n 1, 1) := dk_64 (dk_at dksX8_digest_20 5 rfl rfl)
theorem dX8_digest_470 : decode cX8_digest 470 = .ok (.lload_n 1, 1) := dk_31 (dk_at dksX8_digest_20 6 rfl rfl)
theorem dX8_digest_471 : decode cX8_digest 471 = .ok (.ldc2_w 448, 3) := dk_20 1 192 (dk_at dksX8_digest_20 7 rfl rfl)
theorem dX8_digest_474 : decode cX8_digest 474 = .ok (.lmul, 1) := dk_105 (dk_at dksX8_digest_20 10 rfl rfl)
theorem dX8_digest_475 : decode cX8_digest 475 = .ok (.aload_n 0, 1) := dk_42 (dk_at dksX8_digest_20 11 rfl rfl)
theorem dX8_digest_476 : decode cX8_digest 476 = .ok (.aload 4, 2) := dk_25 4 (dk_at dksX8_digest_20 12 rfl rfl)
theorem dX8_digest_478 : decode cX8_digest 478 = .ok (.invokevirtual 437, 3) := dk_182 1 181 (dk_at dksX8_digest_20 14 rfl rfl)
theorem dX8_digest_481 : decode cX8_digest 481 = .ok (.i2l, 1) := dk_133 (dk_at dksX8_digest_20 17 rfl rfl)
theorem dX8_digest_482 : decode cX8_digest 482 = .ok (.ladd, 1) := dk_97 (dk_at dksX8_digest_20 18 rfl rfl)
theorem dX8_digest_483 : decode cX8_digest 483 = .ok (.lstore_n 1, 1) := dk_64 (dk_at dksX8_digest_20 19 rfl rfl)
theorem dX8_digest_484 : decode cX8_digest 484 = .ok (.goto (-81), 3) := dk_167 255 175 (dk_at dksX8_digest_20 20 rfl rfl)
theorem dX8_digest_487 : decode cX8_digest 487 = .ok (.lload_n 1, 1) := dk_31 (dk_at dksX8_digest_20 23 rfl rfl)
theorem dX8_digest_488 : decode cX8_digest 488 = .ok (.ldc2_w 448, 3) := dk_20 1 192 (dk_at dksX8_digest_21 0 rfl rfl)
theorem dX8_digest_491 : decode cX8_digest 491 = .ok (.lmul, 1) := dk_105 (dk_at dksX8_digest_21 3 rfl rfl)
theorem dX8_digest_492 : decode cX8_digest 492 = .ok (.aload_n 0, 1) := dk_42 (dk_at dksX8_digest_21 4 rfl rfl)
theorem dX8_digest_493 : decode cX8_digest 493 = .ok (.invokevirtual 443, 3) := dk_182 1 187 (dk_at dksX8_digest_21 5 rfl rfl)
theorem dX8_digest_496 : decode cX8_digest 496 = .ok (.ifCond .eq 7, 3) := dk_153 0 7 (dk_at dksX8_digest_21 8 rfl rfl)
theorem dX8_digest_499 : decode cX8_digest 499 = .ok (.iconst 1, 1) := dk_4 (dk_at dksX8_digest_21 11 rfl rfl)
theorem dX8_digest_500 : decode cX8_digest 500 = .ok (.goto 4, 3) := dk_167 0 4 (dk_at dksX8_digest_21 12 rfl rfl)
theorem dX8_digest_503 : decode cX8_digest 503 = .ok (.iconst 0, 1) := dk_3 (dk_at dksX8_digest_21 15 rfl rfl)
theorem dX8_digest_504 : decode cX8_digest 504 = .ok (.i2l, 1) := dk_133 (dk_at dksX8_digest_21 16 rfl rfl)
theorem dX8_digest_505 : decode cX8_digest 505 = .ok (.ladd, 1) := dk_97 (dk_at dksX8_digest_21 17 rfl rfl)
theorem dX8_digest_506 : decode cX8_digest 506 = .ok (.lreturn, 1) := dk_173 (dk_at dksX8_digest_21 18 rfl rfl)
theorem q85 : (Jvm.Cond.initialized "PublicanryModel") ∈ lw_all := lw_g (lw_at lw_m1 12 rfl) rfl
theorem q472 : (Jvm.Cond.selects "PublicanryModel" ({ cls := "java/lang/Object", name := "notifyAll", desc := "()V" } : Jvm.MethodName) ({ cls := "java/lang/Object", name := "notifyAll", desc := "()V" } : Jvm.MethodName)) ∈ lw_all := lw_g (lw_at lw_m2 159 rfl) rfl
theorem q574 : (Jvm.Cond.selects "PublicanryModel" ({ cls := "java/lang/Object", name := "notify", desc := "()V" } : Jvm.MethodName) ({ cls := "java/lang/Object", name := "notify", desc := "()V" } : Jvm.MethodName)) ∈ lw_all := lw_g (lw_at lw_m3 21 rfl) rfl
theorem q891 : (Jvm.Cond.selects "PublicanryModel" ({ cls := "java/lang/Object", name := "getClass", desc := "()Ljava/lang/Class;" } : Jvm.MethodName) ({ cls := "java/lang/Object", name := "getClass", desc := "()Ljava/lang/Class;" } : Jvm.MethodName)) ∈ lw_all := lw_g (lw_at lw_m4 98 rfl) rfl
theorem q1938 : (Jvm.Cond.instantiable "PublicanryModel" (22 : Nat)) ∈ lw_all := lw_g (lw_at lw_m8 185 rfl) rfl
theorem q1940 : (Jvm.Cond.instanceMethod ({ cls := "PublicanryModel", name := "<init>", desc := "()V" } : Jvm.MethodName)) ∈ lw_all := lw_g (lw_at lw_m8 187 rfl) rfl
theorem q1941 : (Jvm.Cond.code ({ cls := "PublicanryModel", name := "<init>", desc := "()V" } : Jvm.MethodName) prog_19_method_1_code (1 : Nat) (Option.none : Option Jvm.ClassFile.FieldType)) ∈ lw_all := lw_g (lw_at lw_m8 188 rfl) rfl
theorem q1942 : (Jvm.Cond.methodLink "PublicanryModel" (1 : Nat) ({ cls := "java/lang/Object", name := "<init>", desc := "()V" } : Jvm.MethodName)) ∈ lw_all := lw_g (lw_at lw_m8 189 rfl) rfl
theorem q1943 : (Jvm.Cond.classLink "PublicanryModel" (13 : Nat) "java/util/ArrayList") ∈ lw_all := lw_g (lw_at lw_m8 190 rfl) rfl
theorem q1944 : (Jvm.Cond.methodLink "PublicanryModel" (15 : Nat) ({ cls := "java/util/ArrayList", name := "<init>", desc := "()V" } : Jvm.MethodName)) ∈ lw_all := lw_g (lw_at lw_m8 191 rfl) rfl
theorem q1945 : (Jvm.Cond.fieldLink "PublicanryModel" (49 : Nat) "PublicanryModel" "thrown" "I") ∈ lw_all := lw_g (lw_at lw_m8 192 rfl) rfl
theorem q1946 : (Jvm.Cond.fieldLink "PublicanryModel" (64 : Nat) "PublicanryModel" "season" "I") ∈ lw_all := lw_g (lw_at lw_m8 193 rfl) rfl
theorem q1947 : (Jvm.Cond.fieldLink "PublicanryModel" (7 : Nat) "PublicanryModel" "sky" "I") ∈ lw_all := lw_g (lw_at lw_m8 194 rfl) rfl
theorem q1948 : (Jvm.Cond.fieldLink "PublicanryModel" (16 : Nat) "PublicanryModel" "villages" "Ljava/util/ArrayList;") ∈ lw_all := lw_g (lw_at lw_m8 195 rfl) rfl
theorem q1949 : (Jvm.Cond.fieldLink "PublicanryModel" (20 : Nat) "PublicanryModel" "companies" "Ljava/util/ArrayList;") ∈ lw_all := lw_g (lw_at lw_m8 196 rfl) rfl
theorem q1950 : (Jvm.Cond.fieldLink "PublicanryModel" (23 : Nat) "PublicanryModel" "lots" "Ljava/util/ArrayList;") ∈ lw_all := lw_g (lw_at lw_m8 197 rfl) rfl
theorem q1951 : (Jvm.Cond.fieldLink "PublicanryModel" (26 : Nat) "PublicanryModel" "rates" "[I") ∈ lw_all := lw_g (lw_at lw_m8 198 rfl) rfl
theorem q1952 : (Jvm.Cond.fieldLink "PublicanryModel" (30 : Nat) "PublicanryModel" "exempt" "[I") ∈ lw_all := lw_g (lw_at lw_m8 199 rfl) rfl
theorem q1953 : (Jvm.Cond.fieldLink "PublicanryModel" (33 : Nat) "PublicanryModel" "edictRate" "[I") ∈ lw_all := lw_g (lw_at lw_m8 200 rfl) rfl
theorem q1954 : (Jvm.Cond.fieldLink "PublicanryModel" (36 : Nat) "PublicanryModel" "edictExempt" "[I") ∈ lw_all := lw_g (lw_at lw_m8 201 rfl) rfl
theorem q1955 : (Jvm.Cond.fieldLink "PublicanryModel" (39 : Nat) "PublicanryModel" "hasClerks" "[Z") ∈ lw_all := lw_g (lw_at lw_m8 202 rfl) rfl
theorem q1956 : (Jvm.Cond.fieldLink "PublicanryModel" (43 : Nat) "PublicanryModel" "clerksBrought" "[I") ∈ lw_all := lw_g (lw_at lw_m8 203 rfl) rfl
theorem q1957 : (Jvm.Cond.fieldLink "PublicanryModel" (112 : Nat) "PublicanryModel" "number" "I") ∈ lw_all := lw_g (lw_at lw_m8 204 rfl) rfl
theorem q1958 : (Jvm.Cond.fieldLink "PublicanryModel" (118 : Nat) "PublicanryModel" "treasury" "I") ∈ lw_all := lw_g (lw_at lw_m8 205 rfl) rfl
theorem q1959 : (Jvm.Cond.fieldLink "PublicanryModel" (319 : Nat) "PublicanryModel" "governor" "I") ∈ lw_all := lw_g (lw_at lw_m8 206 rfl) rfl
theorem q1960 : (Jvm.Cond.fieldLink "PublicanryModel" (121 : Nat) "PublicanryModel" "world" "I") ∈ lw_all := lw_g (lw_at lw_m8 207 rfl) rfl
theorem q1961 : (Jvm.Cond.fieldLink "PublicanryModel" (309 : Nat) "PublicanryModel" "evidence" "I") ∈ lw_all := lw_g (lw_at lw_m8 208 rfl) rfl
theorem q1962 : (Jvm.Cond.fieldLink "PublicanryModel" (316 : Nat) "PublicanryModel" "won" "I") ∈ lw_all := lw_g (lw_at lw_m8 209 rfl) rfl
theorem q1963 : (Jvm.Cond.fieldLink "PublicanryModel" (300 : Nat) "PublicanryModel" "lost" "I") ∈ lw_all := lw_g (lw_at lw_m8 210 rfl) rfl
theorem q1964 : (Jvm.Cond.fieldLink "PublicanryModel" (312 : Nat) "PublicanryModel" "aside" "I") ∈ lw_all := lw_g (lw_at lw_m8 211 rfl) rfl
theorem q1965 : (Jvm.Cond.fieldLink "PublicanryModel" (46 : Nat) "PublicanryModel" "bidders" "I") ∈ lw_all := lw_g (lw_at lw_m8 212 rfl) rfl
theorem q1966 : (Jvm.Cond.fieldLink "PublicanryModel" (383 : Nat) "PublicanryModel" "refused" "I") ∈ lw_all := lw_g (lw_at lw_m8 213 rfl) rfl
theorem q1967 : (Jvm.Cond.lays "PublicanryModel" "PublicanryModel" "thrown" "I") ∈ lw_all := lw_g (lw_at lw_m8 214 rfl) rfl
theorem q1968 : (Jvm.Cond.soleField "PublicanryModel" "thrown") ∈ lw_all := lw_g (lw_at lw_m8 215 rfl) rfl
theorem q1969 : (Jvm.Cond.lays "PublicanryModel" "PublicanryModel" "season" "I") ∈ lw_all := lw_g (lw_at lw_m8 216 rfl) rfl
theorem q1970 : (Jvm.Cond.soleField "PublicanryModel" "season") ∈ lw_all := lw_g (lw_at lw_m8 217 rfl) rfl
theorem q1971 : (Jvm.Cond.lays "PublicanryModel" "PublicanryModel" "sky" "I") ∈ lw_all := lw_g (lw_at lw_m8 218 rfl) rfl
theorem q1972 : (Jvm.Cond.soleField "PublicanryModel" "sky") ∈ lw_all := lw_g (lw_at lw_m8 219 rfl) rfl
theorem q1973 : (Jvm.Cond.laysFinal "PublicanryModel" "PublicanryModel" "villages" "Ljava/util/ArrayList;") ∈ lw_all := lw_g (lw_at lw_m8 220 rfl) rfl
theorem q1974 : (Jvm.Cond.soleField "PublicanryModel" "villages") ∈ lw_all := lw_g (lw_at lw_m8 221 rfl) rfl
theorem q1975 : (Jvm.Cond.laysFinal "PublicanryModel" "PublicanryModel" "companies" "Ljava/util/ArrayList;") ∈ lw_all := lw_g (lw_at lw_m8 222 rfl) rfl
theorem q1976 : (Jvm.Cond.soleField "PublicanryModel" "companies") ∈ lw_all := lw_g (lw_at lw_m8 223 rfl) rfl
theorem q1977 : (Jvm.Cond.laysFinal "PublicanryModel" "PublicanryModel" "lots" "Ljava/util/ArrayList;") ∈ lw_all := lw_g (lw_at lw_m8 224 rfl) rfl
theorem q1978 : (Jvm.Cond.soleField "PublicanryModel" "lots") ∈ lw_all := lw_g (lw_at lw_m8 225 rfl) rfl
theorem q1979 : (Jvm.Cond.laysFinal "PublicanryModel" "PublicanryModel" "rates" "[I") ∈ lw_all := lw_g (lw_at lw_m8 226 rfl) rfl
theorem q1980 : (Jvm.Cond.soleField "PublicanryModel" "rates") ∈ lw_all := lw_g (lw_at lw_m8 227 rfl) rfl
theorem q1981 : (Jvm.Cond.laysFinal "PublicanryModel" "PublicanryModel" "exempt" "[I") ∈ lw_all := lw_g (lw_at lw_m8 228 rfl) rfl
theorem q1982 : (Jvm.Cond.soleField "PublicanryModel" "exempt") ∈ lw_all := lw_g (lw_at lw_m8 229 rfl) rfl
theorem q1983 : (Jvm.Cond.laysFinal "PublicanryModel" "PublicanryModel" "edictRate" "[I") ∈ lw_all := lw_g (lw_at lw_m8 230 rfl) rfl
theorem q1984 : (Jvm.Cond.soleField "PublicanryModel" "edictRate") ∈ lw_all := lw_g (lw_at lw_m8 231 rfl) rfl
theorem q1985 : (Jvm.Cond.laysFinal "PublicanryModel" "PublicanryModel" "edictExempt" "[I") ∈ lw_all := lw_g (lw_at lw_m8 232 rfl) rfl
theorem q1986 : (Jvm.Cond.soleField "PublicanryModel" "edictExempt") ∈ lw_all := lw_g (lw_at lw_m8 233 rfl) rfl
theorem q1987 : (Jvm.Cond.laysFinal "PublicanryModel" "PublicanryModel" "hasClerks" "[Z") ∈ lw_all := lw_g (lw_at lw_m8 234 rfl) rfl
theorem q1988 : (Jvm.Cond.soleField "PublicanryModel" "hasClerks") ∈ lw_all := lw_g (lw_at lw_m8 235 rfl) rfl
theorem q1989 : (Jvm.Cond.laysFinal "PublicanryModel" "PublicanryModel" "clerksBrought" "[I") ∈ lw_all := lw_g (lw_at lw_m8 236 rfl) rfl
theorem q1990 : (Jvm.Cond.soleField "PublicanryModel" "clerksBrought") ∈ lw_all := lw_g (lw_at lw_m8 237 rfl) rfl
theorem q1991 : (Jvm.Cond.lays "PublicanryModel" "PublicanryModel" "number" "I") ∈ lw_all := lw_g (lw_at lw_m8 238 rfl) rfl
theorem q1992 : (Jvm.Cond.soleField "PublicanryModel" "number") ∈ lw_all := lw_g (lw_at lw_m8 239 rfl) rfl
theorem q1993 : (Jvm.Cond.lays "PublicanryModel" "PublicanryModel" "treasury" "I") ∈ lw_all := lw_g (lw_at lw_m9 0 rfl) rfl
theorem q1994 : (Jvm.Cond.soleField "PublicanryModel" "treasury") ∈ lw_all := lw_g (lw_at lw_m9 1 rfl) rfl
theorem q1995 : (Jvm.Cond.lays "PublicanryModel" "PublicanryModel" "governor" "I") ∈ lw_all := lw_g (lw_at lw_m9 2 rfl) rfl
theorem q1996 : (Jvm.Cond.soleField "PublicanryModel" "governor") ∈ lw_all := lw_g (lw_at lw_m9 3 rfl) rfl
theorem q1997 : (Jvm.Cond.lays "PublicanryModel" "PublicanryModel" "world" "I") ∈ lw_all := lw_g (lw_at lw_m9 4 rfl) rfl
theorem q1998 : (Jvm.Cond.soleField "PublicanryModel" "world") ∈ lw_all := lw_g (lw_at lw_m9 5 rfl) rfl
theorem q1999 : (Jvm.Cond.lays "PublicanryModel" "PublicanryModel" "evidence" "I") ∈ lw_all := lw_g (lw_at lw_m9 6 rfl) rfl
theorem q2000 : (Jvm.Cond.soleField "PublicanryModel" "evidence") ∈ lw_all := lw_g (lw_at lw_m9 7 rfl) rfl
theorem q2001 : (Jvm.Cond.lays "PublicanryModel" "PublicanryModel" "won" "I") ∈ lw_all := lw_g (lw_at lw_m9 8 rfl) rfl
theorem q2002 : (Jvm.Cond.soleField "PublicanryModel" "won") ∈ lw_all := lw_g (lw_at lw_m9 9 rfl) rfl
theorem q2003 : (Jvm.Cond.lays "PublicanryModel" "PublicanryModel" "lost" "I") ∈ lw_all := lw_g (lw_at lw_m9 10 rfl) rfl
theorem q2004 : (Jvm.Cond.soleField "PublicanryModel" "lost") ∈ lw_all := lw_g (lw_at lw_m9 11 rfl) rfl
theorem q2005 : (Jvm.Cond.lays "PublicanryModel" "PublicanryModel" "aside" "I") ∈ lw_all := lw_g (lw_at lw_m9 12 rfl) rfl
theorem q2006 : (Jvm.Cond.soleField "PublicanryModel" "aside") ∈ lw_all := lw_g (lw_at lw_m9 13 rfl) rfl
theorem q2007 : (Jvm.Cond.lays "PublicanryModel" "PublicanryModel" "bidders" "I") ∈ lw_all := lw_g (lw_at lw_m9 14 rfl) rfl
theorem q2008 : (Jvm.Cond.soleField "PublicanryModel" "bidders") ∈ lw_all := lw_g (lw_at lw_m9 15 rfl) rfl
theorem q2009 : (Jvm.Cond.lays "PublicanryModel" "PublicanryModel" "refused" "I") ∈ lw_all := lw_g (lw_at lw_m9 16 rfl) rfl
theorem q2010 : (Jvm.Cond.soleField "PublicanryModel" "refused") ∈ lw_all := lw_g (lw_at lw_m9 17 rfl) rfl
theorem q2011 : (Jvm.Cond.superclass "PublicanryModel" "java/lang/Object") ∈ lw_all := lw_g (lw_at lw_m9 18 rfl) rfl
theorem q2013 : (Jvm.Cond.instanceMethod ({ cls := "PublicanryModel", name := "thrown", desc := "()I" } : Jvm.MethodName)) ∈ lw_all := lw_g (lw_at lw_m9 20 rfl) rfl
theorem q2014 : (Jvm.Cond.selects "PublicanryModel" ({ cls := "PublicanryModel", name := "thrown", desc := "()I" } : Jvm.MethodName) ({ cls := "PublicanryModel", name := "thrown", desc := "()I" } : Jvm.MethodName)) ∈ lw_all := lw_g (lw_at lw_m9 21 rfl) rfl
theorem q2015 : (Jvm.Cond.code ({ cls := "PublicanryModel", name := "thrown", desc := "()I" } : Jvm.MethodName) prog_19_method_2_code (1 : Nat) (Option.some Jvm.ClassFile.FieldType.int)) ∈ lw_all := lw_g (lw_at lw_m9 22 rfl) rfl
theorem q2017 : (Jvm.Cond.instanceMethod ({ cls := "PublicanryModel", name := "village", desc := "(IIII)I" } : Jvm.MethodName)) ∈ lw_all := lw_g (lw_at lw_m9 24 rfl) rfl
theorem q2018 : (Jvm.Cond.selects "PublicanryModel" ({ cls := "PublicanryModel", name := "village", desc := "(IIII)I" } : Jvm.MethodName) ({ cls := "PublicanryModel", name := "village", desc := "(IIII)I" } : Jvm.MethodName)) ∈ lw_all := lw_g (lw_at lw_m9 25 rfl) rfl
theorem q2019 : (Jvm.Cond.code ({ cls := "PublicanryModel", name := "village", desc := "(IIII)I" } : Jvm.MethodName) prog_19_method_18_code (7 : Nat) (Option.some Jvm.ClassFile.FieldType.int)) ∈ lw_all := lw_g (lw_at lw_m9 26 rfl) rfl
theorem q2020 : (Jvm.Cond.methodLink "PublicanryModel" (60 : Nat) ({ cls := "PublicanryModel", name := "isIn", desc := "(III)Z" } : Jvm.MethodName)) ∈ lw_all := lw_g (lw_at lw_m9 27 rfl) rfl
theorem q2021 : (Jvm.Cond.static ({ cls := "PublicanryModel", name := "isIn", desc := "(III)Z" } : Jvm.MethodName)) ∈ lw_all := lw_g (lw_at lw_m9 28 rfl) rfl
theorem q2022 : (Jvm.Cond.code ({ cls := "PublicanryModel", name := "isIn", desc := "(III)Z" } : Jvm.MethodName) prog_19_method_3_code (3 : Nat) (Option.some Jvm.ClassFile.FieldType.boolean)) ∈ lw_all := lw_g (lw_at lw_m9 29 rfl) rfl
theorem q2023 : (Jvm.Cond.methodLink "PublicanryModel" (124 : Nat) ({ cls := "PublicanryModel", name := "start", desc := "(ZI)Z" } : Jvm.MethodName)) ∈ lw_all := lw_g (lw_at lw_m9 30 rfl) rfl
theorem q2024 : (Jvm.Cond.privateMethod ({ cls := "PublicanryModel", name := "start", desc := "(ZI)Z" } : Jvm.MethodName)) ∈ lw_tbl := lw_at lw_m9 31 rfl
theorem q2025 : (Jvm.Cond.instanceMethod ({ cls := "PublicanryModel", name := "start", desc := "(ZI)Z" } : Jvm.MethodName)) ∈ lw_all := lw_g (lw_at lw_m9 32 rfl) rfl
theorem q2026 : (Jvm.Cond.code ({ cls := "PublicanryModel", name := "start", desc := "(ZI)Z" } : Jvm.MethodName) prog_19_method_6_code (3 : Nat) (Option.some Jvm.ClassFile.FieldType.boolean)) ∈ lw_all := lw_g (lw_at lw_m9 33 rfl) rfl
theorem q2027 : (Jvm.Cond.methodLink "PublicanryModel" (52 : Nat) ({ cls := "PublicanryModel", name := "refuse", desc := "(ZI)Z" } : Jvm.MethodName)) ∈ lw_all := lw_g (lw_at lw_m9 34 rfl) rfl
theorem q2028 : (Jvm.Cond.privateMethod ({ cls := "PublicanryModel", name := "refuse", desc := "(ZI)Z" } : Jvm.MethodName)) ∈ lw_tbl := lw_at lw_m9 35 rfl
theorem q2029 : (Jvm.Cond.instanceMethod ({ cls := "PublicanryModel", name := "refuse", desc := "(ZI)Z" } : Jvm.MethodName)) ∈ lw_all := lw_g (lw_at lw_m9 36 rfl) rfl
theorem q2030 : (Jvm.Cond.code ({ cls := "PublicanryModel", name := "refuse", desc := "(ZI)Z" } : Jvm.MethodName) prog_19_method_5_code (3 : Nat) (Option.some Jvm.ClassFile.FieldType.boolean)) ∈ lw_all := lw_g (lw_at lw_m9 37 rfl) rfl
theorem q2031 : (Jvm.Cond.methodLink "PublicanryModel" (56 : Nat) ({ cls := "java/util/ArrayList", name := "size", desc := "()I" } : Jvm.MethodName)) ∈ lw_all := lw_g (lw_at lw_m9 38 rfl) rfl
theorem q2032 : (Jvm.Cond.classLink "PublicanryModel" (68 : Nat) "PublicanryModel$Village") ∈ lw_all := lw_g (lw_at lw_m9 39 rfl) rfl
theorem q2034 : (Jvm.Cond.methodLinkNest "PublicanryModel" (127 : Nat) ({ cls := "PublicanryModel$Village", name := "<init>", desc := "()V" } : Jvm.MethodName) "PublicanryModel") ∈ lw_tbl := lw_at lw_m9 41 rfl
theorem q2040 : (Jvm.Cond.fieldLink "PublicanryModel" (75 : Nat) "PublicanryModel$Village" "houses" "I") ∈ lw_all := lw_g (lw_at lw_m9 47 rfl) rfl
theorem q2041 : (Jvm.Cond.fieldLink "PublicanryModel" (102 : Nat) "PublicanryModel$Village" "fields" "I") ∈ lw_all := lw_g (lw_at lw_m9 48 rfl) rfl
theorem q2042 : (Jvm.Cond.fieldLink "PublicanryModel" (72 : Nat) "PublicanryModel$Village" "herd" "I") ∈ lw_all := lw_g (lw_at lw_m9 49 rfl) rfl
theorem q2043 : (Jvm.Cond.fieldLink "PublicanryModel" (105 : Nat) "PublicanryModel$Village" "soil" "I") ∈ lw_all := lw_g (lw_at lw_m9 50 rfl) rfl
theorem q2044 : (Jvm.Cond.fieldLink "PublicanryModel" (128 : Nat) "PublicanryModel$Village" "grain" "I") ∈ lw_all := lw_g (lw_at lw_m9 51 rfl) rfl
theorem q2045 : (Jvm.Cond.fieldLink "PublicanryModel" (315 : Nat) "PublicanryModel$Village" "chest" "I") ∈ lw_all := lw_g (lw_at lw_m9 52 rfl) rfl
theorem q2046 : (Jvm.Cond.fieldLink "PublicanryModel" (346 : Nat) "PublicanryModel$Village" "debt" "I") ∈ lw_all := lw_g (lw_at lw_m9 53 rfl) rfl
theorem q2048 : (Jvm.Cond.fieldLink "PublicanryModel" (340 : Nat) "PublicanryModel$Village" "unrest" "I") ∈ lw_all := lw_g (lw_at lw_m9 55 rfl) rfl
theorem q2049 : (Jvm.Cond.fieldLink "PublicanryModel" (131 : Nat) "PublicanryModel$Village" "register" "I") ∈ lw_all := lw_g (lw_at lw_m9 56 rfl) rfl
theorem q2050 : (Jvm.Cond.fieldLink "PublicanryModel" (67 : Nat) "PublicanryModel$Village" "yield" "I") ∈ lw_all := lw_g (lw_at lw_m9 57 rfl) rfl
theorem q2051 : (Jvm.Cond.fieldLink "PublicanryModel" (329 : Nat) "PublicanryModel$Village" "isRevolt" "Z") ∈ lw_all := lw_g (lw_at lw_m9 58 rfl) rfl
theorem q2052 : (Jvm.Cond.fieldLink "PublicanryModel" (108 : Nat) "PublicanryModel$Village" "isBurnt" "Z") ∈ lw_all := lw_g (lw_at lw_m9 59 rfl) rfl
theorem q2053 : (Jvm.Cond.fieldLink "PublicanryModel" (115 : Nat) "PublicanryModel$Village" "stone" "I") ∈ lw_all := lw_g (lw_at lw_m9 60 rfl) rfl
theorem q2054 : (Jvm.Cond.fieldLink "PublicanryModel" (358 : Nat) "PublicanryModel$Village" "fled" "I") ∈ lw_all := lw_g (lw_at lw_m9 61 rfl) rfl
theorem q2056 : (Jvm.Cond.fieldLink "PublicanryModel" (90 : Nat) "PublicanryModel$Village" "rates" "[I") ∈ lw_all := lw_g (lw_at lw_m9 63 rfl) rfl
theorem q2058 : (Jvm.Cond.fieldLink "PublicanryModel" (91 : Nat) "PublicanryModel$Village" "exempt" "[Z") ∈ lw_all := lw_g (lw_at lw_m9 65 rfl) rfl
theorem q2060 : (Jvm.Cond.fieldLink "PublicanryModel" (289 : Nat) "PublicanryModel$Village" "levies" "[[I") ∈ lw_all := lw_g (lw_at lw_m9 67 rfl) rfl
theorem q2096 : (Jvm.Cond.methodLink "PublicanryModel" (134 : Nat) ({ cls := "java/util/ArrayList", name := "add", desc := "(Ljava/lang/Object;)Z" } : Jvm.MethodName)) ∈ lw_all := lw_g (lw_at lw_m9 103 rfl) rfl
theorem q2097 : (Jvm.Cond.methodLink "PublicanryModel" (138 : Nat) ({ cls := "PublicanryModel", name := "cutStone", desc := "(I)V" } : Jvm.MethodName)) ∈ lw_all := lw_g (lw_at lw_m9 104 rfl) rfl
theorem q2098 : (Jvm.Cond.privateMethod ({ cls := "PublicanryModel", name := "cutStone", desc := "(I)V" } : Jvm.MethodName)) ∈ lw_tbl := lw_at lw_m9 105 rfl
theorem q2099 : (Jvm.Cond.instanceMethod ({ cls := "PublicanryModel", name := "cutStone", desc := "(I)V" } : Jvm.MethodName)) ∈ lw_all := lw_g (lw_at lw_m9 106 rfl) rfl
theorem q2100 : (Jvm.Cond.code ({ cls := "PublicanryModel", name := "cutStone", desc := "(I)V" } : Jvm.MethodName) prog_19_method_16_code (4 : Nat) (Option.none : Option Jvm.ClassFile.FieldType)) ∈ lw_all := lw_g (lw_at lw_m9 107 rfl) rfl
theorem q2101 : (Jvm.Cond.methodLink "PublicanryModel" (78 : Nat) ({ cls := "java/util/ArrayList", name := "get", desc := "(I)Ljava/lang/Object;" } : Jvm.MethodName)) ∈ lw_all := lw_g (lw_at lw_m9 108 rfl) rfl
theorem q2102 : (Jvm.Cond.methodLink "PublicanryModel" (82 : Nat) ({ cls := "PublicanryModel", name := "has", desc := "(II)Z" } : Jvm.MethodName)) ∈ lw_all := lw_g (lw_at lw_m9 109 rfl) rfl
theorem q2103 : (Jvm.Cond.static ({ cls := "PublicanryModel", name := "has", desc := "(II)Z" } : Jvm.MethodName)) ∈ lw_all := lw_g (lw_at lw_m9 110 rfl) rfl
theorem q2104 : (Jvm.Cond.code ({ cls := "PublicanryModel", name := "has", desc := "(II)Z" } : Jvm.MethodName) prog_19_method_4_code (2 : Nat) (Option.some Jvm.ClassFile.FieldType.boolean)) ∈ lw_all := lw_g (lw_at lw_m9 111 rfl) rfl
theorem q2106 : (Jvm.Cond.instanceMethod ({ cls := "PublicanryModel", name := "clear", desc := "(II)I" } : Jvm.MethodName)) ∈ lw_all := lw_g (lw_at lw_m9 113 rfl) rfl
theorem q2107 : (Jvm.Cond.selects "PublicanryModel" ({ cls := "PublicanryModel", name := "clear", desc := "(II)I" } : Jvm.MethodName) ({ cls := "PublicanryModel", name := "clear", desc := "(II)I" } : Jvm.MethodName)) ∈ lw_all := lw_g (lw_at lw_m9 114 rfl) rfl
theorem q2108 : (Jvm.Cond.code ({ cls := "PublicanryModel", name := "clear", desc := "(II)I" } : Jvm.MethodName) prog_19_method_19_code (4 : Nat) (Option.some Jvm.ClassFile.FieldType.int)) ∈ lw_all := lw_g (lw_at lw_m9 115 rfl) rfl
theorem q2109 : (Jvm.Cond.methodLink "PublicanryModel" (142 : Nat) ({ cls := "PublicanryModel", name := "isNoVillage", desc := "(I)Z" } : Jvm.MethodName)) ∈ lw_all := lw_g (lw_at lw_m9 116 rfl) rfl
theorem q2110 : (Jvm.Cond.privateMethod ({ cls := "PublicanryModel", name := "isNoVillage", desc := "(I)Z" } : Jvm.MethodName)) ∈ lw_tbl := lw_at lw_m9 117 rfl
theorem q2111 : (Jvm.Cond.instanceMethod ({ cls := "PublicanryModel", name := "isNoVillage", desc := "(I)Z" } : Jvm.MethodName)) ∈ lw_all := lw_g (lw_at lw_m9 118 rfl) rfl
theorem q2112 : (Jvm.Cond.code ({ cls := "PublicanryModel", name := "isNoVillage", desc := "(I)Z" } : Jvm.MethodName) prog_19_method_7_code (2 : Nat) (Option.some Jvm.ClassFile.FieldType.boolean)) ∈ lw_all := lw_g (lw_at lw_m9 119 rfl) rfl
theorem q2113 : (Jvm.Cond.methodLink "PublicanryModel" (93 : Nat) ({ cls := "java/lang/Math", name := "min", desc := "(II)I" } : Jvm.MethodName)) ∈ lw_all := lw_g (lw_at lw_m9 120 rfl) rfl
theorem q2115 : (Jvm.Cond.instanceMethod ({ cls := "PublicanryModel", name := "survey", desc := "(I)I" } : Jvm.MethodName)) ∈ lw_all := lw_g (lw_at lw_m9 122 rfl) rfl
theorem q2116 : (Jvm.Cond.selects "PublicanryModel" ({ cls := "PublicanryModel", name := "survey", desc := "(I)I" } : Jvm.MethodName) ({ cls := "PublicanryModel", name := "survey", desc := "(I)I" } : Jvm.MethodName)) ∈ lw_all := lw_g (lw_at lw_m9 123 rfl) rfl
theorem q2117 : (Jvm.Cond.code ({ cls := "PublicanryModel", name := "survey", desc := "(I)I" } : Jvm.MethodName) prog_19_method_20_code (4 : Nat) (Option.some Jvm.ClassFile.FieldType.int)) ∈ lw_all := lw_g (lw_at lw_m9 124 rfl) rfl
theorem q2118 : (Jvm.Cond.methodLink "PublicanryModel" (146 : Nat) ({ cls := "PublicanryModel", name := "treasuryPays", desc := "(I)V" } : Jvm.MethodName)) ∈ lw_all := lw_g (lw_at lw_m9 125 rfl) rfl
theorem q2119 : (Jvm.Cond.privateMethod ({ cls := "PublicanryModel", name := "treasuryPays", desc := "(I)V" } : Jvm.MethodName)) ∈ lw_tbl := lw_at lw_m9 126 rfl
theorem q2120 : (Jvm.Cond.instanceMethod ({ cls := "PublicanryModel", name := "treasuryPays", desc := "(I)V" } : Jvm.MethodName)) ∈ lw_all := lw_g (lw_at lw_m9 127 rfl) rfl
theorem q2121 : (Jvm.Cond.code ({ cls := "PublicanryModel", name := "treasuryPays", desc := "(I)V" } : Jvm.MethodName) prog_19_method_17_code (3 : Nat) (Option.none : Option Jvm.ClassFile.FieldType)) ∈ lw_all := lw_g (lw_at lw_m9 128 rfl) rfl
theorem q2123 : (Jvm.Cond.instanceMethod ({ cls := "PublicanryModel", name := "war", desc := "(I)I" } : Jvm.MethodName)) ∈ lw_all := lw_g (lw_at lw_m9 130 rfl) rfl
theorem q2124 : (Jvm.Cond.selects "PublicanryModel" ({ cls := "PublicanryModel", name := "war", desc := "(I)I" } : Jvm.MethodName) ({ cls := "PublicanryModel", name := "war", desc := "(I)I" } : Jvm.MethodName)) ∈ lw_all := lw_g (lw_at lw_m9 131 rfl) rfl
theorem q2125 : (Jvm.Cond.code ({ cls := "PublicanryModel", name := "war", desc := "(I)I" } : Jvm.MethodName) prog_19_method_21_code (4 : Nat) (Option.some Jvm.ClassFile.FieldType.int)) ∈ lw_all := lw_g (lw_at lw_m9 132 rfl) rfl
theorem q2127 : (Jvm.Cond.instanceMethod ({ cls := "PublicanryModel", name := "edict", desc := "(III)I" } : Jvm.MethodName)) ∈ lw_all := lw_g (lw_at lw_m9 134 rfl) rfl
theorem q2128 : (Jvm.Cond.selects "PublicanryModel" ({ cls := "PublicanryModel", name := "edict", desc := "(III)I" } : Jvm.MethodName) ({ cls := "PublicanryModel", name := "edict", desc := "(III)I" } : Jvm.MethodName)) ∈ lw_all := lw_g (lw_at lw_m9 135 rfl) rfl
theorem q2129 : (Jvm.Cond.code ({ cls := "PublicanryModel", name := "edict", desc := "(III)I" } : Jvm.MethodName) prog_19_method_22_code (5 : Nat) (Option.some Jvm.ClassFile.FieldType.int)) ∈ lw_all := lw_g (lw_at lw_m9 136 rfl) rfl
theorem q2130 : (Jvm.Cond.methodLink "PublicanryModel" (149 : Nat) ({ cls := "PublicanryModel", name := "isNoDuty", desc := "(I)Z" } : Jvm.MethodName)) ∈ lw_all := lw_g (lw_at lw_m9 137 rfl) rfl
theorem q2131 : (Jvm.Cond.static ({ cls := "PublicanryModel", name := "isNoDuty", desc := "(I)Z" } : Jvm.MethodName)) ∈ lw_all := lw_g (lw_at lw_m9 138 rfl) rfl
theorem q2132 : (Jvm.Cond.code ({ cls := "PublicanryModel", name := "isNoDuty", desc := "(I)Z" } : Jvm.MethodName) prog_19_method_10_code (1 : Nat) (Option.some Jvm.ClassFile.FieldType.boolean)) ∈ lw_all := lw_g (lw_at lw_m9 139 rfl) rfl
theorem q2134 : (Jvm.Cond.instanceMethod ({ cls := "PublicanryModel", name := "cut", desc := "(I)I" } : Jvm.MethodName)) ∈ lw_all := lw_g (lw_at lw_m9 141 rfl) rfl
theorem q2135 : (Jvm.Cond.selects "PublicanryModel" ({ cls := "PublicanryModel", name := "cut", desc := "(I)I" } : Jvm.MethodName) ({ cls := "PublicanryModel", name := "cut", desc := "(I)I" } : Jvm.MethodName)) ∈ lw_all := lw_g (lw_at lw_m9 142 rfl) rfl
theorem q2136 : (Jvm.Cond.code ({ cls := "PublicanryModel", name := "cut", desc := "(I)I" } : Jvm.MethodName) prog_19_method_23_code (3 : Nat) (Option.some Jvm.ClassFile.FieldType.int)) ∈ lw_all := lw_g (lw_at lw_m9 143 rfl) rfl
theorem q2138 : (Jvm.Cond.instanceMethod ({ cls := "PublicanryModel", name := "company", desc := "(II)I" } : Jvm.MethodName)) ∈ lw_all := lw_g (lw_at lw_m9 145 rfl) rfl
theorem q2139 : (Jvm.Cond.selects "PublicanryModel" ({ cls := "PublicanryModel", name := "company", desc := "(II)I" } : Jvm.MethodName) ({ cls := "PublicanryModel", name := "company", desc := "(II)I" } : Jvm.MethodName)) ∈ lw_all := lw_g (lw_at lw_m9 146 rfl) rfl
theorem q2140 : (Jvm.Cond.code ({ cls := "PublicanryModel", name := "company", desc := "(II)I" } : Jvm.MethodName) prog_19_method_24_code (4 : Nat) (Option.some Jvm.ClassFile.FieldType.int)) ∈ lw_all := lw_g (lw_at lw_m9 147 rfl) rfl
theorem q2141 : (Jvm.Cond.classLink "PublicanryModel" (152 : Nat) "PublicanryModel$Company") ∈ lw_all := lw_g (lw_at lw_m9 148 rfl) rfl
theorem q2143 : (Jvm.Cond.methodLinkNest "PublicanryModel" (154 : Nat) ({ cls := "PublicanryModel$Company", name := "<init>", desc := "()V" } : Jvm.MethodName) "PublicanryModel") ∈ lw_tbl := lw_at lw_m9 150 rfl
theorem q2149 : (Jvm.Cond.fieldLink "PublicanryModel" (155 : Nat) "PublicanryModel$Company" "land" "I") ∈ lw_all := lw_g (lw_at lw_m9 156 rfl) rfl
theorem q2150 : (Jvm.Cond.fieldLink "PublicanryModel" (176 : Nat) "PublicanryModel$Company" "chest" "I") ∈ lw_all := lw_g (lw_at lw_m9 157 rfl) rfl
theorem q2151 : (Jvm.Cond.fieldLink "PublicanryModel" (158 : Nat) "PublicanryModel$Company" "ring" "I") ∈ lw_all := lw_g (lw_at lw_m9 158 rfl) rfl
theorem q2152 : (Jvm.Cond.fieldLink "PublicanryModel" (280 : Nat) "PublicanryModel$Company" "force" "I") ∈ lw_all := lw_g (lw_at lw_m9 159 rfl) rfl
theorem q2153 : (Jvm.Cond.fieldLink "PublicanryModel" (244 : Nat) "PublicanryModel$Company" "isBanned" "Z") ∈ lw_all := lw_g (lw_at lw_m9 160 rfl) rfl
theorem q2154 : (Jvm.Cond.fieldLink "PublicanryModel" (274 : Nat) "PublicanryModel$Company" "credit" "I") ∈ lw_all := lw_g (lw_at lw_m9 161 rfl) rfl
theorem q2155 : (Jvm.Cond.fieldLink "PublicanryModel" (306 : Nat) "PublicanryModel$Company" "gifts" "I") ∈ lw_all := lw_g (lw_at lw_m9 162 rfl) rfl
theorem q2156 : (Jvm.Cond.fieldLink "PublicanryModel" (349 : Nat) "PublicanryModel$Company" "brought" "I") ∈ lw_all := lw_g (lw_at lw_m9 163 rfl) rfl
theorem q2157 : (Jvm.Cond.fieldLink "PublicanryModel" (277 : Nat) "PublicanryModel$Company" "paid" "I") ∈ lw_all := lw_g (lw_at lw_m9 164 rfl) rfl
theorem q2159 : (Jvm.Cond.fieldLink "PublicanryModel" (164 : Nat) "PublicanryModel$Company" "shares" "Ljava/util/ArrayList;") ∈ lw_all := lw_g (lw_at lw_m9 166 rfl) rfl
theorem q2161 : (Jvm.Cond.fieldLink "PublicanryModel" (173 : Nat) "PublicanryModel$Company" "told" "Ljava/util/ArrayList;") ∈ lw_all := lw_g (lw_at lw_m9 168 rfl) rfl
theorem q2186 : (Jvm.Cond.instanceMethod ({ cls := "PublicanryModel", name := "join", desc := "(II)I" } : Jvm.MethodName)) ∈ lw_all := lw_g (lw_at lw_m9 193 rfl) rfl
theorem q2187 : (Jvm.Cond.selects "PublicanryModel" ({ cls := "PublicanryModel", name := "join", desc := "(II)I" } : Jvm.MethodName) ({ cls := "PublicanryModel", name := "join", desc := "(II)I" } : Jvm.MethodName)) ∈ lw_all := lw_g (lw_at lw_m9 194 rfl) rfl
theorem q2188 : (Jvm.Cond.code ({ cls := "PublicanryModel", name := "join", desc := "(II)I" } : Jvm.MethodName) prog_19_method_25_code (4 : Nat) (Option.some Jvm.ClassFile.FieldType.int)) ∈ lw_all := lw_g (lw_at lw_m9 195 rfl) rfl
theorem q2189 : (Jvm.Cond.methodLink "PublicanryModel" (161 : Nat) ({ cls := "PublicanryModel", name := "isNoCompany", desc := "(I)Z" } : Jvm.MethodName)) ∈ lw_all := lw_g (lw_at lw_m9 196 rfl) rfl
theorem q2190 : (Jvm.Cond.privateMethod ({ cls := "PublicanryModel", name := "isNoCompany", desc := "(I)Z" } : Jvm.MethodName)) ∈ lw_tbl := lw_at lw_m9 197 rfl
theorem q2191 : (Jvm.Cond.instanceMethod ({ cls := "PublicanryModel", name := "isNoCompany", desc := "(I)Z" } : Jvm.MethodName)) ∈ lw_all := lw_g (lw_at lw_m9 198 rfl) rfl
theorem q2192 : (Jvm.Cond.code ({ cls := "PublicanryModel", name := "isNoCompany", desc := "(I)Z" } : Jvm.MethodName) prog_19_method_8_code (2 : Nat) (Option.some Jvm.ClassFile.FieldType.boolean)) ∈ lw_all := lw_g (lw_at lw_m9 199 rfl) rfl
theorem q2193 : (Jvm.Cond.methodLink "PublicanryModel" (167 : Nat) ({ cls := "java/lang/Integer", name := "valueOf", desc := "(I)Ljava/lang/Integer;" } : Jvm.MethodName)) ∈ lw_all := lw_g (lw_at lw_m9 200 rfl) rfl
theorem q2214 : (Jvm.Cond.instanceMethod ({ cls := "PublicanryModel", name := "shareOut", desc := "(II)I" } : Jvm.MethodName)) ∈ lw_all := lw_g (lw_at lw_m9 221 rfl) rfl
theorem q2215 : (Jvm.Cond.selects "PublicanryModel" ({ cls := "PublicanryModel", name := "shareOut", desc := "(II)I" } : Jvm.MethodName) ({ cls := "PublicanryModel", name := "shareOut", desc := "(II)I" } : Jvm.MethodName)) ∈ lw_all := lw_g (lw_at lw_m9 222 rfl) rfl
theorem q2216 : (Jvm.Cond.code ({ cls := "PublicanryModel", name := "shareOut", desc := "(II)I" } : Jvm.MethodName) prog_19_method_26_code (10 : Nat) (Option.some Jvm.ClassFile.FieldType.int)) ∈ lw_all := lw_g (lw_at lw_m9 223 rfl) rfl
theorem q2217 : (Jvm.Cond.methodLink "PublicanryModel" (179 : Nat) ({ cls := "java/util/ArrayList", name := "isEmpty", desc := "()Z" } : Jvm.MethodName)) ∈ lw_all := lw_g (lw_at lw_m9 224 rfl) rfl
theorem q2218 : (Jvm.Cond.methodLink "PublicanryModel" (183 : Nat) ({ cls := "PublicanryModel$Company", name := "allShares", desc := "()I" } : Jvm.MethodName)) ∈ lw_all := lw_g (lw_at lw_m9 225 rfl) rfl
theorem q2232 : (Jvm.Cond.classLink "PublicanryModel" (168 : Nat) "java/lang/Integer") ∈ lw_all := lw_g (lw_at lw_m9 239 rfl) rfl
theorem q2233 : (Jvm.Cond.methodLink "PublicanryModel" (186 : Nat) ({ cls := "java/lang/Integer", name := "intValue", desc := "()I" } : Jvm.MethodName)) ∈ lw_all := lw_g (lw_at lw_m10 0 rfl) rfl
theorem q2234 : (Jvm.Cond.methodLink "PublicanryModel" (189 : Nat) ({ cls := "java/util/ArrayList", name := "set", desc := "(ILjava/lang/Object;)Ljava/lang/Object;" } : Jvm.MethodName)) ∈ lw_all := lw_g (lw_at lw_m10 1 rfl) rfl
theorem q2235 : (Jvm.Cond.constantLong "PublicanryModel" (193 : Nat) (-1 : Int64)) ∈ lw_all := lw_g (lw_at lw_m10 2 rfl) rfl
theorem q2237 : (Jvm.Cond.instanceMethod ({ cls := "PublicanryModel", name := "ring", desc := "(II)I" } : Jvm.MethodName)) ∈ lw_all := lw_g (lw_at lw_m10 4 rfl) rfl
theorem q2238 : (Jvm.Cond.selects "PublicanryModel" ({ cls := "PublicanryModel", name := "ring", desc := "(II)I" } : Jvm.MethodName) ({ cls := "PublicanryModel", name := "ring", desc := "(II)I" } : Jvm.MethodName)) ∈ lw_all := lw_g (lw_at lw_m10 5 rfl) rfl
theorem q2239 : (Jvm.Cond.code ({ cls := "PublicanryModel", name := "ring", desc := "(II)I" } : Jvm.MethodName) prog_19_method_27_code (4 : Nat) (Option.some Jvm.ClassFile.FieldType.int)) ∈ lw_all := lw_g (lw_at lw_m10 6 rfl) rfl
theorem q2241 : (Jvm.Cond.instanceMethod ({ cls := "PublicanryModel", name := "lot", desc := "(IIII)I" } : Jvm.MethodName)) ∈ lw_all := lw_g (lw_at lw_m10 8 rfl) rfl
theorem q2242 : (Jvm.Cond.selects "PublicanryModel" ({ cls := "PublicanryModel", name := "lot", desc := "(IIII)I" } : Jvm.MethodName) ({ cls := "PublicanryModel", name := "lot", desc := "(IIII)I" } : Jvm.MethodName)) ∈ lw_all := lw_g (lw_at lw_m10 9 rfl) rfl
theorem q2243 : (Jvm.Cond.code ({ cls := "PublicanryModel", name := "lot", desc := "(IIII)I" } : Jvm.MethodName) prog_19_method_29_code (7 : Nat) (Option.some Jvm.ClassFile.FieldType.int)) ∈ lw_all := lw_g (lw_at lw_m10 10 rfl) rfl
theorem q2244 : (Jvm.Cond.methodLink "PublicanryModel" (218 : Nat) ({ cls := "PublicanryModel", name := "isTaken", desc := "(II)Z" } : Jvm.MethodName)) ∈ lw_all := lw_g (lw_at lw_m10 11 rfl) rfl
theorem q2245 : (Jvm.Cond.privateMethod ({ cls := "PublicanryModel", name := "isTaken", desc := "(II)Z" } : Jvm.MethodName)) ∈ lw_tbl := lw_at lw_m10 12 rfl
theorem q2246 : (Jvm.Cond.instanceMethod ({ cls := "PublicanryModel", name := "isTaken", desc := "(II)Z" } : Jvm.MethodName)) ∈ lw_all := lw_g (lw_at lw_m10 13 rfl) rfl
theorem q2247 : (Jvm.Cond.code ({ cls := "PublicanryModel", name := "isTaken", desc := "(II)Z" } : Jvm.MethodName) prog_19_method_28_code (5 : Nat) (Option.some Jvm.ClassFile.FieldType.boolean)) ∈ lw_all := lw_g (lw_at lw_m10 14 rfl) rfl
theorem q2248 : (Jvm.Cond.methodLink "PublicanryModel" (195 : Nat) ({ cls := "java/util/ArrayList", name := "iterator", desc := "()Ljava/util/Iterator;" } : Jvm.MethodName)) ∈ lw_all := lw_g (lw_at lw_m10 15 rfl) rfl
theorem q2249 : (Jvm.Cond.interfaceEntry "PublicanryModel" (199 : Nat)) ∈ lw_tbl := lw_at lw_m10 16 rfl
theorem q2250 : (Jvm.Cond.methodLink "PublicanryModel" (199 : Nat) ({ cls := "java/util/Iterator", name := "hasNext", desc := "()Z" } : Jvm.MethodName)) ∈ lw_all := lw_g (lw_at lw_m10 17 rfl) rfl
theorem q2251 : (Jvm.Cond.interfaceEntry "PublicanryModel" (204 : Nat)) ∈ lw_tbl := lw_at lw_m10 18 rfl
theorem q2252 : (Jvm.Cond.methodLink "PublicanryModel" (204 : Nat) ({ cls := "java/util/Iterator", name := "next", desc := "()Ljava/lang/Object;" } : Jvm.MethodName)) ∈ lw_all := lw_g (lw_at lw_m10 19 rfl) rfl
theorem q2253 : (Jvm.Cond.classLink "PublicanryModel" (208 : Nat) "PublicanryModel$Lot") ∈ lw_all := lw_g (lw_at lw_m10 20 rfl) rfl
theorem q2255 : (Jvm.Cond.methodLinkNest "PublicanryModel" (221 : Nat) ({ cls := "PublicanryModel$Lot", name := "<init>", desc := "()V" } : Jvm.MethodName) "PublicanryModel") ∈ lw_tbl := lw_at lw_m10 22 rfl
theorem q2259 : (Jvm.Cond.fieldLink "PublicanryModel" (213 : Nat) "PublicanryModel$Lot" "duty" "I") ∈ lw_all := lw_g (lw_at lw_m10 26 rfl) rfl
theorem q2260 : (Jvm.Cond.fieldLink "PublicanryModel" (216 : Nat) "PublicanryModel$Lot" "set" "I") ∈ lw_all := lw_g (lw_at lw_m10 27 rfl) rfl
theorem q2261 : (Jvm.Cond.fieldLink "PublicanryModel" (222 : Nat) "PublicanryModel$Lot" "term" "I") ∈ lw_all := lw_g (lw_at lw_m10 28 rfl) rfl
theorem q2262 : (Jvm.Cond.fieldLink "PublicanryModel" (225 : Nat) "PublicanryModel$Lot" "minimum" "I") ∈ lw_all := lw_g (lw_at lw_m10 29 rfl) rfl
theorem q2264 : (Jvm.Cond.fieldLink "PublicanryModel" (210 : Nat) "PublicanryModel$Lot" "state" "I") ∈ lw_all := lw_g (lw_at lw_m10 31 rfl) rfl
theorem q2266 : (Jvm.Cond.fieldLink "PublicanryModel" (228 : Nat) "PublicanryModel$Lot" "company" "I") ∈ lw_all := lw_g (lw_at lw_m10 33 rfl) rfl
theorem q2267 : (Jvm.Cond.fieldLink "PublicanryModel" (231 : Nat) "PublicanryModel$Lot" "price" "I") ∈ lw_all := lw_g (lw_at lw_m10 34 rfl) rfl
theorem q2268 : (Jvm.Cond.fieldLink "PublicanryModel" (262 : Nat) "PublicanryModel$Lot" "left" "I") ∈ lw_all := lw_g (lw_at lw_m10 35 rfl) rfl
theorem q2269 : (Jvm.Cond.fieldLink "PublicanryModel" (269 : Nat) "PublicanryModel$Lot" "due" "I") ∈ lw_all := lw_g (lw_at lw_m10 36 rfl) rfl
theorem q2270 : (Jvm.Cond.fieldLink "PublicanryModel" (271 : Nat) "PublicanryModel$Lot" "remitted" "I") ∈ lw_all := lw_g (lw_at lw_m10 37 rfl) rfl
theorem q2272 : (Jvm.Cond.fieldLink "PublicanryModel" (322 : Nat) "PublicanryModel$Lot" "asked" "I") ∈ lw_all := lw_g (lw_at lw_m10 39 rfl) rfl
theorem q2274 : (Jvm.Cond.fieldLink "PublicanryModel" (238 : Nat) "PublicanryModel$Lot" "bids" "[I") ∈ lw_all := lw_g (lw_at lw_m10 41 rfl) rfl
theorem q2276 : (Jvm.Cond.fieldLink "PublicanryModel" (283 : Nat) "PublicanryModel$Lot" "letOn" "[I") ∈ lw_all := lw_g (lw_at lw_m10 43 rfl) rfl
theorem q2305 : (Jvm.Cond.instanceMethod ({ cls := "PublicanryModel", name := "bid", desc := "(III)I" } : Jvm.MethodName)) ∈ lw_all := lw_g (lw_at lw_m10 72 rfl) rfl
theorem q2306 : (Jvm.Cond.selects "PublicanryModel" ({ cls := "PublicanryModel", name := "bid", desc := "(III)I" } : Jvm.MethodName) ({ cls := "PublicanryModel", name := "bid", desc := "(III)I" } : Jvm.MethodName)) ∈ lw_all := lw_g (lw_at lw_m10 73 rfl) rfl
theorem q2307 : (Jvm.Cond.code ({ cls := "PublicanryModel", name := "bid", desc := "(III)I" } : Jvm.MethodName) prog_19_method_33_code (5 : Nat) (Option.some Jvm.ClassFile.FieldType.int)) ∈ lw_all := lw_g (lw_at lw_m10 74 rfl) rfl
theorem q2308 : (Jvm.Cond.methodLink "PublicanryModel" (241 : Nat) ({ cls := "PublicanryModel", name := "isNoLot", desc := "(I)Z" } : Jvm.MethodName)) ∈ lw_all := lw_g (lw_at lw_m10 75 rfl) rfl
theorem q2309 : (Jvm.Cond.privateMethod ({ cls := "PublicanryModel", name := "isNoLot", desc := "(I)Z" } : Jvm.MethodName)) ∈ lw_tbl := lw_at lw_m10 76 rfl
theorem q2310 : (Jvm.Cond.instanceMethod ({ cls := "PublicanryModel", name := "isNoLot", desc := "(I)Z" } : Jvm.MethodName)) ∈ lw_all := lw_g (lw_at lw_m10 77 rfl) rfl
theorem q2311 : (Jvm.Cond.code ({ cls := "PublicanryModel", name := "isNoLot", desc := "(I)Z" } : Jvm.MethodName) prog_19_method_9_code (2 : Nat) (Option.some Jvm.ClassFile.FieldType.boolean)) ∈ lw_all := lw_g (lw_at lw_m10 78 rfl) rfl
theorem q2312 : (Jvm.Cond.methodLink "PublicanryModel" (247 : Nat) ({ cls := "PublicanryModel", name := "free", desc := "(I)I" } : Jvm.MethodName)) ∈ lw_all := lw_g (lw_at lw_m10 79 rfl) rfl
theorem q2313 : (Jvm.Cond.privateMethod ({ cls := "PublicanryModel", name := "free", desc := "(I)I" } : Jvm.MethodName)) ∈ lw_tbl := lw_at lw_m10 80 rfl
theorem q2314 : (Jvm.Cond.instanceMethod ({ cls := "PublicanryModel", name := "free", desc := "(I)I" } : Jvm.MethodName)) ∈ lw_all := lw_g (lw_at lw_m10 81 rfl) rfl
theorem q2315 : (Jvm.Cond.code ({ cls := "PublicanryModel", name := "free", desc := "(I)I" } : Jvm.MethodName) prog_19_method_31_code (2 : Nat) (Option.some Jvm.ClassFile.FieldType.int)) ∈ lw_all := lw_g (lw_at lw_m10 82 rfl) rfl
theorem q2316 : (Jvm.Cond.methodLink "PublicanryModel" (234 : Nat) ({ cls := "PublicanryModel", name := "pledged", desc := "(I)I" } : Jvm.MethodName)) ∈ lw_all := lw_g (lw_at lw_m10 83 rfl) rfl
theorem q2317 : (Jvm.Cond.privateMethod ({ cls := "PublicanryModel", name := "pledged", desc := "(I)I" } : Jvm.MethodName)) ∈ lw_tbl := lw_at lw_m10 84 rfl
theorem q2318 : (Jvm.Cond.instanceMethod ({ cls := "PublicanryModel", name := "pledged", desc := "(I)I" } : Jvm.MethodName)) ∈ lw_all := lw_g (lw_at lw_m10 85 rfl) rfl
theorem q2319 : (Jvm.Cond.code ({ cls := "PublicanryModel", name := "pledged", desc := "(I)I" } : Jvm.MethodName) prog_19_method_30_code (5 : Nat) (Option.some Jvm.ClassFile.FieldType.int)) ∈ lw_all := lw_g (lw_at lw_m10 86 rfl) rfl
theorem q2320 : (Jvm.Cond.methodLink "PublicanryModel" (250 : Nat) ({ cls := "PublicanryModel", name := "highest", desc := "(LPublicanryModel$Lot;)I" } : Jvm.MethodName)) ∈ lw_all := lw_g (lw_at lw_m10 87 rfl) rfl
theorem q2321 : (Jvm.Cond.static ({ cls := "PublicanryModel", name := "highest", desc := "(LPublicanryModel$Lot;)I" } : Jvm.MethodName)) ∈ lw_all := lw_g (lw_at lw_m10 88 rfl) rfl
theorem q2322 : (Jvm.Cond.code ({ cls := "PublicanryModel", name := "highest", desc := "(LPublicanryModel$Lot;)I" } : Jvm.MethodName) prog_19_method_32_code (6 : Nat) (Option.some Jvm.ClassFile.FieldType.int)) ∈ lw_all := lw_g (lw_at lw_m10 89 rfl) rfl
theorem q2323 : (Jvm.Cond.methodLink "PublicanryModel" (99 : Nat) ({ cls := "java/lang/Math", name := "max", desc := "(II)I" } : Jvm.MethodName)) ∈ lw_all := lw_g (lw_at lw_m10 90 rfl) rfl
theorem q2325 : (Jvm.Cond.instanceMethod ({ cls := "PublicanryModel", name := "award", desc := "(I)I" } : Jvm.MethodName)) ∈ lw_all := lw_g (lw_at lw_m10 92 rfl) rfl
theorem q2326 : (Jvm.Cond.selects "PublicanryModel" ({ cls := "PublicanryModel", name := "award", desc := "(I)I" } : Jvm.MethodName) ({ cls := "PublicanryModel", name := "award", desc := "(I)I" } : Jvm.MethodName)) ∈ lw_all := lw_g (lw_at lw_m10 93 rfl) rfl
theorem q2327 : (Jvm.Cond.code ({ cls := "PublicanryModel", name := "award", desc := "(I)I" } : Jvm.MethodName) prog_19_method_36_code (9 : Nat) (Option.some Jvm.ClassFile.FieldType.int)) ∈ lw_all := lw_g (lw_at lw_m10 94 rfl) rfl
theorem q2328 : (Jvm.Cond.methodLink "PublicanryModel" (258 : Nat) ({ cls := "PublicanryModel", name := "best", desc := "(LPublicanryModel$Lot;I)I" } : Jvm.MethodName)) ∈ lw_all := lw_g (lw_at lw_m10 95 rfl) rfl
theorem q2329 : (Jvm.Cond.privateMethod ({ cls := "PublicanryModel", name := "best", desc := "(LPublicanryModel$Lot;I)I" } : Jvm.MethodName)) ∈ lw_tbl := lw_at lw_m10 96 rfl
theorem q2330 : (Jvm.Cond.instanceMethod ({ cls := "PublicanryModel", name := "best", desc := "(LPublicanryModel$Lot;I)I" } : Jvm.MethodName)) ∈ lw_all := lw_g (lw_at lw_m10 97 rfl) rfl
theorem q2331 : (Jvm.Cond.code ({ cls := "PublicanryModel", name := "best", desc := "(LPublicanryModel$Lot;I)I" } : Jvm.MethodName) prog_19_method_35_code (5 : Nat) (Option.some Jvm.ClassFile.FieldType.int)) ∈ lw_all := lw_g (lw_at lw_m10 98 rfl) rfl
theorem q2332 : (Jvm.Cond.methodLink "PublicanryModel" (254 : Nat) ({ cls := "PublicanryModel", name := "counts", desc := "(LPublicanryModel$Lot;I)Z" } : Jvm.MethodName)) ∈ lw_all := lw_g (lw_at lw_m10 99 rfl) rfl
theorem q2333 : (Jvm.Cond.privateMethod ({ cls := "PublicanryModel", name := "counts", desc := "(LPublicanryModel$Lot;I)Z" } : Jvm.MethodName)) ∈ lw_tbl := lw_at lw_m10 100 rfl
theorem q2334 : (Jvm.Cond.instanceMethod ({ cls := "PublicanryModel", name := "counts", desc := "(LPublicanryModel$Lot;I)Z" } : Jvm.MethodName)) ∈ lw_all := lw_g (lw_at lw_m10 101 rfl) rfl
theorem q2335 : (Jvm.Cond.code ({ cls := "PublicanryModel", name := "counts", desc := "(LPublicanryModel$Lot;I)Z" } : Jvm.MethodName) prog_19_method_34_code (4 : Nat) (Option.some Jvm.ClassFile.FieldType.boolean)) ∈ lw_all := lw_g (lw_at lw_m10 102 rfl) rfl
theorem q2336 : (Jvm.Cond.methodLink "PublicanryModel" (265 : Nat) ({ cls := "PublicanryModel", name := "fallDue", desc := "(LPublicanryModel$Lot;)V" } : Jvm.MethodName)) ∈ lw_all := lw_g (lw_at lw_m10 103 rfl) rfl
theorem q2337 : (Jvm.Cond.privateMethod ({ cls := "PublicanryModel", name := "fallDue", desc := "(LPublicanryModel$Lot;)V" } : Jvm.MethodName)) ∈ lw_tbl := lw_at lw_m10 104 rfl
theorem q2338 : (Jvm.Cond.instanceMethod ({ cls := "PublicanryModel", name := "fallDue", desc := "(LPublicanryModel$Lot;)V" } : Jvm.MethodName)) ∈ lw_all := lw_g (lw_at lw_m10 105 rfl) rfl
theorem q2339 : (Jvm.Cond.code ({ cls := "PublicanryModel", name := "fallDue", desc := "(LPublicanryModel$Lot;)V" } : Jvm.MethodName) prog_19_method_37_code (9 : Nat) (Option.none : Option Jvm.ClassFile.FieldType)) ∈ lw_all := lw_g (lw_at lw_m10 106 rfl) rfl
theorem q2341 : (Jvm.Cond.instanceMethod ({ cls := "PublicanryModel", name := "force", desc := "(II)I" } : Jvm.MethodName)) ∈ lw_all := lw_g (lw_at lw_m10 108 rfl) rfl
theorem q2342 : (Jvm.Cond.selects "PublicanryModel" ({ cls := "PublicanryModel", name := "force", desc := "(II)I" } : Jvm.MethodName) ({ cls := "PublicanryModel", name := "force", desc := "(II)I" } : Jvm.MethodName)) ∈ lw_all := lw_g (lw_at lw_m10 109 rfl) rfl
theorem q2343 : (Jvm.Cond.code ({ cls := "PublicanryModel", name := "force", desc := "(II)I" } : Jvm.MethodName) prog_19_method_38_code (4 : Nat) (Option.some Jvm.ClassFile.FieldType.int)) ∈ lw_all := lw_g (lw_at lw_m10 110 rfl) rfl
theorem q2345 : (Jvm.Cond.instanceMethod ({ cls := "PublicanryModel", name := "letOn", desc := "(III)I" } : Jvm.MethodName)) ∈ lw_all := lw_g (lw_at lw_m10 112 rfl) rfl
theorem q2346 : (Jvm.Cond.selects "PublicanryModel" ({ cls := "PublicanryModel", name := "letOn", desc := "(III)I" } : Jvm.MethodName) ({ cls := "PublicanryModel", name := "letOn", desc := "(III)I" } : Jvm.MethodName)) ∈ lw_all := lw_g (lw_at lw_m10 113 rfl) rfl
theorem q2347 : (Jvm.Cond.code ({ cls := "PublicanryModel", name := "letOn", desc := "(III)I" } : Jvm.MethodName) prog_19_method_40_code (5 : Nat) (Option.some Jvm.ClassFile.FieldType.int)) ∈ lw_all := lw_g (lw_at lw_m10 114 rfl) rfl
theorem q2348 : (Jvm.Cond.methodLink "PublicanryModel" (286 : Nat) ({ cls := "PublicanryModel", name := "letOnOf", desc := "(LPublicanryModel$Lot;)I" } : Jvm.MethodName)) ∈ lw_all := lw_g (lw_at lw_m10 115 rfl) rfl
theorem q2349 : (Jvm.Cond.static ({ cls := "PublicanryModel", name := "letOnOf", desc := "(LPublicanryModel$Lot;)I" } : Jvm.MethodName)) ∈ lw_all := lw_g (lw_at lw_m10 116 rfl) rfl
theorem q2350 : (Jvm.Cond.code ({ cls := "PublicanryModel", name := "letOnOf", desc := "(LPublicanryModel$Lot;)I" } : Jvm.MethodName) prog_19_method_39_code (6 : Nat) (Option.some Jvm.ClassFile.FieldType.int)) ∈ lw_all := lw_g (lw_at lw_m10 117 rfl) rfl
theorem q2352 : (Jvm.Cond.instanceMethod ({ cls := "PublicanryModel", name := "deliver", desc := "(II)I" } : Jvm.MethodName)) ∈ lw_all := lw_g (lw_at lw_m10 119 rfl) rfl
theorem q2353 : (Jvm.Cond.selects "PublicanryModel" ({ cls := "PublicanryModel", name := "deliver", desc := "(II)I" } : Jvm.MethodName) ({ cls := "PublicanryModel", name := "deliver", desc := "(II)I" } : Jvm.MethodName)) ∈ lw_all := lw_g (lw_at lw_m10 120 rfl) rfl
theorem q2354 : (Jvm.Cond.code ({ cls := "PublicanryModel", name := "deliver", desc := "(II)I" } : Jvm.MethodName) prog_19_method_41_code (4 : Nat) (Option.some Jvm.ClassFile.FieldType.int)) ∈ lw_all := lw_g (lw_at lw_m10 121 rfl) rfl
theorem q2356 : (Jvm.Cond.instanceMethod ({ cls := "PublicanryModel", name := "sue", desc := "(II)I" } : Jvm.MethodName)) ∈ lw_all := lw_g (lw_at lw_m10 123 rfl) rfl
theorem q2357 : (Jvm.Cond.selects "PublicanryModel" ({ cls := "PublicanryModel", name := "sue", desc := "(II)I" } : Jvm.MethodName) ({ cls := "PublicanryModel", name := "sue", desc := "(II)I" } : Jvm.MethodName)) ∈ lw_all := lw_g (lw_at lw_m10 124 rfl) rfl
theorem q2358 : (Jvm.Cond.code ({ cls := "PublicanryModel", name := "sue", desc := "(II)I" } : Jvm.MethodName) prog_19_method_43_code (8 : Nat) (Option.some Jvm.ClassFile.FieldType.int)) ∈ lw_all := lw_g (lw_at lw_m10 125 rfl) rfl
theorem q2359 : (Jvm.Cond.methodLink "PublicanryModel" (293 : Nat) ({ cls := "PublicanryModel", name := "year", desc := "()I" } : Jvm.MethodName)) ∈ lw_all := lw_g (lw_at lw_m10 126 rfl) rfl
theorem q2360 : (Jvm.Cond.privateMethod ({ cls := "PublicanryModel", name := "year", desc := "()I" } : Jvm.MethodName)) ∈ lw_tbl := lw_at lw_m10 127 rfl
theorem q2361 : (Jvm.Cond.instanceMethod ({ cls := "PublicanryModel", name := "year", desc := "()I" } : Jvm.MethodName)) ∈ lw_all := lw_g (lw_at lw_m10 128 rfl) rfl
theorem q2362 : (Jvm.Cond.code ({ cls := "PublicanryModel", name := "year", desc := "()I" } : Jvm.MethodName) prog_19_method_11_code (1 : Nat) (Option.some Jvm.ClassFile.FieldType.int)) ∈ lw_all := lw_g (lw_at lw_m10 129 rfl) rfl
theorem q2363 : (Jvm.Cond.methodLink "PublicanryModel" (296 : Nat) ({ cls := "PublicanryModel", name := "votesNow", desc := "(III)I" } : Jvm.MethodName)) ∈ lw_all := lw_g (lw_at lw_m10 130 rfl) rfl
theorem q2364 : (Jvm.Cond.privateMethod ({ cls := "PublicanryModel", name := "votesNow", desc := "(III)I" } : Jvm.MethodName)) ∈ lw_tbl := lw_at lw_m10 131 rfl
theorem q2365 : (Jvm.Cond.instanceMethod ({ cls := "PublicanryModel", name := "votesNow", desc := "(III)I" } : Jvm.MethodName)) ∈ lw_all := lw_g (lw_at lw_m10 132 rfl) rfl
theorem q2366 : (Jvm.Cond.code ({ cls := "PublicanryModel", name := "votesNow", desc := "(III)I" } : Jvm.MethodName) prog_19_method_42_code (4 : Nat) (Option.some Jvm.ClassFile.FieldType.int)) ∈ lw_all := lw_g (lw_at lw_m10 133 rfl) rfl
theorem q2367 : (Jvm.Cond.methodLink "PublicanryModel" (303 : Nat) ({ cls := "PublicanryModel$Village", name := "anger", desc := "(I)V" } : Jvm.MethodName)) ∈ lw_all := lw_g (lw_at lw_m10 134 rfl) rfl
theorem q2374 : (Jvm.Cond.instanceMethod ({ cls := "PublicanryModel", name := "bench", desc := "(I)I" } : Jvm.MethodName)) ∈ lw_all := lw_g (lw_at lw_m10 141 rfl) rfl
theorem q2375 : (Jvm.Cond.selects "PublicanryModel" ({ cls := "PublicanryModel", name := "bench", desc := "(I)I" } : Jvm.MethodName) ({ cls := "PublicanryModel", name := "bench", desc := "(I)I" } : Jvm.MethodName)) ∈ lw_all := lw_g (lw_at lw_m10 142 rfl) rfl
theorem q2376 : (Jvm.Cond.code ({ cls := "PublicanryModel", name := "bench", desc := "(I)I" } : Jvm.MethodName) prog_19_method_44_code (3 : Nat) (Option.some Jvm.ClassFile.FieldType.int)) ∈ lw_all := lw_g (lw_at lw_m10 143 rfl) rfl
theorem q2378 : (Jvm.Cond.instanceMethod ({ cls := "PublicanryModel", name := "gift", desc := "(II)I" } : Jvm.MethodName)) ∈ lw_all := lw_g (lw_at lw_m10 145 rfl) rfl
theorem q2379 : (Jvm.Cond.selects "PublicanryModel" ({ cls := "PublicanryModel", name := "gift", desc := "(II)I" } : Jvm.MethodName) ({ cls := "PublicanryModel", name := "gift", desc := "(II)I" } : Jvm.MethodName)) ∈ lw_all := lw_g (lw_at lw_m10 146 rfl) rfl
theorem q2380 : (Jvm.Cond.code ({ cls := "PublicanryModel", name := "gift", desc := "(II)I" } : Jvm.MethodName) prog_19_method_45_code (4 : Nat) (Option.some Jvm.ClassFile.FieldType.int)) ∈ lw_all := lw_g (lw_at lw_m10 147 rfl) rfl
theorem q2382 : (Jvm.Cond.instanceMethod ({ cls := "PublicanryModel", name := "quarter", desc := "(I)I" } : Jvm.MethodName)) ∈ lw_all := lw_g (lw_at lw_m10 149 rfl) rfl
theorem q2383 : (Jvm.Cond.selects "PublicanryModel" ({ cls := "PublicanryModel", name := "quarter", desc := "(I)I" } : Jvm.MethodName) ({ cls := "PublicanryModel", name := "quarter", desc := "(I)I" } : Jvm.MethodName)) ∈ lw_all := lw_g (lw_at lw_m10 150 rfl) rfl
theorem q2384 : (Jvm.Cond.code ({ cls := "PublicanryModel", name := "quarter", desc := "(I)I" } : Jvm.MethodName) prog_19_method_46_code (4 : Nat) (Option.some Jvm.ClassFile.FieldType.int)) ∈ lw_all := lw_g (lw_at lw_m10 151 rfl) rfl
theorem q2386 : (Jvm.Cond.instanceMethod ({ cls := "PublicanryModel", name := "remit", desc := "(I)I" } : Jvm.MethodName)) ∈ lw_all := lw_g (lw_at lw_m10 153 rfl) rfl
theorem q2387 : (Jvm.Cond.selects "PublicanryModel" ({ cls := "PublicanryModel", name := "remit", desc := "(I)I" } : Jvm.MethodName) ({ cls := "PublicanryModel", name := "remit", desc := "(I)I" } : Jvm.MethodName)) ∈ lw_all := lw_g (lw_at lw_m10 154 rfl) rfl
theorem q2388 : (Jvm.Cond.code ({ cls := "PublicanryModel", name := "remit", desc := "(I)I" } : Jvm.MethodName) prog_19_method_47_code (7 : Nat) (Option.some Jvm.ClassFile.FieldType.int)) ∈ lw_all := lw_g (lw_at lw_m10 155 rfl) rfl
theorem q2390 : (Jvm.Cond.instanceMethod ({ cls := "PublicanryModel", name := "recall", desc := "()I" } : Jvm.MethodName)) ∈ lw_all := lw_g (lw_at lw_m10 157 rfl) rfl
theorem q2391 : (Jvm.Cond.selects "PublicanryModel" ({ cls := "PublicanryModel", name := "recall", desc := "()I" } : Jvm.MethodName) ({ cls := "PublicanryModel", name := "recall", desc := "()I" } : Jvm.MethodName)) ∈ lw_all := lw_g (lw_at lw_m10 158 rfl) rfl
theorem q2392 : (Jvm.Cond.code ({ cls := "PublicanryModel", name := "recall", desc := "()I" } : Jvm.MethodName) prog_19_method_48_code (4 : Nat) (Option.some Jvm.ClassFile.FieldType.int)) ∈ lw_all := lw_g (lw_at lw_m10 159 rfl) rfl
theorem q2394 : (Jvm.Cond.instanceMethod ({ cls := "PublicanryModel", name := "clerks", desc := "(IZ)Z" } : Jvm.MethodName)) ∈ lw_all := lw_g (lw_at lw_m10 161 rfl) rfl
theorem q2395 : (Jvm.Cond.selects "PublicanryModel" ({ cls := "PublicanryModel", name := "clerks", desc := "(IZ)Z" } : Jvm.MethodName) ({ cls := "PublicanryModel", name := "clerks", desc := "(IZ)Z" } : Jvm.MethodName)) ∈ lw_all := lw_g (lw_at lw_m10 162 rfl) rfl
theorem q2396 : (Jvm.Cond.code ({ cls := "PublicanryModel", name := "clerks", desc := "(IZ)Z" } : Jvm.MethodName) prog_19_method_49_code (4 : Nat) (Option.some Jvm.ClassFile.FieldType.boolean)) ∈ lw_all := lw_g (lw_at lw_m10 163 rfl) rfl
theorem q2398 : (Jvm.Cond.instanceMethod ({ cls := "PublicanryModel", name := "pass", desc := "(I)I" } : Jvm.MethodName)) ∈ lw_all := lw_g (lw_at lw_m10 165 rfl) rfl
theorem q2399 : (Jvm.Cond.selects "PublicanryModel" ({ cls := "PublicanryModel", name := "pass", desc := "(I)I" } : Jvm.MethodName) ({ cls := "PublicanryModel", name := "pass", desc := "(I)I" } : Jvm.MethodName)) ∈ lw_all := lw_g (lw_at lw_m10 166 rfl) rfl
theorem q2400 : (Jvm.Cond.code ({ cls := "PublicanryModel", name := "pass", desc := "(I)I" } : Jvm.MethodName) prog_19_method_59_code (6 : Nat) (Option.some Jvm.ClassFile.FieldType.int)) ∈ lw_all := lw_g (lw_at lw_m10 167 rfl) rfl
theorem q2401 : (Jvm.Cond.methodLink "PublicanryModel" (365 : Nat) ({ cls := "PublicanryModel", name := "spring", desc := "()V" } : Jvm.MethodName)) ∈ lw_all := lw_g (lw_at lw_m10 168 rfl) rfl
theorem q2402 : (Jvm.Cond.privateMethod ({ cls := "PublicanryModel", name := "spring", desc := "()V" } : Jvm.MethodName)) ∈ lw_tbl := lw_at lw_m10 169 rfl
theorem q2403 : (Jvm.Cond.instanceMethod ({ cls := "PublicanryModel", name := "spring", desc := "()V" } : Jvm.MethodName)) ∈ lw_all := lw_g (lw_at lw_m10 170 rfl) rfl
theorem q2404 : (Jvm.Cond.code ({ cls := "PublicanryModel", name := "spring", desc := "()V" } : Jvm.MethodName) prog_19_method_57_code (4 : Nat) (Option.none : Option Jvm.ClassFile.FieldType)) ∈ lw_all := lw_g (lw_at lw_m10 171 rfl) rfl
theorem q2405 : (Jvm.Cond.methodLink "PublicanryModel" (368 : Nat) ({ cls := "PublicanryModel", name := "summer", desc := "()V" } : Jvm.MethodName)) ∈ lw_all := lw_g (lw_at lw_m10 172 rfl) rfl
theorem q2406 : (Jvm.Cond.privateMethod ({ cls := "PublicanryModel", name := "summer", desc := "()V" } : Jvm.MethodName)) ∈ lw_tbl := lw_at lw_m10 173 rfl
theorem q2407 : (Jvm.Cond.instanceMethod ({ cls := "PublicanryModel", name := "summer", desc := "()V" } : Jvm.MethodName)) ∈ lw_all := lw_g (lw_at lw_m10 174 rfl) rfl
theorem q2408 : (Jvm.Cond.code ({ cls := "PublicanryModel", name := "summer", desc := "()V" } : Jvm.MethodName) prog_19_method_58_code (3 : Nat) (Option.none : Option Jvm.ClassFile.FieldType)) ∈ lw_all := lw_g (lw_at lw_m10 175 rfl) rfl
theorem q2409 : (Jvm.Cond.methodLink "PublicanryModel" (361 : Nat) ({ cls := "PublicanryModel", name := "yieldOf", desc := "(LPublicanryModel$Village;I)I" } : Jvm.MethodName)) ∈ lw_all := lw_g (lw_at lw_m10 176 rfl) rfl
theorem q2410 : (Jvm.Cond.static ({ cls := "PublicanryModel", name := "yieldOf", desc := "(LPublicanryModel$Village;I)I" } : Jvm.MethodName)) ∈ lw_all := lw_g (lw_at lw_m10 177 rfl) rfl
theorem q2411 : (Jvm.Cond.code ({ cls := "PublicanryModel", name := "yieldOf", desc := "(LPublicanryModel$Village;I)I" } : Jvm.MethodName) prog_19_method_15_code (3 : Nat) (Option.some Jvm.ClassFile.FieldType.int)) ∈ lw_all := lw_g (lw_at lw_m10 178 rfl) rfl
theorem q2412 : (Jvm.Cond.methodLink "PublicanryModel" (371 : Nat) ({ cls := "PublicanryModel", name := "collect", desc := "(LPublicanryModel$Lot;)V" } : Jvm.MethodName)) ∈ lw_all := lw_g (lw_at lw_m10 179 rfl) rfl
theorem q2413 : (Jvm.Cond.privateMethod ({ cls := "PublicanryModel", name := "collect", desc := "(LPublicanryModel$Lot;)V" } : Jvm.MethodName)) ∈ lw_tbl := lw_at lw_m10 180 rfl
theorem q2414 : (Jvm.Cond.instanceMethod ({ cls := "PublicanryModel", name := "collect", desc := "(LPublicanryModel$Lot;)V" } : Jvm.MethodName)) ∈ lw_all := lw_g (lw_at lw_m10 181 rfl) rfl
theorem q2415 : (Jvm.Cond.code ({ cls := "PublicanryModel", name := "collect", desc := "(LPublicanryModel$Lot;)V" } : Jvm.MethodName) prog_19_method_50_code (4 : Nat) (Option.none : Option Jvm.ClassFile.FieldType)) ∈ lw_all := lw_g (lw_at lw_m10 182 rfl) rfl
theorem q2416 : (Jvm.Cond.methodLink "PublicanryModel" (325 : Nat) ({ cls := "java/util/ArrayList", name := "indexOf", desc := "(Ljava/lang/Object;)I" } : Jvm.MethodName)) ∈ lw_all := lw_g (lw_at lw_m10 183 rfl) rfl
theorem q2446 : (Jvm.Cond.selects "PublicanryModel" ({ cls := "java/lang/Object", name := "equals", desc := "(Ljava/lang/Object;)Z" } : Jvm.MethodName) ({ cls := "java/lang/Object", name := "equals", desc := "(Ljava/lang/Object;)Z" } : Jvm.MethodName)) ∈ lw_all := lw_g (lw_at lw_m10 213 rfl) rfl
theorem q2468 : (Jvm.Cond.methodLink "PublicanryModel" (332 : Nat) ({ cls := "PublicanryModel", name := "collect", desc := "(LPublicanryModel$Lot;II)V" } : Jvm.MethodName)) ∈ lw_all := lw_g (lw_at lw_m10 235 rfl) rfl
theorem q2469 : (Jvm.Cond.privateMethod ({ cls := "PublicanryModel", name := "collect", desc := "(LPublicanryModel$Lot;II)V" } : Jvm.MethodName)) ∈ lw_tbl := lw_at lw_m10 236 rfl
theorem q2470 : (Jvm.Cond.instanceMethod ({ cls := "PublicanryModel", name := "collect", desc := "(LPublicanryModel$Lot;II)V" } : Jvm.MethodName)) ∈ lw_all := lw_g (lw_at lw_m10 237 rfl) rfl
theorem q2471 : (Jvm.Cond.code ({ cls := "PublicanryModel", name := "collect", desc := "(LPublicanryModel$Lot;II)V" } : Jvm.MethodName) prog_19_method_51_code (13 : Nat) (Option.none : Option Jvm.ClassFile.FieldType)) ∈ lw_all := lw_g (lw_at lw_m10 238 rfl) rfl
theorem q2472 : (Jvm.Cond.methodLink "PublicanryModel" (336 : Nat) ({ cls := "PublicanryModel", name := "dueNow", desc := "(IIZ)I" } : Jvm.MethodName)) ∈ lw_all := lw_g (lw_at lw_m10 239 rfl) rfl
theorem q2473 : (Jvm.Cond.privateMethod ({ cls := "PublicanryModel", name := "dueNow", desc := "(IIZ)I" } : Jvm.MethodName)) ∈ lw_tbl := lw_at lw_m11 0 rfl
theorem q2474 : (Jvm.Cond.instanceMethod ({ cls := "PublicanryModel", name := "dueNow", desc := "(IIZ)I" } : Jvm.MethodName)) ∈ lw_all := lw_g (lw_at lw_m11 1 rfl) rfl
theorem q2475 : (Jvm.Cond.code ({ cls := "PublicanryModel", name := "dueNow", desc := "(IIZ)I" } : Jvm.MethodName) prog_19_method_13_code (5 : Nat) (Option.some Jvm.ClassFile.FieldType.int)) ∈ lw_all := lw_g (lw_at lw_m11 2 rfl) rfl
theorem q2476 : (Jvm.Cond.methodLink "PublicanryModel" (86 : Nat) ({ cls := "PublicanryModel", name := "due", desc := "(LPublicanryModel$Village;IIZ)I" } : Jvm.MethodName)) ∈ lw_all := lw_g (lw_at lw_m11 3 rfl) rfl
theorem q2477 : (Jvm.Cond.static ({ cls := "PublicanryModel", name := "due", desc := "(LPublicanryModel$Village;IIZ)I" } : Jvm.MethodName)) ∈ lw_all := lw_g (lw_at lw_m11 4 rfl) rfl
theorem q2478 : (Jvm.Cond.code ({ cls := "PublicanryModel", name := "due", desc := "(LPublicanryModel$Village;IIZ)I" } : Jvm.MethodName) prog_19_method_12_code (4 : Nat) (Option.some Jvm.ClassFile.FieldType.int)) ∈ lw_all := lw_g (lw_at lw_m11 5 rfl) rfl
theorem q2479 : (Jvm.Cond.methodLink "PublicanryModel" (343 : Nat) ({ cls := "PublicanryModel", name := "hidden", desc := "(III)I" } : Jvm.MethodName)) ∈ lw_all := lw_g (lw_at lw_m11 6 rfl) rfl
theorem q2480 : (Jvm.Cond.static ({ cls := "PublicanryModel", name := "hidden", desc := "(III)I" } : Jvm.MethodName)) ∈ lw_all := lw_g (lw_at lw_m11 7 rfl) rfl
theorem q2481 : (Jvm.Cond.code ({ cls := "PublicanryModel", name := "hidden", desc := "(III)I" } : Jvm.MethodName) prog_19_method_14_code (3 : Nat) (Option.some Jvm.ClassFile.FieldType.int)) ∈ lw_all := lw_g (lw_at lw_m11 8 rfl) rfl
theorem q2482 : (Jvm.Cond.methodLink "PublicanryModel" (373 : Nat) ({ cls := "PublicanryModel", name := "clerk", desc := "(I)V" } : Jvm.MethodName)) ∈ lw_all := lw_g (lw_at lw_m11 9 rfl) rfl
theorem q2483 : (Jvm.Cond.privateMethod ({ cls := "PublicanryModel", name := "clerk", desc := "(I)V" } : Jvm.MethodName)) ∈ lw_tbl := lw_at lw_m11 10 rfl
theorem q2484 : (Jvm.Cond.instanceMethod ({ cls := "PublicanryModel", name := "clerk", desc := "(I)V" } : Jvm.MethodName)) ∈ lw_all := lw_g (lw_at lw_m11 11 rfl) rfl
theorem q2485 : (Jvm.Cond.code ({ cls := "PublicanryModel", name := "clerk", desc := "(I)V" } : Jvm.MethodName) prog_19_method_54_code (6 : Nat) (Option.none : Option Jvm.ClassFile.FieldType)) ∈ lw_all := lw_g (lw_at lw_m11 12 rfl) rfl
theorem q2486 : (Jvm.Cond.methodLink "PublicanryModel" (352 : Nat) ({ cls := "PublicanryModel", name := "isLeased", desc := "(II)Z" } : Jvm.MethodName)) ∈ lw_all := lw_g (lw_at lw_m11 13 rfl) rfl
theorem q2487 : (Jvm.Cond.privateMethod ({ cls := "PublicanryModel", name := "isLeased", desc := "(II)Z" } : Jvm.MethodName)) ∈ lw_tbl := lw_at lw_m11 14 rfl
theorem q2488 : (Jvm.Cond.instanceMethod ({ cls := "PublicanryModel", name := "isLeased", desc := "(II)Z" } : Jvm.MethodName)) ∈ lw_all := lw_g (lw_at lw_m11 15 rfl) rfl
theorem q2489 : (Jvm.Cond.code ({ cls := "PublicanryModel", name := "isLeased", desc := "(II)Z" } : Jvm.MethodName) prog_19_method_52_code (5 : Nat) (Option.some Jvm.ClassFile.FieldType.boolean)) ∈ lw_all := lw_g (lw_at lw_m11 16 rfl) rfl
theorem q2490 : (Jvm.Cond.methodLink "PublicanryModel" (355 : Nat) ({ cls := "PublicanryModel", name := "byClerks", desc := "(II)I" } : Jvm.MethodName)) ∈ lw_all := lw_g (lw_at lw_m11 17 rfl) rfl
theorem q2491 : (Jvm.Cond.privateMethod ({ cls := "PublicanryModel", name := "byClerks", desc := "(II)I" } : Jvm.MethodName)) ∈ lw_tbl := lw_at lw_m11 18 rfl
theorem q2492 : (Jvm.Cond.instanceMethod ({ cls := "PublicanryModel", name := "byClerks", desc := "(II)I" } : Jvm.MethodName)) ∈ lw_all := lw_g (lw_at lw_m11 19 rfl) rfl
theorem q2493 : (Jvm.Cond.code ({ cls := "PublicanryModel", name := "byClerks", desc := "(II)I" } : Jvm.MethodName) prog_19_method_53_code (5 : Nat) (Option.some Jvm.ClassFile.FieldType.int)) ∈ lw_all := lw_g (lw_at lw_m11 20 rfl) rfl
theorem q2494 : (Jvm.Cond.methodLink "PublicanryModel" (376 : Nat) ({ cls := "PublicanryModel", name := "live", desc := "(LPublicanryModel$Village;)V" } : Jvm.MethodName)) ∈ lw_all := lw_g (lw_at lw_m11 21 rfl) rfl
theorem q2495 : (Jvm.Cond.privateMethod ({ cls := "PublicanryModel", name := "live", desc := "(LPublicanryModel$Village;)V" } : Jvm.MethodName)) ∈ lw_tbl := lw_at lw_m11 22 rfl
theorem q2496 : (Jvm.Cond.instanceMethod ({ cls := "PublicanryModel", name := "live", desc := "(LPublicanryModel$Village;)V" } : Jvm.MethodName)) ∈ lw_all := lw_g (lw_at lw_m11 23 rfl) rfl
theorem q2497 : (Jvm.Cond.code ({ cls := "PublicanryModel", name := "live", desc := "(LPublicanryModel$Village;)V" } : Jvm.MethodName) prog_19_method_55_code (5 : Nat) (Option.none : Option Jvm.ClassFile.FieldType)) ∈ lw_all := lw_g (lw_at lw_m11 24 rfl) rfl
theorem q2498 : (Jvm.Cond.methodLink "PublicanryModel" (380 : Nat) ({ cls := "PublicanryModel", name := "sell", desc := "(LPublicanryModel$Village;)V" } : Jvm.MethodName)) ∈ lw_all := lw_g (lw_at lw_m11 25 rfl) rfl
theorem q2499 : (Jvm.Cond.privateMethod ({ cls := "PublicanryModel", name := "sell", desc := "(LPublicanryModel$Village;)V" } : Jvm.MethodName)) ∈ lw_tbl := lw_at lw_m11 26 rfl
theorem q2500 : (Jvm.Cond.instanceMethod ({ cls := "PublicanryModel", name := "sell", desc := "(LPublicanryModel$Village;)V" } : Jvm.MethodName)) ∈ lw_all := lw_g (lw_at lw_m11 27 rfl) rfl
theorem q2501 : (Jvm.Cond.code ({ cls := "PublicanryModel", name := "sell", desc := "(LPublicanryModel$Village;)V" } : Jvm.MethodName) prog_19_method_56_code (4 : Nat) (Option.none : Option Jvm.ClassFile.FieldType)) ∈ lw_all := lw_g (lw_at lw_m11 28 rfl) rfl
theorem q2503 : (Jvm.Cond.instanceMethod ({ cls := "PublicanryModel", name := "call", desc := "()I" } : Jvm.MethodName)) ∈ lw_all := lw_g (lw_at lw_m11 30 rfl) rfl
theorem q2504 : (Jvm.Cond.selects "PublicanryModel" ({ cls := "PublicanryModel", name := "call", desc := "()I" } : Jvm.MethodName) ({ cls := "PublicanryModel", name := "call", desc := "()I" } : Jvm.MethodName)) ∈ lw_all := lw_g (lw_at lw_m11 31 rfl) rfl
theorem q2505 : (Jvm.Cond.code ({ cls := "PublicanryModel", name := "call", desc := "()I" } : Jvm.MethodName) prog_19_method_60_code (1 : Nat) (Option.some Jvm.ClassFile.FieldType.int)) ∈ lw_all := lw_g (lw_at lw_m11 32 rfl) rfl
theorem q2507 : (Jvm.Cond.instanceMethod ({ cls := "PublicanryModel", name := "ofVillage", desc := "(II)I" } : Jvm.MethodName)) ∈ lw_all := lw_g (lw_at lw_m11 34 rfl) rfl
theorem q2508 : (Jvm.Cond.selects "PublicanryModel" ({ cls := "PublicanryModel", name := "ofVillage", desc := "(II)I" } : Jvm.MethodName) ({ cls := "PublicanryModel", name := "ofVillage", desc := "(II)I" } : Jvm.MethodName)) ∈ lw_all := lw_g (lw_at lw_m11 35 rfl) rfl
theorem q2509 : (Jvm.Cond.code ({ cls := "PublicanryModel", name := "ofVillage", desc := "(II)I" } : Jvm.MethodName) prog_19_method_62_code (3 : Nat) (Option.some Jvm.ClassFile.FieldType.int)) ∈ lw_all := lw_g (lw_at lw_m11 36 rfl) rfl
theorem q2510 : (Jvm.Cond.methodLink "PublicanryModel" (386 : Nat) ({ cls := "PublicanryModel", name := "ofVillageNow", desc := "(LPublicanryModel$Village;I)I" } : Jvm.MethodName)) ∈ lw_all := lw_g (lw_at lw_m11 37 rfl) rfl
theorem q2511 : (Jvm.Cond.privateMethod ({ cls := "PublicanryModel", name := "ofVillageNow", desc := "(LPublicanryModel$Village;I)I" } : Jvm.MethodName)) ∈ lw_tbl := lw_at lw_m11 38 rfl
theorem q2512 : (Jvm.Cond.instanceMethod ({ cls := "PublicanryModel", name := "ofVillageNow", desc := "(LPublicanryModel$Village;I)I" } : Jvm.MethodName)) ∈ lw_all := lw_g (lw_at lw_m11 39 rfl) rfl
theorem q2513 : (Jvm.Cond.code ({ cls := "PublicanryModel", name := "ofVillageNow", desc := "(LPublicanryModel$Village;I)I" } : Jvm.MethodName) prog_19_method_61_code (4 : Nat) (Option.some Jvm.ClassFile.FieldType.int)) ∈ lw_all := lw_g (lw_at lw_m11 40 rfl) rfl
theorem q2515 : (Jvm.Cond.instanceMethod ({ cls := "PublicanryModel", name := "due", desc := "(IIZ)I" } : Jvm.MethodName)) ∈ lw_all := lw_g (lw_at lw_m11 42 rfl) rfl
theorem q2516 : (Jvm.Cond.selects "PublicanryModel" ({ cls := "PublicanryModel", name := "due", desc := "(IIZ)I" } : Jvm.MethodName) ({ cls := "PublicanryModel", name := "due", desc := "(IIZ)I" } : Jvm.MethodName)) ∈ lw_all := lw_g (lw_at lw_m11 43 rfl) rfl
theorem q2517 : (Jvm.Cond.code ({ cls := "PublicanryModel", name := "due", desc := "(IIZ)I" } : Jvm.MethodName) prog_19_method_63_code (4 : Nat) (Option.some Jvm.ClassFile.FieldType.int)) ∈ lw_all := lw_g (lw_at lw_m11 44 rfl) rfl
theorem q2519 : (Jvm.Cond.instanceMethod ({ cls := "PublicanryModel", name := "levy", desc := "(III)I" } : Jvm.MethodName)) ∈ lw_all := lw_g (lw_at lw_m11 46 rfl) rfl
theorem q2520 : (Jvm.Cond.selects "PublicanryModel" ({ cls := "PublicanryModel", name := "levy", desc := "(III)I" } : Jvm.MethodName) ({ cls := "PublicanryModel", name := "levy", desc := "(III)I" } : Jvm.MethodName)) ∈ lw_all := lw_g (lw_at lw_m11 47 rfl) rfl
theorem q2521 : (Jvm.Cond.code ({ cls := "PublicanryModel", name := "levy", desc := "(III)I" } : Jvm.MethodName) prog_19_method_65_code (4 : Nat) (Option.some Jvm.ClassFile.FieldType.int)) ∈ lw_all := lw_g (lw_at lw_m11 48 rfl) rfl
theorem q2522 : (Jvm.Cond.methodLink "PublicanryModel" (389 : Nat) ({ cls := "PublicanryModel", name := "levyNow", desc := "(III)I" } : Jvm.MethodName)) ∈ lw_all := lw_g (lw_at lw_m11 49 rfl) rfl
theorem q2523 : (Jvm.Cond.privateMethod ({ cls := "PublicanryModel", name := "levyNow", desc := "(III)I" } : Jvm.MethodName)) ∈ lw_tbl := lw_at lw_m11 50 rfl
theorem q2524 : (Jvm.Cond.instanceMethod ({ cls := "PublicanryModel", name := "levyNow", desc := "(III)I" } : Jvm.MethodName)) ∈ lw_all := lw_g (lw_at lw_m11 51 rfl) rfl
theorem q2525 : (Jvm.Cond.code ({ cls := "PublicanryModel", name := "levyNow", desc := "(III)I" } : Jvm.MethodName) prog_19_method_64_code (5 : Nat) (Option.some Jvm.ClassFile.FieldType.int)) ∈ lw_all := lw_g (lw_at lw_m11 52 rfl) rfl
theorem q2527 : (Jvm.Cond.instanceMethod ({ cls := "PublicanryModel", name := "law", desc := "(II)I" } : Jvm.MethodName)) ∈ lw_all := lw_g (lw_at lw_m11 54 rfl) rfl
theorem q2528 : (Jvm.Cond.selects "PublicanryModel" ({ cls := "PublicanryModel", name := "law", desc := "(II)I" } : Jvm.MethodName) ({ cls := "PublicanryModel", name := "law", desc := "(II)I" } : Jvm.MethodName)) ∈ lw_all := lw_g (lw_at lw_m11 55 rfl) rfl
theorem q2529 : (Jvm.Cond.code ({ cls := "PublicanryModel", name := "law", desc := "(II)I" } : Jvm.MethodName) prog_19_method_67_code (3 : Nat) (Option.some Jvm.ClassFile.FieldType.int)) ∈ lw_all := lw_g (lw_at lw_m11 56 rfl) rfl
theorem q2530 : (Jvm.Cond.methodLink "PublicanryModel" (392 : Nat) ({ cls := "PublicanryModel", name := "lawNow", desc := "(II)I" } : Jvm.MethodName)) ∈ lw_all := lw_g (lw_at lw_m11 57 rfl) rfl
theorem q2531 : (Jvm.Cond.privateMethod ({ cls := "PublicanryModel", name := "lawNow", desc := "(II)I" } : Jvm.MethodName)) ∈ lw_tbl := lw_at lw_m11 58 rfl
theorem q2532 : (Jvm.Cond.instanceMethod ({ cls := "PublicanryModel", name := "lawNow", desc := "(II)I" } : Jvm.MethodName)) ∈ lw_all := lw_g (lw_at lw_m11 59 rfl) rfl
theorem q2533 : (Jvm.Cond.code ({ cls := "PublicanryModel", name := "lawNow", desc := "(II)I" } : Jvm.MethodName) prog_19_method_66_code (4 : Nat) (Option.some Jvm.ClassFile.FieldType.int)) ∈ lw_all := lw_g (lw_at lw_m11 60 rfl) rfl
theorem q2535 : (Jvm.Cond.instanceMethod ({ cls := "PublicanryModel", name := "ofCompany", desc := "(II)I" } : Jvm.MethodName)) ∈ lw_all := lw_g (lw_at lw_m11 62 rfl) rfl
theorem q2536 : (Jvm.Cond.selects "PublicanryModel" ({ cls := "PublicanryModel", name := "ofCompany", desc := "(II)I" } : Jvm.MethodName) ({ cls := "PublicanryModel", name := "ofCompany", desc := "(II)I" } : Jvm.MethodName)) ∈ lw_all := lw_g (lw_at lw_m11 63 rfl) rfl
theorem q2537 : (Jvm.Cond.code ({ cls := "PublicanryModel", name := "ofCompany", desc := "(II)I" } : Jvm.MethodName) prog_19_method_69_code (3 : Nat) (Option.some Jvm.ClassFile.FieldType.int)) ∈ lw_all := lw_g (lw_at lw_m11 64 rfl) rfl
theorem q2538 : (Jvm.Cond.methodLink "PublicanryModel" (395 : Nat) ({ cls := "PublicanryModel", name := "ofCompanyNow", desc := "(II)I" } : Jvm.MethodName)) ∈ lw_all := lw_g (lw_at lw_m11 65 rfl) rfl
theorem q2539 : (Jvm.Cond.privateMethod ({ cls := "PublicanryModel", name := "ofCompanyNow", desc := "(II)I" } : Jvm.MethodName)) ∈ lw_tbl := lw_at lw_m11 66 rfl
theorem q2540 : (Jvm.Cond.instanceMethod ({ cls := "PublicanryModel", name := "ofCompanyNow", desc := "(II)I" } : Jvm.MethodName)) ∈ lw_all := lw_g (lw_at lw_m11 67 rfl) rfl
theorem q2541 : (Jvm.Cond.code ({ cls := "PublicanryModel", name := "ofCompanyNow", desc := "(II)I" } : Jvm.MethodName) prog_19_method_68_code (7 : Nat) (Option.some Jvm.ClassFile.FieldType.int)) ∈ lw_all := lw_g (lw_at lw_m11 68 rfl) rfl
theorem q2543 : (Jvm.Cond.instanceMethod ({ cls := "PublicanryModel", name := "partner", desc := "(IIZ)I" } : Jvm.MethodName)) ∈ lw_all := lw_g (lw_at lw_m11 70 rfl) rfl
theorem q2544 : (Jvm.Cond.selects "PublicanryModel" ({ cls := "PublicanryModel", name := "partner", desc := "(IIZ)I" } : Jvm.MethodName) ({ cls := "PublicanryModel", name := "partner", desc := "(IIZ)I" } : Jvm.MethodName)) ∈ lw_all := lw_g (lw_at lw_m11 71 rfl) rfl
theorem q2545 : (Jvm.Cond.code ({ cls := "PublicanryModel", name := "partner", desc := "(IIZ)I" } : Jvm.MethodName) prog_19_method_70_code (4 : Nat) (Option.some Jvm.ClassFile.FieldType.int)) ∈ lw_all := lw_g (lw_at lw_m11 72 rfl) rfl
theorem q2547 : (Jvm.Cond.instanceMethod ({ cls := "PublicanryModel", name := "ofLot", desc := "(II)I" } : Jvm.MethodName)) ∈ lw_all := lw_g (lw_at lw_m11 74 rfl) rfl
theorem q2548 : (Jvm.Cond.selects "PublicanryModel" ({ cls := "PublicanryModel", name := "ofLot", desc := "(II)I" } : Jvm.MethodName) ({ cls := "PublicanryModel", name := "ofLot", desc := "(II)I" } : Jvm.MethodName)) ∈ lw_all := lw_g (lw_at lw_m11 75 rfl) rfl
theorem q2549 : (Jvm.Cond.code ({ cls := "PublicanryModel", name := "ofLot", desc := "(II)I" } : Jvm.MethodName) prog_19_method_72_code (3 : Nat) (Option.some Jvm.ClassFile.FieldType.int)) ∈ lw_all := lw_g (lw_at lw_m11 76 rfl) rfl
theorem q2550 : (Jvm.Cond.methodLink "PublicanryModel" (398 : Nat) ({ cls := "PublicanryModel", name := "ofLotNow", desc := "(LPublicanryModel$Lot;I)I" } : Jvm.MethodName)) ∈ lw_all := lw_g (lw_at lw_m11 77 rfl) rfl
theorem q2551 : (Jvm.Cond.privateMethod ({ cls := "PublicanryModel", name := "ofLotNow", desc := "(LPublicanryModel$Lot;I)I" } : Jvm.MethodName)) ∈ lw_tbl := lw_at lw_m11 78 rfl
theorem q2552 : (Jvm.Cond.instanceMethod ({ cls := "PublicanryModel", name := "ofLotNow", desc := "(LPublicanryModel$Lot;I)I" } : Jvm.MethodName)) ∈ lw_all := lw_g (lw_at lw_m11 79 rfl) rfl
theorem q2553 : (Jvm.Cond.code ({ cls := "PublicanryModel", name := "ofLotNow", desc := "(LPublicanryModel$Lot;I)I" } : Jvm.MethodName) prog_19_method_71_code (4 : Nat) (Option.some Jvm.ClassFile.FieldType.int)) ∈ lw_all := lw_g (lw_at lw_m11 80 rfl) rfl
theorem q2555 : (Jvm.Cond.instanceMethod ({ cls := "PublicanryModel", name := "land", desc := "(I)I" } : Jvm.MethodName)) ∈ lw_all := lw_g (lw_at lw_m11 82 rfl) rfl
theorem q2556 : (Jvm.Cond.selects "PublicanryModel" ({ cls := "PublicanryModel", name := "land", desc := "(I)I" } : Jvm.MethodName) ({ cls := "PublicanryModel", name := "land", desc := "(I)I" } : Jvm.MethodName)) ∈ lw_all := lw_g (lw_at lw_m11 83 rfl) rfl
theorem q2557 : (Jvm.Cond.code ({ cls := "PublicanryModel", name := "land", desc := "(I)I" } : Jvm.MethodName) prog_19_method_74_code (2 : Nat) (Option.some Jvm.ClassFile.FieldType.int)) ∈ lw_all := lw_g (lw_at lw_m11 84 rfl) rfl
theorem q2558 : (Jvm.Cond.methodLink "PublicanryModel" (401 : Nat) ({ cls := "PublicanryModel", name := "landNow", desc := "(I)I" } : Jvm.MethodName)) ∈ lw_all := lw_g (lw_at lw_m11 85 rfl) rfl
theorem q2559 : (Jvm.Cond.privateMethod ({ cls := "PublicanryModel", name := "landNow", desc := "(I)I" } : Jvm.MethodName)) ∈ lw_tbl := lw_at lw_m11 86 rfl
theorem q2560 : (Jvm.Cond.instanceMethod ({ cls := "PublicanryModel", name := "landNow", desc := "(I)I" } : Jvm.MethodName)) ∈ lw_all := lw_g (lw_at lw_m11 87 rfl) rfl
theorem q2561 : (Jvm.Cond.code ({ cls := "PublicanryModel", name := "landNow", desc := "(I)I" } : Jvm.MethodName) prog_19_method_73_code (6 : Nat) (Option.some Jvm.ClassFile.FieldType.int)) ∈ lw_all := lw_g (lw_at lw_m11 88 rfl) rfl
theorem q2563 : (Jvm.Cond.instanceMethod ({ cls := "PublicanryModel", name := "tell", desc := "(I)Ljava/lang/String;" } : Jvm.MethodName)) ∈ lw_all := lw_g (lw_at lw_m11 90 rfl) rfl
theorem q2564 : (Jvm.Cond.selects "PublicanryModel" ({ cls := "PublicanryModel", name := "tell", desc := "(I)Ljava/lang/String;" } : Jvm.MethodName) ({ cls := "PublicanryModel", name := "tell", desc := "(I)Ljava/lang/String;" } : Jvm.MethodName)) ∈ lw_all := lw_g (lw_at lw_m11 91 rfl) rfl
theorem q2565 : (Jvm.Cond.code ({ cls := "PublicanryModel", name := "tell", desc := "(I)Ljava/lang/String;" } : Jvm.MethodName) prog_19_method_75_code (3 : Nat) (Option.some (Jvm.ClassFile.FieldType.object "java/lang/String"))) ∈ lw_all := lw_g (lw_at lw_m11 92 rfl) rfl
theorem q2566 : (Jvm.Cond.stringRef "PublicanryModel" (404 : Nat) "") ∈ lw_tbl := lw_at lw_m11 93 rfl
theorem q2567 : (Jvm.Cond.classLink "PublicanryModel" (406 : Nat) "java/lang/StringBuilder") ∈ lw_all := lw_g (lw_at lw_m11 94 rfl) rfl
theorem q2568 : (Jvm.Cond.methodLink "PublicanryModel" (408 : Nat) ({ cls := "java/lang/StringBuilder", name := "<init>", desc := "()V" } : Jvm.MethodName)) ∈ lw_all := lw_g (lw_at lw_m11 95 rfl) rfl
theorem q2569 : (Jvm.Cond.methodLink "PublicanryModel" (409 : Nat) ({ cls := "java/lang/StringBuilder", name := "append", desc := "(I)Ljava/lang/StringBuilder;" } : Jvm.MethodName)) ∈ lw_all := lw_g (lw_at lw_m11 96 rfl) rfl
theorem q2570 : (Jvm.Cond.stringRef "PublicanryModel" (413 : Nat) ": ") ∈ lw_tbl := lw_at lw_m11 97 rfl
theorem q2571 : (Jvm.Cond.methodLink "PublicanryModel" (415 : Nat) ({ cls := "java/lang/StringBuilder", name := "append", desc := "(Ljava/lang/String;)Ljava/lang/StringBuilder;" } : Jvm.MethodName)) ∈ lw_all := lw_g (lw_at lw_m11 98 rfl) rfl
theorem q2572 : (Jvm.Cond.stringRef "PublicanryModel" (418 : Nat) " houses") ∈ lw_tbl := lw_at lw_m11 99 rfl
theorem q2573 : (Jvm.Cond.stringRef "PublicanryModel" (420 : Nat) ", revolt") ∈ lw_tbl := lw_at lw_m11 100 rfl
theorem q2574 : (Jvm.Cond.stringRef "PublicanryModel" (422 : Nat) ", burnt") ∈ lw_tbl := lw_at lw_m11 101 rfl
theorem q2575 : (Jvm.Cond.stringRef "PublicanryModel" (424 : Nat) ", owes ") ∈ lw_tbl := lw_at lw_m11 102 rfl
theorem q2576 : (Jvm.Cond.methodLink "PublicanryModel" (426 : Nat) ({ cls := "java/lang/StringBuilder", name := "toString", desc := "()Ljava/lang/String;" } : Jvm.MethodName)) ∈ lw_all := lw_g (lw_at lw_m11 103 rfl) rfl
theorem q2578 : (Jvm.Cond.instanceMethod ({ cls := "PublicanryModel", name := "gain", desc := "(I)D" } : Jvm.MethodName)) ∈ lw_all := lw_g (lw_at lw_m11 105 rfl) rfl
theorem q2579 : (Jvm.Cond.selects "PublicanryModel" ({ cls := "PublicanryModel", name := "gain", desc := "(I)D" } : Jvm.MethodName) ({ cls := "PublicanryModel", name := "gain", desc := "(I)D" } : Jvm.MethodName)) ∈ lw_all := lw_g (lw_at lw_m11 106 rfl) rfl
theorem q2580 : (Jvm.Cond.code ({ cls := "PublicanryModel", name := "gain", desc := "(I)D" } : Jvm.MethodName) prog_19_method_77_code (2 : Nat) (Option.some Jvm.ClassFile.FieldType.double)) ∈ lw_all := lw_g (lw_at lw_m11 107 rfl) rfl
theorem q2581 : (Jvm.Cond.methodLink "PublicanryModel" (430 : Nat) ({ cls := "PublicanryModel", name := "gainNow", desc := "(I)D" } : Jvm.MethodName)) ∈ lw_all := lw_g (lw_at lw_m11 108 rfl) rfl
theorem q2582 : (Jvm.Cond.privateMethod ({ cls := "PublicanryModel", name := "gainNow", desc := "(I)D" } : Jvm.MethodName)) ∈ lw_tbl := lw_at lw_m11 109 rfl
theorem q2583 : (Jvm.Cond.instanceMethod ({ cls := "PublicanryModel", name := "gainNow", desc := "(I)D" } : Jvm.MethodName)) ∈ lw_all := lw_g (lw_at lw_m11 110 rfl) rfl
theorem q2584 : (Jvm.Cond.code ({ cls := "PublicanryModel", name := "gainNow", desc := "(I)D" } : Jvm.MethodName) prog_19_method_76_code (3 : Nat) (Option.some Jvm.ClassFile.FieldType.double)) ∈ lw_all := lw_g (lw_at lw_m11 111 rfl) rfl
theorem q2586 : (Jvm.Cond.instanceMethod ({ cls := "PublicanryModel", name := "wouldBring", desc := "(II)I" } : Jvm.MethodName)) ∈ lw_all := lw_g (lw_at lw_m11 113 rfl) rfl
theorem q2587 : (Jvm.Cond.selects "PublicanryModel" ({ cls := "PublicanryModel", name := "wouldBring", desc := "(II)I" } : Jvm.MethodName) ({ cls := "PublicanryModel", name := "wouldBring", desc := "(II)I" } : Jvm.MethodName)) ∈ lw_all := lw_g (lw_at lw_m11 114 rfl) rfl
theorem q2588 : (Jvm.Cond.code ({ cls := "PublicanryModel", name := "wouldBring", desc := "(II)I" } : Jvm.MethodName) prog_19_method_79_code (3 : Nat) (Option.some Jvm.ClassFile.FieldType.int)) ∈ lw_all := lw_g (lw_at lw_m11 115 rfl) rfl
theorem q2589 : (Jvm.Cond.methodLink "PublicanryModel" (434 : Nat) ({ cls := "PublicanryModel", name := "wouldBringNow", desc := "(LPublicanryModel$Lot;I)I" } : Jvm.MethodName)) ∈ lw_all := lw_g (lw_at lw_m11 116 rfl) rfl
theorem q2590 : (Jvm.Cond.privateMethod ({ cls := "PublicanryModel", name := "wouldBringNow", desc := "(LPublicanryModel$Lot;I)I" } : Jvm.MethodName)) ∈ lw_tbl := lw_at lw_m11 117 rfl
theorem q2591 : (Jvm.Cond.instanceMethod ({ cls := "PublicanryModel", name := "wouldBringNow", desc := "(LPublicanryModel$Lot;I)I" } : Jvm.MethodName)) ∈ lw_all := lw_g (lw_at lw_m11 118 rfl) rfl
theorem q2592 : (Jvm.Cond.code ({ cls := "PublicanryModel", name := "wouldBringNow", desc := "(LPublicanryModel$Lot;I)I" } : Jvm.MethodName) prog_19_method_78_code (9 : Nat) (Option.some Jvm.ClassFile.FieldType.int)) ∈ lw_all := lw_g (lw_at lw_m11 119 rfl) rfl
theorem q2594 : (Jvm.Cond.instanceMethod ({ cls := "PublicanryModel", name := "bestForce", desc := "(I)I" } : Jvm.MethodName)) ∈ lw_all := lw_g (lw_at lw_m11 121 rfl) rfl
theorem q2595 : (Jvm.Cond.selects "PublicanryModel" ({ cls := "PublicanryModel", name := "bestForce", desc := "(I)I" } : Jvm.MethodName) ({ cls := "PublicanryModel", name := "bestForce", desc := "(I)I" } : Jvm.MethodName)) ∈ lw_all := lw_g (lw_at lw_m11 122 rfl) rfl
theorem q2596 : (Jvm.Cond.code ({ cls := "PublicanryModel", name := "bestForce", desc := "(I)I" } : Jvm.MethodName) prog_19_method_81_code (2 : Nat) (Option.some Jvm.ClassFile.FieldType.int)) ∈ lw_all := lw_g (lw_at lw_m11 123 rfl) rfl
theorem q2597 : (Jvm.Cond.methodLink "PublicanryModel" (437 : Nat) ({ cls := "PublicanryModel", name := "bestForceNow", desc := "(LPublicanryModel$Lot;)I" } : Jvm.MethodName)) ∈ lw_all := lw_g (lw_at lw_m11 124 rfl) rfl
theorem q2598 : (Jvm.Cond.privateMethod ({ cls := "PublicanryModel", name := "bestForceNow", desc := "(LPublicanryModel$Lot;)I" } : Jvm.MethodName)) ∈ lw_tbl := lw_at lw_m11 125 rfl
theorem q2599 : (Jvm.Cond.instanceMethod ({ cls := "PublicanryModel", name := "bestForceNow", desc := "(LPublicanryModel$Lot;)I" } : Jvm.MethodName)) ∈ lw_all := lw_g (lw_at lw_m11 126 rfl) rfl
theorem q2600 : (Jvm.Cond.code ({ cls := "PublicanryModel", name := "bestForceNow", desc := "(LPublicanryModel$Lot;)I" } : Jvm.MethodName) prog_19_method_80_code (4 : Nat) (Option.some Jvm.ClassFile.FieldType.int)) ∈ lw_all := lw_g (lw_at lw_m11 127 rfl) rfl
theorem q2602 : (Jvm.Cond.instanceMethod ({ cls := "PublicanryModel", name := "votes", desc := "(IIII)I" } : Jvm.MethodName)) ∈ lw_all := lw_g (lw_at lw_m11 129 rfl) rfl
theorem q2603 : (Jvm.Cond.selects "PublicanryModel" ({ cls := "PublicanryModel", name := "votes", desc := "(IIII)I" } : Jvm.MethodName) ({ cls := "PublicanryModel", name := "votes", desc := "(IIII)I" } : Jvm.MethodName)) ∈ lw_all := lw_g (lw_at lw_m11 130 rfl) rfl
theorem q2604 : (Jvm.Cond.code ({ cls := "PublicanryModel", name := "votes", desc := "(IIII)I" } : Jvm.MethodName) prog_19_method_82_code (6 : Nat) (Option.some Jvm.ClassFile.FieldType.int)) ∈ lw_all := lw_g (lw_at lw_m11 131 rfl) rfl
theorem q2606 : (Jvm.Cond.instanceMethod ({ cls := "PublicanryModel", name := "harvest", desc := "(II)I" } : Jvm.MethodName)) ∈ lw_all := lw_g (lw_at lw_m11 133 rfl) rfl
theorem q2607 : (Jvm.Cond.selects "PublicanryModel" ({ cls := "PublicanryModel", name := "harvest", desc := "(II)I" } : Jvm.MethodName) ({ cls := "PublicanryModel", name := "harvest", desc := "(II)I" } : Jvm.MethodName)) ∈ lw_all := lw_g (lw_at lw_m11 134 rfl) rfl
theorem q2608 : (Jvm.Cond.code ({ cls := "PublicanryModel", name := "harvest", desc := "(II)I" } : Jvm.MethodName) prog_19_method_83_code (3 : Nat) (Option.some Jvm.ClassFile.FieldType.int)) ∈ lw_all := lw_g (lw_at lw_m11 135 rfl) rfl
theorem q2610 : (Jvm.Cond.instanceMethod ({ cls := "PublicanryModel", name := "direct", desc := "(I)I" } : Jvm.MethodName)) ∈ lw_all := lw_g (lw_at lw_m11 137 rfl) rfl
theorem q2611 : (Jvm.Cond.selects "PublicanryModel" ({ cls := "PublicanryModel", name := "direct", desc := "(I)I" } : Jvm.MethodName) ({ cls := "PublicanryModel", name := "direct", desc := "(I)I" } : Jvm.MethodName)) ∈ lw_all := lw_g (lw_at lw_m11 138 rfl) rfl
theorem q2612 : (Jvm.Cond.code ({ cls := "PublicanryModel", name := "direct", desc := "(I)I" } : Jvm.MethodName) prog_19_method_85_code (2 : Nat) (Option.some Jvm.ClassFile.FieldType.int)) ∈ lw_all := lw_g (lw_at lw_m11 139 rfl) rfl
theorem q2613 : (Jvm.Cond.methodLink "PublicanryModel" (440 : Nat) ({ cls := "PublicanryModel", name := "directNow", desc := "(I)I" } : Jvm.MethodName)) ∈ lw_all := lw_g (lw_at lw_m11 140 rfl) rfl
theorem q2614 : (Jvm.Cond.privateMethod ({ cls := "PublicanryModel", name := "directNow", desc := "(I)I" } : Jvm.MethodName)) ∈ lw_tbl := lw_at lw_m11 141 rfl
theorem q2615 : (Jvm.Cond.instanceMethod ({ cls := "PublicanryModel", name := "directNow", desc := "(I)I" } : Jvm.MethodName)) ∈ lw_all := lw_g (lw_at lw_m11 142 rfl) rfl
theorem q2616 : (Jvm.Cond.code ({ cls := "PublicanryModel", name := "directNow", desc := "(I)I" } : Jvm.MethodName) prog_19_method_84_code (4 : Nat) (Option.some Jvm.ClassFile.FieldType.int)) ∈ lw_all := lw_g (lw_at lw_m11 143 rfl) rfl
theorem q2618 : (Jvm.Cond.instanceMethod ({ cls := "PublicanryModel", name := "wouldWin", desc := "(I)I" } : Jvm.MethodName)) ∈ lw_all := lw_g (lw_at lw_m11 145 rfl) rfl
theorem q2619 : (Jvm.Cond.selects "PublicanryModel" ({ cls := "PublicanryModel", name := "wouldWin", desc := "(I)I" } : Jvm.MethodName) ({ cls := "PublicanryModel", name := "wouldWin", desc := "(I)I" } : Jvm.MethodName)) ∈ lw_all := lw_g (lw_at lw_m11 146 rfl) rfl
theorem q2620 : (Jvm.Cond.code ({ cls := "PublicanryModel", name := "wouldWin", desc := "(I)I" } : Jvm.MethodName) prog_19_method_86_code (2 : Nat) (Option.some Jvm.ClassFile.FieldType.int)) ∈ lw_all := lw_g (lw_at lw_m11 147 rfl) rfl
theorem q2622 : (Jvm.Cond.instanceMethod ({ cls := "PublicanryModel", name := "isSound", desc := "()Z" } : Jvm.MethodName)) ∈ lw_all := lw_g (lw_at lw_m11 149 rfl) rfl
theorem q2623 : (Jvm.Cond.selects "PublicanryModel" ({ cls := "PublicanryModel", name := "isSound", desc := "()Z" } : Jvm.MethodName) ({ cls := "PublicanryModel", name := "isSound", desc := "()Z" } : Jvm.MethodName)) ∈ lw_all := lw_g (lw_at lw_m11 150 rfl) rfl
theorem q2624 : (Jvm.Cond.code ({ cls := "PublicanryModel", name := "isSound", desc := "()Z" } : Jvm.MethodName) prog_19_method_88_code (1 : Nat) (Option.some Jvm.ClassFile.FieldType.boolean)) ∈ lw_all := lw_g (lw_at lw_m11 151 rfl) rfl
theorem q2625 : (Jvm.Cond.methodLink "PublicanryModel" (443 : Nat) ({ cls := "PublicanryModel", name := "isSoundNow", desc := "()Z" } : Jvm.MethodName)) ∈ lw_all := lw_g (lw_at lw_m11 152 rfl) rfl
theorem q2626 : (Jvm.Cond.privateMethod ({ cls := "PublicanryModel", name := "isSoundNow", desc := "()Z" } : Jvm.MethodName)) ∈ lw_tbl := lw_at lw_m11 153 rfl
theorem q2627 : (Jvm.Cond.instanceMethod ({ cls := "PublicanryModel", name := "isSoundNow", desc := "()Z" } : Jvm.MethodName)) ∈ lw_all := lw_g (lw_at lw_m11 154 rfl) rfl
theorem q2628 : (Jvm.Cond.code ({ cls := "PublicanryModel", name := "isSoundNow", desc := "()Z" } : Jvm.MethodName) prog_19_method_87_code (7 : Nat) (Option.some Jvm.ClassFile.FieldType.boolean)) ∈ lw_all := lw_g (lw_at lw_m11 155 rfl) rfl
theorem q2630 : (Jvm.Cond.instanceMethod ({ cls := "PublicanryModel", name := "digest", desc := "()J" } : Jvm.MethodName)) ∈ lw_all := lw_g (lw_at lw_m11 157 rfl) rfl
theorem q2631 : (Jvm.Cond.selects "PublicanryModel" ({ cls := "PublicanryModel", name := "digest", desc := "()J" } : Jvm.MethodName) ({ cls := "PublicanryModel", name := "digest", desc := "()J" } : Jvm.MethodName)) ∈ lw_all := lw_g (lw_at lw_m11 158 rfl) rfl
theorem q2632 : (Jvm.Cond.code ({ cls := "PublicanryModel", name := "digest", desc := "()J" } : Jvm.MethodName) prog_19_method_89_code (6 : Nat) (Option.some Jvm.ClassFile.FieldType.long)) ∈ lw_all := lw_g (lw_at lw_m11 159 rfl) rfl
theorem q2633 : (Jvm.Cond.constantLong "PublicanryModel" (446 : Nat) (58260 : Int64)) ∈ lw_all := lw_g (lw_at lw_m11 160 rfl) rfl
theorem q2634 : (Jvm.Cond.constantLong "PublicanryModel" (448 : Nat) (31 : Int64)) ∈ lw_all := lw_g (lw_at lw_m11 161 rfl) rfl
theorem q2635 : (Jvm.Cond.constantDouble "PublicanryModel" (450 : Nat) (4634204016564240384 : UInt64)) ∈ lw_all := lw_g (lw_at lw_m11 162 rfl) rfl
theorem q2663 : (Jvm.Cond.castable "PublicanryModel" "java/lang/Object") ∈ lw_tbl := lw_at lw_m11 190 rfl
theorem in_X8 : ∀ w ∈ wsX80, w ∈ lw_all := lw_in wsX80 [1967, 1969, 1971, 1973, 1975, 1977, 1979, 1981, 1983, 1985, 1987, 1989, 1991, 1993, 1995, 1997, 1999, 2001, 2003, 2005, 2007, 2009] (by decide +kernel) (by decide +kernel)
/-! PublicanryModel$Village -/
set_option maxRecDepth 100000
def RX11 : String := "PublicanryModel$Village"
def TX11 : u_T := fun k => match k with
  | 0 => ("PublicanryModel$Village", "houses", "I", false)
  | 1 => ("PublicanryModel$Village", "fields", "I", false)
  | 2 => ("PublicanryModel$Village", "herd", "I", false)
  | 3 => ("PublicanryModel$Village", "soil", "I", false)
  | 4 => ("PublicanryModel$Village", "grain", "I", false)
  | 5 => ("PublicanryModel$Village", "chest", "I", false)
  | 6 => ("PublicanryModel$Village", "debt", "I", false)
  | 7 => ("PublicanryModel$Village", "unrest", "I", false)
  | 8 => ("PublicanryModel$Village", "register", "I", false)
  | 9 => ("PublicanryModel$Village", "yield", "I", false)
  | 10 => ("PublicanryModel$Village", "isRevolt", "Z", false)
  | 11 => ("PublicanryModel$Village", "isBurnt", "Z", false)
  | 12 => ("PublicanryModel$Village", "stone", "I", false)
  | 13 => ("PublicanryModel$Village", "fled", "I", false)
  | 14 => ("PublicanryModel$Village", "rates", "[I", true)
  | 15 => ("PublicanryModel$Village", "exempt", "[Z", true)
  | _ => ("PublicanryModel$Village", "levies", "[[I", true)
def tyX11 : Nat → FieldType := fun k => match k with
  | 0 => .int
  | 1 => .int
  | 2 => .int
  | 3 => .int
  | 4 => .int
  | 5 => .int
  | 6 => .int
  | 7 => .int
  | 8 => .int
  | 9 => .int
  | 10 => .boolean
  | 11 => .boolean
  | 12 => .int
  | 13 => .int
  | 14 => .array .int
  | 15 => .array .boolean
  | _ => .array (.array .int)
abbrev wsX110 : List Cond := u_ws RX11 TX11 17
set_option maxRecDepth 100000 in
theorem nmX11 : ∀ a, a < 17 → ∀ b, b < 17 → a ≠ b → (TX11 a).2.1 ≠ (TX11 b).2.1 := by decide +kernel
set_option maxRecDepth 100000 in
theorem tyX11_ok : ∀ k, k < 17 → parseFieldDescriptor (TX11 k).2.2.1 = some (tyX11 k) := by decide +kernel
abbrev cX11_init : ByteArray := prog_22_method_1_code
def yX11_init : MethodName := ⟨RX11, "<init>", "()V"⟩
def dkwX11_init_1 : List UInt8 := [181, 0, 20, 177]
abbrev dktX11_init_1 : List UInt8 := dkwX11_init_1 ++ []
def dkwX11_init_0 : List UInt8 := [42, 183, 0, 3, 42, 6, 188, 10, 181, 0, 9, 42, 6, 188, 4, 181, 0, 15, 42, 6, 189, 0, 19]
abbrev dktX11_init_0 : List UInt8 := dkwX11_init_0 ++ dktX11_init_1
theorem dksX11_init_0 : cX11_init.data.toList.drop 0 = dktX11_init_0 := by decide +kernel
theorem dksX11_init_1 : cX11_init.data.toList.drop 23 = dktX11_init_1 := dk_seg dksX11_init_0 23 rfl rfl
theorem dX11_init_0 : decode cX11_init 0 = .ok (.aload_n 0, 1) := dk_42 (dk_at dksX11_init_0 0 rfl rfl)
theorem dX11_init_1 : decode cX11_init 1 = .ok (.invokespecial 3, 3) := dk_183 0 3 (dk_at dksX11_init_0 1 rfl rfl)
theorem dX11_init_4 : decode cX11_init 4 = .ok (.aload_n 0, 1) := dk_42 (dk_at dksX11_init_0 4 rfl rfl)
theorem dX11_init_5 : decode cX11_init 5 = .ok (.iconst 3, 1) := dk_6 (dk_at dksX11_init_0 5 rfl rfl)
theorem dX11_init_6 : decode cX11_init 6 = .ok (.newarray .int, 2) := dk_188_10 (dk_at dksX11_init_0 6 rfl rfl)
theorem dX11_init_8 : decode cX11_init 8 = .ok (.putfield 9, 3) := dk_181 0 9 (dk_at dksX11_init_0 8 rfl rfl)
theorem dX11_init_11 : decode cX11_init 11 = .ok (.aload_n 0, 1) := dk_42 (dk_at dksX11_init_0 11 rfl rfl)
theorem dX11_init_12 : decode cX11_init 12 = .ok (.iconst 3, 1) := dk_6 (dk_at dksX11_init_0 12 rfl rfl)
theorem dX11_init_13 : decode cX11_init 13 = .ok (.newarray .boolean, 2) := dk_188_4 (dk_at dksX11_init_0 13 rfl rfl)
theorem dX11_init_15 : decode cX11_init 15 = .ok (.putfield 15, 3) := dk_181 0 15 (dk_at dksX11_init_0 15 rfl rfl)
theorem dX11_init_18 : decode cX11_init 18 = .ok (.aload_n 0, 1) := dk_42 (dk_at dksX11_init_0 18 rfl rfl)
theorem dX11_init_19 : decode cX11_init 19 = .ok (.iconst 3, 1) := dk_6 (dk_at dksX11_init_0 19 rfl rfl)
theorem dX11_init_20 : decode cX11_init 20 = .ok (.anewarray 19, 3) := dk_189 0 19 (dk_at dksX11_init_0 20 rfl rfl)
theorem dX11_init_23 : decode cX11_init 23 = .ok (.putfield 20, 3) := dk_181 0 20 (dk_at dksX11_init_1 0 rfl rfl)
theorem dX11_init_26 : decode cX11_init 26 = .ok (.return_, 1) := dk_177 (dk_at dksX11_init_1 3 rfl rfl)
abbrev cX11_anger : ByteArray := prog_22_method_2_code
def yX11_anger : MethodName := ⟨RX11, "anger", "(I)V"⟩
def dkwX11_anger_0 : List UInt8 := [42, 3, 16, 20, 42, 180, 0, 24, 27, 96, 184, 0, 28, 184, 0, 34, 181, 0, 24, 177]
abbrev dktX11_anger_0 : List UInt8 := dkwX11_anger_0 ++ []
theorem dksX11_anger_0 : cX11_anger.data.toList.drop 0 = dktX11_anger_0 := by decide +kernel
theorem dX11_anger_0 : decode cX11_anger 0 = .ok (.aload_n 0, 1) := dk_42 (dk_at dksX11_anger_0 0 rfl rfl)
theorem dX11_anger_1 : decode cX11_anger 1 = .ok (.iconst 0, 1) := dk_3 (dk_at dksX11_anger_0 1 rfl rfl)
theorem dX11_anger_2 : decode cX11_anger 2 = .ok (.bipush 20, 2) := dk_16 20 (dk_at dksX11_anger_0 2 rfl rfl)
theorem dX11_anger_4 : decode cX11_anger 4 = .ok (.aload_n 0, 1) := dk_42 (dk_at dksX11_anger_0 4 rfl rfl)
theorem dX11_anger_5 : decode cX11_anger 5 = .ok (.getfield 24, 3) := dk_180 0 24 (dk_at dksX11_anger_0 5 rfl rfl)
theorem dX11_anger_8 : decode cX11_anger 8 = .ok (.iload_n 1, 1) := dk_27 (dk_at dksX11_anger_0 8 rfl rfl)
theorem dX11_anger_9 : decode cX11_anger 9 = .ok (.iadd, 1) := dk_96 (dk_at dksX11_anger_0 9 rfl rfl)
theorem dX11_anger_10 : decode cX11_anger 10 = .ok (.invokestatic 28, 3) := dk_184 0 28 (dk_at dksX11_anger_0 10 rfl rfl)
theorem dX11_anger_13 : decode cX11_anger 13 = .ok (.invokestatic 34, 3) := dk_184 0 34 (dk_at dksX11_anger_0 13 rfl rfl)
theorem dX11_anger_16 : decode cX11_anger 16 = .ok (.putfield 24, 3) := dk_181 0 24 (dk_at dksX11_anger_0 16 rfl rfl)
theorem dX11_anger_19 : decode cX11_anger 19 = .ok (.return_, 1) := dk_177 (dk_at dksX11_anger_0 19 rfl rfl)
theorem q99 : (Jvm.Cond.initialized "PublicanryModel$Village") ∈ lw_all := lw_g (lw_at lw_m1 26 rfl) rfl
theorem q475 : (Jvm.Cond.selects "PublicanryModel$Village" ({ cls := "java/lang/Object", name := "notifyAll", desc := "()V" } : Jvm.MethodName) ({ cls := "java/lang/Object", name := "notifyAll", desc := "()V" } : Jvm.MethodName)) ∈ lw_all := lw_g (lw_at lw_m2 162 rfl) rfl
theorem q577 : (Jvm.Cond.selects "PublicanryModel$Village" ({ cls := "java/lang/Object", name := "notify", desc := "()V" } : Jvm.MethodName) ({ cls := "java/lang/Object", name := "notify", desc := "()V" } : Jvm.MethodName)) ∈ lw_all := lw_g (lw_at lw_m3 24 rfl) rfl
theorem q894 : (Jvm.Cond.selects "PublicanryModel$Village" ({ cls := "java/lang/Object", name := "getClass", desc := "()Ljava/lang/Class;" } : Jvm.MethodName) ({ cls := "java/lang/Object", name := "getClass", desc := "()Ljava/lang/Class;" } : Jvm.MethodName)) ∈ lw_all := lw_g (lw_at lw_m4 101 rfl) rfl
theorem q2033 : (Jvm.Cond.instantiable "PublicanryModel$Village" (17 : Nat)) ∈ lw_all := lw_g (lw_at lw_m9 40 rfl) rfl
theorem q2035 : (Jvm.Cond.instanceMethod ({ cls := "PublicanryModel$Village", name := "<init>", desc := "()V" } : Jvm.MethodName)) ∈ lw_all := lw_g (lw_at lw_m9 42 rfl) rfl
theorem q2036 : (Jvm.Cond.code ({ cls := "PublicanryModel$Village", name := "<init>", desc := "()V" } : Jvm.MethodName) prog_22_method_1_code (1 : Nat) (Option.none : Option Jvm.ClassFile.FieldType)) ∈ lw_all := lw_g (lw_at lw_m9 43 rfl) rfl
theorem q2037 : (Jvm.Cond.methodLink "PublicanryModel$Village" (3 : Nat) ({ cls := "java/lang/Object", name := "<init>", desc := "()V" } : Jvm.MethodName)) ∈ lw_all := lw_g (lw_at lw_m9 44 rfl) rfl
theorem q2038 : (Jvm.Cond.classLink "PublicanryModel$Village" (19 : Nat) "[I") ∈ lw_all := lw_g (lw_at lw_m9 45 rfl) rfl
theorem q2047 : (Jvm.Cond.fieldLink "PublicanryModel$Village" (24 : Nat) "PublicanryModel$Village" "unrest" "I") ∈ lw_all := lw_g (lw_at lw_m9 54 rfl) rfl
theorem q2055 : (Jvm.Cond.fieldLink "PublicanryModel$Village" (9 : Nat) "PublicanryModel$Village" "rates" "[I") ∈ lw_all := lw_g (lw_at lw_m9 62 rfl) rfl
theorem q2057 : (Jvm.Cond.fieldLink "PublicanryModel$Village" (15 : Nat) "PublicanryModel$Village" "exempt" "[Z") ∈ lw_all := lw_g (lw_at lw_m9 64 rfl) rfl
theorem q2059 : (Jvm.Cond.fieldLink "PublicanryModel$Village" (20 : Nat) "PublicanryModel$Village" "levies" "[[I") ∈ lw_all := lw_g (lw_at lw_m9 66 rfl) rfl
theorem q2061 : (Jvm.Cond.lays "PublicanryModel$Village" "PublicanryModel$Village" "houses" "I") ∈ lw_all := lw_g (lw_at lw_m9 68 rfl) rfl
theorem q2062 : (Jvm.Cond.soleField "PublicanryModel$Village" "houses") ∈ lw_all := lw_g (lw_at lw_m9 69 rfl) rfl
theorem q2063 : (Jvm.Cond.lays "PublicanryModel$Village" "PublicanryModel$Village" "fields" "I") ∈ lw_all := lw_g (lw_at lw_m9 70 rfl) rfl
theorem q2064 : (Jvm.Cond.soleField "PublicanryModel$Village" "fields") ∈ lw_all := lw_g (lw_at lw_m9 71 rfl) rfl
theorem q2065 : (Jvm.Cond.lays "PublicanryModel$Village" "PublicanryModel$Village" "herd" "I") ∈ lw_all := lw_g (lw_at lw_m9 72 rfl) rfl
theorem q2066 : (Jvm.Cond.soleField "PublicanryModel$Village" "herd") ∈ lw_all := lw_g (lw_at lw_m9 73 rfl) rfl
theorem q2067 : (Jvm.Cond.lays "PublicanryModel$Village" "PublicanryModel$Village" "soil" "I") ∈ lw_all := lw_g (lw_at lw_m9 74 rfl) rfl
theorem q2068 : (Jvm.Cond.soleField "PublicanryModel$Village" "soil") ∈ lw_all := lw_g (lw_at lw_m9 75 rfl) rfl
theorem q2069 : (Jvm.Cond.lays "PublicanryModel$Village" "PublicanryModel$Village" "grain" "I") ∈ lw_all := lw_g (lw_at lw_m9 76 rfl) rfl
theorem q2070 : (Jvm.Cond.soleField "PublicanryModel$Village" "grain") ∈ lw_all := lw_g (lw_at lw_m9 77 rfl) rfl
theorem q2071 : (Jvm.Cond.lays "PublicanryModel$Village" "PublicanryModel$Village" "chest" "I") ∈ lw_all := lw_g (lw_at lw_m9 78 rfl) rfl
theorem q2072 : (Jvm.Cond.soleField "PublicanryModel$Village" "chest") ∈ lw_all := lw_g (lw_at lw_m9 79 rfl) rfl
theorem q2073 : (Jvm.Cond.lays "PublicanryModel$Village" "PublicanryModel$Village" "debt" "I") ∈ lw_all := lw_g (lw_at lw_m9 80 rfl) rfl
theorem q2074 : (Jvm.Cond.soleField "PublicanryModel$Village" "debt") ∈ lw_all := lw_g (lw_at lw_m9 81 rfl) rfl
theorem q2075 : (Jvm.Cond.lays "PublicanryModel$Village" "PublicanryModel$Village" "unrest" "I") ∈ lw_all := lw_g (lw_at lw_m9 82 rfl) rfl
theorem q2076 : (Jvm.Cond.soleField "PublicanryModel$Village" "unrest") ∈ lw_all := lw_g (lw_at lw_m9 83 rfl) rfl
theorem q2077 : (Jvm.Cond.lays "PublicanryModel$Village" "PublicanryModel$Village" "register" "I") ∈ lw_all := lw_g (lw_at lw_m9 84 rfl) rfl
theorem q2078 : (Jvm.Cond.soleField "PublicanryModel$Village" "register") ∈ lw_all := lw_g (lw_at lw_m9 85 rfl) rfl
theorem q2079 : (Jvm.Cond.lays "PublicanryModel$Village" "PublicanryModel$Village" "yield" "I") ∈ lw_all := lw_g (lw_at lw_m9 86 rfl) rfl
theorem q2080 : (Jvm.Cond.soleField "PublicanryModel$Village" "yield") ∈ lw_all := lw_g (lw_at lw_m9 87 rfl) rfl
theorem q2081 : (Jvm.Cond.lays "PublicanryModel$Village" "PublicanryModel$Village" "isRevolt" "Z") ∈ lw_all := lw_g (lw_at lw_m9 88 rfl) rfl
theorem q2082 : (Jvm.Cond.soleField "PublicanryModel$Village" "isRevolt") ∈ lw_all := lw_g (lw_at lw_m9 89 rfl) rfl
theorem q2083 : (Jvm.Cond.lays "PublicanryModel$Village" "PublicanryModel$Village" "isBurnt" "Z") ∈ lw_all := lw_g (lw_at lw_m9 90 rfl) rfl
theorem q2084 : (Jvm.Cond.soleField "PublicanryModel$Village" "isBurnt") ∈ lw_all := lw_g (lw_at lw_m9 91 rfl) rfl
theorem q2085 : (Jvm.Cond.lays "PublicanryModel$Village" "PublicanryModel$Village" "stone" "I") ∈ lw_all := lw_g (lw_at lw_m9 92 rfl) rfl
theorem q2086 : (Jvm.Cond.soleField "PublicanryModel$Village" "stone") ∈ lw_all := lw_g (lw_at lw_m9 93 rfl) rfl
theorem q2087 : (Jvm.Cond.lays "PublicanryModel$Village" "PublicanryModel$Village" "fled" "I") ∈ lw_all := lw_g (lw_at lw_m9 94 rfl) rfl
theorem q2088 : (Jvm.Cond.soleField "PublicanryModel$Village" "fled") ∈ lw_all := lw_g (lw_at lw_m9 95 rfl) rfl
theorem q2089 : (Jvm.Cond.laysFinal "PublicanryModel$Village" "PublicanryModel$Village" "rates" "[I") ∈ lw_all := lw_g (lw_at lw_m9 96 rfl) rfl
theorem q2090 : (Jvm.Cond.soleField "PublicanryModel$Village" "rates") ∈ lw_all := lw_g (lw_at lw_m9 97 rfl) rfl
theorem q2091 : (Jvm.Cond.laysFinal "PublicanryModel$Village" "PublicanryModel$Village" "exempt" "[Z") ∈ lw_all := lw_g (lw_at lw_m9 98 rfl) rfl
theorem q2092 : (Jvm.Cond.soleField "PublicanryModel$Village" "exempt") ∈ lw_all := lw_g (lw_at lw_m9 99 rfl) rfl
theorem q2093 : (Jvm.Cond.laysFinal "PublicanryModel$Village" "PublicanryModel$Village" "levies" "[[I") ∈ lw_all := lw_g (lw_at lw_m9 100 rfl) rfl
theorem q2094 : (Jvm.Cond.soleField "PublicanryModel$Village" "levies") ∈ lw_all := lw_g (lw_at lw_m9 101 rfl) rfl
theorem q2095 : (Jvm.Cond.superclass "PublicanryModel$Village" "java/lang/Object") ∈ lw_all := lw_g (lw_at lw_m9 102 rfl) rfl
theorem q2368 : (Jvm.Cond.instanceMethod ({ cls := "PublicanryModel$Village", name := "anger", desc := "(I)V" } : Jvm.MethodName)) ∈ lw_all := lw_g (lw_at lw_m10 135 rfl) rfl
theorem q2369 : (Jvm.Cond.selects "PublicanryModel$Village" ({ cls := "PublicanryModel$Village", name := "anger", desc := "(I)V" } : Jvm.MethodName) ({ cls := "PublicanryModel$Village", name := "anger", desc := "(I)V" } : Jvm.MethodName)) ∈ lw_all := lw_g (lw_at lw_m10 136 rfl) rfl
theorem q2370 : (Jvm.Cond.code ({ cls := "PublicanryModel$Village", name := "anger", desc := "(I)V" } : Jvm.MethodName) prog_22_method_2_code (2 : Nat) (Option.none : Option Jvm.ClassFile.FieldType)) ∈ lw_all := lw_g (lw_at lw_m10 137 rfl) rfl
theorem q2371 : (Jvm.Cond.methodLink "PublicanryModel$Village" (28 : Nat) ({ cls := "java/lang/Math", name := "min", desc := "(II)I" } : Jvm.MethodName)) ∈ lw_all := lw_g (lw_at lw_m10 138 rfl) rfl
theorem q2372 : (Jvm.Cond.methodLink "PublicanryModel$Village" (34 : Nat) ({ cls := "java/lang/Math", name := "max", desc := "(II)I" } : Jvm.MethodName)) ∈ lw_all := lw_g (lw_at lw_m10 139 rfl) rfl
theorem q2449 : (Jvm.Cond.selects "PublicanryModel$Village" ({ cls := "java/lang/Object", name := "equals", desc := "(Ljava/lang/Object;)Z" } : Jvm.MethodName) ({ cls := "java/lang/Object", name := "equals", desc := "(Ljava/lang/Object;)Z" } : Jvm.MethodName)) ∈ lw_all := lw_g (lw_at lw_m10 216 rfl) rfl
theorem q2669 : (Jvm.Cond.castable "PublicanryModel$Village" "java/lang/Object") ∈ lw_tbl := lw_at lw_m11 196 rfl
theorem in_X11 : ∀ w ∈ wsX110, w ∈ lw_all := lw_in wsX110 [2061, 2063, 2065, 2067, 2069, 2071, 2073, 2075, 2077, 2079, 2081, 2083, 2085, 2087, 2089, 2091, 2093] (by decide +kernel) (by decide +kernel)
/-! PublicanryModel$Company -/
set_option maxRecDepth 100000
def RX13 : String := "PublicanryModel$Company"
def TX13 : u_T := fun k => match k with
  | 0 => ("PublicanryModel$Company", "land", "I", false)
  | 1 => ("PublicanryModel$Company", "chest", "I", false)
  | 2 => ("PublicanryModel$Company", "ring", "I", false)
  | 3 => ("PublicanryModel$Company", "force", "I", false)
  | 4 => ("PublicanryModel$Company", "isBanned", "Z", false)
  | 5 => ("PublicanryModel$Company", "credit", "I", false)
  | 6 => ("PublicanryModel$Company", "gifts", "I", false)
  | 7 => ("PublicanryModel$Company", "brought", "I", false)
  | 8 => ("PublicanryModel$Company", "paid", "I", false)
  | 9 => ("PublicanryModel$Company", "shares", "Ljava/util/ArrayList;", true)
  | _ => ("PublicanryModel$Company", "told", "Ljava/util/ArrayList;", true)
def tyX13 : Nat → FieldType := fun k => match k with
  | 0 => .int
  | 1 => .int
  | 2 => .int
  | 3 => .int
  | 4 => .boolean
  | 5 => .int
  | 6 => .int
  | 7 => .int
  | 8 => .int
  | 9 => .object "java/util/ArrayList"
  | _ => .object "java/util/ArrayList"
abbrev wsX130 : List Cond := u_ws RX13 TX13 11
theorem nmX13 : ∀ a, a < 11 → ∀ b, b < 11 → a ≠ b → (TX13 a).2.1 ≠ (TX13 b).2.1 := by decide +kernel
theorem tyX13_ok : ∀ k, k < 11 → parseFieldDescriptor (TX13 k).2.2.1 = some (tyX13 k) := by decide +kernel
abbrev cX13_init : ByteArray := prog_20_method_1_code
def yX13_init : MethodName := ⟨RX13, "<init>", "()V"⟩
def dkwX13_init_1 : List UInt8 := [181, 0, 16, 177]
abbrev dktX13_init_1 : List UInt8 := dkwX13_init_1 ++ []
def dkwX13_init_0 : List UInt8 := [42, 183, 0, 1, 42, 187, 0, 7, 89, 183, 0, 9, 181, 0, 10, 42, 187, 0, 7, 89, 183, 0, 9]
abbrev dktX13_init_0 : List UInt8 := dkwX13_init_0 ++ dktX13_init_1
theorem dksX13_init_0 : cX13_init.data.toList.drop 0 = dktX13_init_0 := by decide +kernel
theorem dksX13_init_1 : cX13_init.data.toList.drop 23 = dktX13_init_1 := dk_seg dksX13_init_0 23 rfl rfl
theorem dX13_init_0 : decode cX13_init 0 = .ok (.aload_n 0, 1) := dk_42 (dk_at dksX13_init_0 0 rfl rfl)
theorem dX13_init_1 : decode cX13_init 1 = .ok (.invokespecial 1, 3) := dk_183 0 1 (dk_at dksX13_init_0 1 rfl rfl)
theorem dX13_init_4 : decode cX13_init 4 = .ok (.aload_n 0, 1) := dk_42 (dk_at dksX13_init_0 4 rfl rfl)
theorem dX13_init_5 : decode cX13_init 5 = .ok (.new 7, 3) := dk_187 0 7 (dk_at dksX13_init_0 5 rfl rfl)
theorem dX13_init_8 : decode cX13_init 8 = .ok (.dup, 1) := dk_89 (dk_at dksX13_init_0 8 rfl rfl)
theorem dX13_init_9 : decode cX13_init 9 = .ok (.invokespecial 9, 3) := dk_183 0 9 (dk_at dksX13_init_0 9 rfl rfl)
theorem dX13_init_12 : decode cX13_init 12 = .ok (.putfield 10, 3) := dk_181 0 10 (dk_at dksX13_init_0 12 rfl rfl)
theorem dX13_init_15 : decode cX13_init 15 = .ok (.aload_n 0, 1) := dk_42 (dk_at dksX13_init_0 15 rfl rfl)
theorem dX13_init_16 : decode cX13_init 16 = .ok (.new 7, 3) := dk_187 0 7 (dk_at dksX13_init_0 16 rfl rfl)
theorem dX13_init_19 : decode cX13_init 19 = .ok (.dup, 1) := dk_89 (dk_at dksX13_init_0 19 rfl rfl)
theorem dX13_init_20 : decode cX13_init 20 = .ok (.invokespecial 9, 3) := dk_183 0 9 (dk_at dksX13_init_0 20 rfl rfl)
theorem dX13_init_23 : decode cX13_init 23 = .ok (.putfield 16, 3) := dk_181 0 16 (dk_at dksX13_init_1 0 rfl rfl)
theorem dX13_init_26 : decode cX13_init 26 = .ok (.return_, 1) := dk_177 (dk_at dksX13_init_1 3 rfl rfl)
abbrev cX13_allShares : ByteArray := prog_20_method_2_code
def yX13_allShares : MethodName := ⟨RX13, "allShares", "()I"⟩
def dkwX13_allShares_1 : List UInt8 := [185, 0, 29, 1, 0, 192, 0, 33, 182, 0, 35, 62, 27, 29, 96, 60, 167, 255, 230, 27, 172]
abbrev dktX13_allShares_1 : List UInt8 := dkwX13_allShares_1 ++ []
def dkwX13_allShares_0 : List UInt8 := [3, 60, 42, 180, 0, 10, 182, 0, 19, 77, 44, 185, 0, 23, 1, 0, 153, 0, 23, 44]
abbrev dktX13_allShares_0 : List UInt8 := dkwX13_allShares_0 ++ dktX13_allShares_1
theorem dksX13_allShares_0 : cX13_allShares.data.toList.drop 0 = dktX13_allShares_0 := by decide +kernel
theorem dksX13_allShares_1 : cX13_allShares.data.toList.drop 20 = dktX13_allShares_1 := dk_seg dksX13_allShares_0 20 rfl rfl
theorem dX13_allShares_0 : decode cX13_allShares 0 = .ok (.iconst 0, 1) := dk_3 (dk_at dksX13_allShares_0 0 rfl rfl)
theorem dX13_allShares_1 : decode cX13_allShares 1 = .ok (.istore_n 1, 1) := dk_60 (dk_at dksX13_allShares_0 1 rfl rfl)
theorem dX13_allShares_2 : decode cX13_allShares 2 = .ok (.aload_n 0, 1) := dk_42 (dk_at dksX13_allShares_0 2 rfl rfl)
theorem dX13_allShares_3 : decode cX13_allShares 3 = .ok (.getfield 10, 3) := dk_180 0 10 (dk_at dksX13_allShares_0 3 rfl rfl)
theorem dX13_allShares_6 : decode cX13_allShares 6 = .ok (.invokevirtual 19, 3) := dk_182 0 19 (dk_at dksX13_allShares_0 6 rfl rfl)
theorem dX13_allShares_9 : decode cX13_allShares 9 = .ok (.astore_n 2, 1) := dk_77 (dk_at dksX13_allShares_0 9 rfl rfl)
theorem dX13_allShares_10 : decode cX13_allShares 10 = .ok (.aload_n 2, 1) := dk_44 (dk_at dksX13_allShares_0 10 rfl rfl)
theorem dX13_allShares_11 : decode cX13_allShares 11 = .ok (.invokeinterface 23 1, 5) := by decide +kernel
theorem dX13_allShares_16 : decode cX13_allShares 16 = .ok (.ifCond .eq 23, 3) := dk_153 0 23 (dk_at dksX13_allShares_0 16 rfl rfl)
theorem dX13_allShares_19 : decode cX13_allShares 19 = .ok (.aload_n 2, 1) := dk_44 (dk_at dksX13_allShares_0 19 rfl rfl)
theorem dX13_allShares_20 : decode cX13_allShares 20 = .ok (.invokeinterface 29 1, 5) := by decide +kernel
theorem dX13_allShares_25 : decode cX13_allShares 25 = .ok (.checkcast 33, 3) := dk_192 0 33 (dk_at dksX13_allShares_1 5 rfl rfl)
theorem dX13_allShares_28 : decode cX13_allShares 28 = .ok (.invokevirtual 35, 3) := dk_182 0 35 (dk_at dksX13_allShares_1 8 rfl rfl)
theorem dX13_allShares_31 : decode cX13_allShares 31 = .ok (.istore_n 3, 1) := dk_62 (dk_at dksX13_allShares_1 11 rfl rfl)
theorem dX13_allShares_32 : decode cX13_allShares 32 = .ok (.iload_n 1, 1) := dk_27 (dk_at dksX13_allShares_1 12 rfl rfl)
theorem dX13_allShares_33 : decode cX13_allShares 33 = .ok (.iload_n 3, 1) := dk_29 (dk_at dksX13_allShares_1 13 rfl rfl)
theorem dX13_allShares_34 : decode cX13_allShares 34 = .ok (.iadd, 1) := dk_96 (dk_at dksX13_allShares_1 14 rfl rfl)
theorem dX13_allShares_35 : decode cX13_allShares 35 = .ok (.istore_n 1, 1) := dk_60 (dk_at dksX13_allShares_1 15 rfl rfl)
theorem dX13_allShares_36 : decode cX13_allShares 36 = .ok (.goto (-26), 3) := dk_167 255 230 (dk_at dksX13_allShares_1 16 rfl rfl)
theorem dX13_allShares_39 : decode cX13_allShares 39 = .ok (.iload_n 1, 1) := dk_27 (dk_at dksX13_allShares_1 19 rfl rfl)
theorem dX13_allShares_40 : decode cX13_allShares 40 = .ok (.ireturn, 1) := dk_172 (dk_at dksX13_allShares_1 20 rfl rfl)
theorem q107 : (Jvm.Cond.initialized "PublicanryModel$Company") ∈ lw_all := lw_g (lw_at lw_m1 34 rfl) rfl
theorem q473 : (Jvm.Cond.selects "PublicanryModel$Company" ({ cls := "java/lang/Object", name := "notifyAll", desc := "()V" } : Jvm.MethodName) ({ cls := "java/lang/Object", name := "notifyAll", desc := "()V" } : Jvm.MethodName)) ∈ lw_all := lw_g (lw_at lw_m2 160 rfl) rfl
theorem q575 : (Jvm.Cond.selects "PublicanryModel$Company" ({ cls := "java/lang/Object", name := "notify", desc := "()V" } : Jvm.MethodName) ({ cls := "java/lang/Object", name := "notify", desc := "()V" } : Jvm.MethodName)) ∈ lw_all := lw_g (lw_at lw_m3 22 rfl) rfl
theorem q892 : (Jvm.Cond.selects "PublicanryModel$Company" ({ cls := "java/lang/Object", name := "getClass", desc := "()Ljava/lang/Class;" } : Jvm.MethodName) ({ cls := "java/lang/Object", name := "getClass", desc := "()Ljava/lang/Class;" } : Jvm.MethodName)) ∈ lw_all := lw_g (lw_at lw_m4 99 rfl) rfl
theorem q2142 : (Jvm.Cond.instantiable "PublicanryModel$Company" (11 : Nat)) ∈ lw_all := lw_g (lw_at lw_m9 149 rfl) rfl
theorem q2144 : (Jvm.Cond.instanceMethod ({ cls := "PublicanryModel$Company", name := "<init>", desc := "()V" } : Jvm.MethodName)) ∈ lw_all := lw_g (lw_at lw_m9 151 rfl) rfl
theorem q2145 : (Jvm.Cond.code ({ cls := "PublicanryModel$Company", name := "<init>", desc := "()V" } : Jvm.MethodName) prog_20_method_1_code (1 : Nat) (Option.none : Option Jvm.ClassFile.FieldType)) ∈ lw_all := lw_g (lw_at lw_m9 152 rfl) rfl
theorem q2146 : (Jvm.Cond.methodLink "PublicanryModel$Company" (1 : Nat) ({ cls := "java/lang/Object", name := "<init>", desc := "()V" } : Jvm.MethodName)) ∈ lw_all := lw_g (lw_at lw_m9 153 rfl) rfl
theorem q2147 : (Jvm.Cond.classLink "PublicanryModel$Company" (7 : Nat) "java/util/ArrayList") ∈ lw_all := lw_g (lw_at lw_m9 154 rfl) rfl
theorem q2148 : (Jvm.Cond.methodLink "PublicanryModel$Company" (9 : Nat) ({ cls := "java/util/ArrayList", name := "<init>", desc := "()V" } : Jvm.MethodName)) ∈ lw_all := lw_g (lw_at lw_m9 155 rfl) rfl
theorem q2158 : (Jvm.Cond.fieldLink "PublicanryModel$Company" (10 : Nat) "PublicanryModel$Company" "shares" "Ljava/util/ArrayList;") ∈ lw_all := lw_g (lw_at lw_m9 165 rfl) rfl
theorem q2160 : (Jvm.Cond.fieldLink "PublicanryModel$Company" (16 : Nat) "PublicanryModel$Company" "told" "Ljava/util/ArrayList;") ∈ lw_all := lw_g (lw_at lw_m9 167 rfl) rfl
theorem q2162 : (Jvm.Cond.lays "PublicanryModel$Company" "PublicanryModel$Company" "land" "I") ∈ lw_all := lw_g (lw_at lw_m9 169 rfl) rfl
theorem q2163 : (Jvm.Cond.soleField "PublicanryModel$Company" "land") ∈ lw_all := lw_g (lw_at lw_m9 170 rfl) rfl
theorem q2164 : (Jvm.Cond.lays "PublicanryModel$Company" "PublicanryModel$Company" "chest" "I") ∈ lw_all := lw_g (lw_at lw_m9 171 rfl) rfl
theorem q2165 : (Jvm.Cond.soleField "PublicanryModel$Company" "chest") ∈ lw_all := lw_g (lw_at lw_m9 172 rfl) rfl
theorem q2166 : (Jvm.Cond.lays "PublicanryModel$Company" "PublicanryModel$Company" "ring" "I") ∈ lw_all := lw_g (lw_at lw_m9 173 rfl) rfl
theorem q2167 : (Jvm.Cond.soleField "PublicanryModel$Company" "ring") ∈ lw_all := lw_g (lw_at lw_m9 174 rfl) rfl
theorem q2168 : (Jvm.Cond.lays "PublicanryModel$Company" "PublicanryModel$Company" "force" "I") ∈ lw_all := lw_g (lw_at lw_m9 175 rfl) rfl
theorem q2169 : (Jvm.Cond.soleField "PublicanryModel$Company" "force") ∈ lw_all := lw_g (lw_at lw_m9 176 rfl) rfl
theorem q2170 : (Jvm.Cond.lays "PublicanryModel$Company" "PublicanryModel$Company" "isBanned" "Z") ∈ lw_all := lw_g (lw_at lw_m9 177 rfl) rfl
theorem q2171 : (Jvm.Cond.soleField "PublicanryModel$Company" "isBanned") ∈ lw_all := lw_g (lw_at lw_m9 178 rfl) rfl
theorem q2172 : (Jvm.Cond.lays "PublicanryModel$Company" "PublicanryModel$Company" "credit" "I") ∈ lw_all := lw_g (lw_at lw_m9 179 rfl) rfl
theorem q2173 : (Jvm.Cond.soleField "PublicanryModel$Company" "credit") ∈ lw_all := lw_g (lw_at lw_m9 180 rfl) rfl
theorem q2174 : (Jvm.Cond.lays "PublicanryModel$Company" "PublicanryModel$Company" "gifts" "I") ∈ lw_all := lw_g (lw_at lw_m9 181 rfl) rfl
theorem q2175 : (Jvm.Cond.soleField "PublicanryModel$Company" "gifts") ∈ lw_all := lw_g (lw_at lw_m9 182 rfl) rfl
theorem q2176 : (Jvm.Cond.lays "PublicanryModel$Company" "PublicanryModel$Company" "brought" "I") ∈ lw_all := lw_g (lw_at lw_m9 183 rfl) rfl
theorem q2177 : (Jvm.Cond.soleField "PublicanryModel$Company" "brought") ∈ lw_all := lw_g (lw_at lw_m9 184 rfl) rfl
theorem q2178 : (Jvm.Cond.lays "PublicanryModel$Company" "PublicanryModel$Company" "paid" "I") ∈ lw_all := lw_g (lw_at lw_m9 185 rfl) rfl
theorem q2179 : (Jvm.Cond.soleField "PublicanryModel$Company" "paid") ∈ lw_all := lw_g (lw_at lw_m9 186 rfl) rfl
theorem q2180 : (Jvm.Cond.laysFinal "PublicanryModel$Company" "PublicanryModel$Company" "shares" "Ljava/util/ArrayList;") ∈ lw_all := lw_g (lw_at lw_m9 187 rfl) rfl
theorem q2181 : (Jvm.Cond.soleField "PublicanryModel$Company" "shares") ∈ lw_all := lw_g (lw_at lw_m9 188 rfl) rfl
theorem q2182 : (Jvm.Cond.laysFinal "PublicanryModel$Company" "PublicanryModel$Company" "told" "Ljava/util/ArrayList;") ∈ lw_all := lw_g (lw_at lw_m9 189 rfl) rfl
theorem q2183 : (Jvm.Cond.soleField "PublicanryModel$Company" "told") ∈ lw_all := lw_g (lw_at lw_m9 190 rfl) rfl
theorem q2184 : (Jvm.Cond.superclass "PublicanryModel$Company" "java/lang/Object") ∈ lw_all := lw_g (lw_at lw_m9 191 rfl) rfl
theorem q2219 : (Jvm.Cond.instanceMethod ({ cls := "PublicanryModel$Company", name := "allShares", desc := "()I" } : Jvm.MethodName)) ∈ lw_all := lw_g (lw_at lw_m9 226 rfl) rfl
theorem q2220 : (Jvm.Cond.selects "PublicanryModel$Company" ({ cls := "PublicanryModel$Company", name := "allShares", desc := "()I" } : Jvm.MethodName) ({ cls := "PublicanryModel$Company", name := "allShares", desc := "()I" } : Jvm.MethodName)) ∈ lw_all := lw_g (lw_at lw_m9 227 rfl) rfl
theorem q2221 : (Jvm.Cond.code ({ cls := "PublicanryModel$Company", name := "allShares", desc := "()I" } : Jvm.MethodName) prog_20_method_2_code (4 : Nat) (Option.some Jvm.ClassFile.FieldType.int)) ∈ lw_all := lw_g (lw_at lw_m9 228 rfl) rfl
theorem q2222 : (Jvm.Cond.methodLink "PublicanryModel$Company" (19 : Nat) ({ cls := "java/util/ArrayList", name := "iterator", desc := "()Ljava/util/Iterator;" } : Jvm.MethodName)) ∈ lw_all := lw_g (lw_at lw_m9 229 rfl) rfl
theorem q2223 : (Jvm.Cond.interfaceEntry "PublicanryModel$Company" (23 : Nat)) ∈ lw_tbl := lw_at lw_m9 230 rfl
theorem q2224 : (Jvm.Cond.methodLink "PublicanryModel$Company" (23 : Nat) ({ cls := "java/util/Iterator", name := "hasNext", desc := "()Z" } : Jvm.MethodName)) ∈ lw_all := lw_g (lw_at lw_m9 231 rfl) rfl
theorem q2225 : (Jvm.Cond.interfaceEntry "PublicanryModel$Company" (29 : Nat)) ∈ lw_tbl := lw_at lw_m9 232 rfl
theorem q2226 : (Jvm.Cond.methodLink "PublicanryModel$Company" (29 : Nat) ({ cls := "java/util/Iterator", name := "next", desc := "()Ljava/lang/Object;" } : Jvm.MethodName)) ∈ lw_all := lw_g (lw_at lw_m9 233 rfl) rfl
theorem q2227 : (Jvm.Cond.classLink "PublicanryModel$Company" (33 : Nat) "java/lang/Integer") ∈ lw_all := lw_g (lw_at lw_m9 234 rfl) rfl
theorem q2228 : (Jvm.Cond.methodLink "PublicanryModel$Company" (35 : Nat) ({ cls := "java/lang/Integer", name := "intValue", desc := "()I" } : Jvm.MethodName)) ∈ lw_all := lw_g (lw_at lw_m9 235 rfl) rfl
theorem q2447 : (Jvm.Cond.selects "PublicanryModel$Company" ({ cls := "java/lang/Object", name := "equals", desc := "(Ljava/lang/Object;)Z" } : Jvm.MethodName) ({ cls := "java/lang/Object", name := "equals", desc := "(Ljava/lang/Object;)Z" } : Jvm.MethodName)) ∈ lw_all := lw_g (lw_at lw_m10 214 rfl) rfl
theorem q2674 : (Jvm.Cond.castable "PublicanryModel$Company" "java/lang/Object") ∈ lw_tbl := lw_at lw_m11 201 rfl
theorem in_X13 : ∀ w ∈ wsX130, w ∈ lw_all := lw_in wsX130 [2162, 2164, 2166, 2168, 2170, 2172, 2174, 2176, 2178, 2180, 2182] (by decide +kernel) (by decide +kernel)
/-! PublicanryModel$Lot -/
set_option maxRecDepth 100000
def RX16 : String := "PublicanryModel$Lot"
def TX16 : u_T := fun k => match k with
  | 0 => ("PublicanryModel$Lot", "duty", "I", false)
  | 1 => ("PublicanryModel$Lot", "set", "I", false)
  | 2 => ("PublicanryModel$Lot", "term", "I", false)
  | 3 => ("PublicanryModel$Lot", "minimum", "I", false)
  | 4 => ("PublicanryModel$Lot", "state", "I", false)
  | 5 => ("PublicanryModel$Lot", "company", "I", false)
  | 6 => ("PublicanryModel$Lot", "price", "I", false)
  | 7 => ("PublicanryModel$Lot", "left", "I", false)
  | 8 => ("PublicanryModel$Lot", "due", "I", false)
  | 9 => ("PublicanryModel$Lot", "remitted", "I", false)
  | 10 => ("PublicanryModel$Lot", "asked", "I", false)
  | 11 => ("PublicanryModel$Lot", "bids", "[I", true)
  | _ => ("PublicanryModel$Lot", "letOn", "[I", true)
def tyX16 : Nat → FieldType := fun k => match k with
  | 0 => .int
  | 1 => .int
  | 2 => .int
  | 3 => .int
  | 4 => .int
  | 5 => .int
  | 6 => .int
  | 7 => .int
  | 8 => .int
  | 9 => .int
  | 10 => .int
  | 11 => .array .int
  | _ => .array .int
abbrev wsX160 : List Cond := u_ws RX16 TX16 13
set_option maxRecDepth 100000 in
theorem nmX16 : ∀ a, a < 13 → ∀ b, b < 13 → a ≠ b → (TX16 a).2.1 ≠ (TX16 b).2.1 := by decide +kernel
set_option maxRecDepth 100000 in
theorem tyX16_ok : ∀ k, k < 13 → parseFieldDescriptor (TX16 k).2.2.1 = some (tyX16 k) := by decide +kernel
abbrev cX16_init : ByteArray := prog_21_method_1_code
def yX16_init : MethodName := ⟨RX16, "<init>", "()V"⟩
def dkwX16_init_1 : List UInt8 := [181, 0, 21, 42, 16, 8, 188, 10, 181, 0, 25, 177]
abbrev dktX16_init_1 : List UInt8 := dkwX16_init_1 ++ []
def dkwX16_init_0 : List UInt8 := [42, 183, 0, 3, 42, 3, 181, 0, 9, 42, 2, 181, 0, 15, 42, 2, 181, 0, 18, 42, 7, 188, 10]
abbrev dktX16_init_0 : List UInt8 := dkwX16_init_0 ++ dktX16_init_1
theorem dksX16_init_0 : cX16_init.data.toList.drop 0 = dktX16_init_0 := by decide +kernel
theorem dksX16_init_1 : cX16_init.data.toList.drop 23 = dktX16_init_1 := dk_seg dksX16_init_0 23 rfl rfl
theorem dX16_init_0 : decode cX16_init 0 = .ok (.aload_n 0, 1) := dk_42 (dk_at dksX16_init_0 0 rfl rfl)
theorem dX16_init_1 : decode cX16_init 1 = .ok (.invokespecial 3, 3) := dk_183 0 3 (dk_at dksX16_init_0 1 rfl rfl)
theorem dX16_init_4 : decode cX16_init 4 = .ok (.aload_n 0, 1) := dk_42 (dk_at dksX16_init_0 4 rfl rfl)
theorem dX16_init_5 : decode cX16_init 5 = .ok (.iconst 0, 1) := dk_3 (dk_at dksX16_init_0 5 rfl rfl)
theorem dX16_init_6 : decode cX16_init 6 = .ok (.putfield 9, 3) := dk_181 0 9 (dk_at dksX16_init_0 6 rfl rfl)
theorem dX16_init_9 : decode cX16_init 9 = .ok (.aload_n 0, 1) := dk_42 (dk_at dksX16_init_0 9 rfl rfl)
theorem dX16_init_10 : decode cX16_init 10 = .ok (.iconst (-1), 1) := dk_2 (dk_at dksX16_init_0 10 rfl rfl)
theorem dX16_init_11 : decode cX16_init 11 = .ok (.putfield 15, 3) := dk_181 0 15 (dk_at dksX16_init_0 11 rfl rfl)
theorem dX16_init_14 : decode cX16_init 14 = .ok (.aload_n 0, 1) := dk_42 (dk_at dksX16_init_0 14 rfl rfl)
theorem dX16_init_15 : decode cX16_init 15 = .ok (.iconst (-1), 1) := dk_2 (dk_at dksX16_init_0 15 rfl rfl)
theorem dX16_init_16 : decode cX16_init 16 = .ok (.putfield 18, 3) := dk_181 0 18 (dk_at dksX16_init_0 16 rfl rfl)
theorem dX16_init_19 : decode cX16_init 19 = .ok (.aload_n 0, 1) := dk_42 (dk_at dksX16_init_0 19 rfl rfl)
theorem dX16_init_20 : decode cX16_init 20 = .ok (.iconst 4, 1) := dk_7 (dk_at dksX16_init_0 20 rfl rfl)
theorem dX16_init_21 : decode cX16_init 21 = .ok (.newarray .int, 2) := dk_188_10 (dk_at dksX16_init_0 21 rfl rfl)
theorem dX16_init_23 : decode cX16_init 23 = .ok (.putfield 21, 3) := dk_181 0 21 (dk_at dksX16_init_1 0 rfl rfl)
theorem dX16_init_26 : decode cX16_init 26 = .ok (.aload_n 0, 1) := dk_42 (dk_at dksX16_init_1 3 rfl rfl)
theorem dX16_init_27 : decode cX16_init 27 = .ok (.bipush 8, 2) := dk_16 8 (dk_at dksX16_init_1 4 rfl rfl)
theorem dX16_init_29 : decode cX16_init 29 = .ok (.newarray .int, 2) := dk_188_10 (dk_at dksX16_init_1 6 rfl rfl)
theorem dX16_init_31 : decode cX16_init 31 = .ok (.putfield 25, 3) := dk_181 0 25 (dk_at dksX16_init_1 8 rfl rfl)
theorem dX16_init_34 : decode cX16_init 34 = .ok (.return_, 1) := dk_177 (dk_at dksX16_init_1 11 rfl rfl)
theorem q114 : (Jvm.Cond.initialized "PublicanryModel$Lot") ∈ lw_all := lw_g (lw_at lw_m1 41 rfl) rfl
theorem q474 : (Jvm.Cond.selects "PublicanryModel$Lot" ({ cls := "java/lang/Object", name := "notifyAll", desc := "()V" } : Jvm.MethodName) ({ cls := "java/lang/Object", name := "notifyAll", desc := "()V" } : Jvm.MethodName)) ∈ lw_all := lw_g (lw_at lw_m2 161 rfl) rfl
theorem q576 : (Jvm.Cond.selects "PublicanryModel$Lot" ({ cls := "java/lang/Object", name := "notify", desc := "()V" } : Jvm.MethodName) ({ cls := "java/lang/Object", name := "notify", desc := "()V" } : Jvm.MethodName)) ∈ lw_all := lw_g (lw_at lw_m3 23 rfl) rfl
theorem q893 : (Jvm.Cond.selects "PublicanryModel$Lot" ({ cls := "java/lang/Object", name := "getClass", desc := "()Ljava/lang/Class;" } : Jvm.MethodName) ({ cls := "java/lang/Object", name := "getClass", desc := "()Ljava/lang/Class;" } : Jvm.MethodName)) ∈ lw_all := lw_g (lw_at lw_m4 100 rfl) rfl
theorem q2254 : (Jvm.Cond.instantiable "PublicanryModel$Lot" (13 : Nat)) ∈ lw_all := lw_g (lw_at lw_m10 21 rfl) rfl
theorem q2256 : (Jvm.Cond.instanceMethod ({ cls := "PublicanryModel$Lot", name := "<init>", desc := "()V" } : Jvm.MethodName)) ∈ lw_all := lw_g (lw_at lw_m10 23 rfl) rfl
theorem q2257 : (Jvm.Cond.code ({ cls := "PublicanryModel$Lot", name := "<init>", desc := "()V" } : Jvm.MethodName) prog_21_method_1_code (1 : Nat) (Option.none : Option Jvm.ClassFile.FieldType)) ∈ lw_all := lw_g (lw_at lw_m10 24 rfl) rfl
theorem q2258 : (Jvm.Cond.methodLink "PublicanryModel$Lot" (3 : Nat) ({ cls := "java/lang/Object", name := "<init>", desc := "()V" } : Jvm.MethodName)) ∈ lw_all := lw_g (lw_at lw_m10 25 rfl) rfl
theorem q2263 : (Jvm.Cond.fieldLink "PublicanryModel$Lot" (9 : Nat) "PublicanryModel$Lot" "state" "I") ∈ lw_all := lw_g (lw_at lw_m10 30 rfl) rfl
theorem q2265 : (Jvm.Cond.fieldLink "PublicanryModel$Lot" (15 : Nat) "PublicanryModel$Lot" "company" "I") ∈ lw_all := lw_g (lw_at lw_m10 32 rfl) rfl
theorem q2271 : (Jvm.Cond.fieldLink "PublicanryModel$Lot" (18 : Nat) "PublicanryModel$Lot" "asked" "I") ∈ lw_all := lw_g (lw_at lw_m10 38 rfl) rfl
theorem q2273 : (Jvm.Cond.fieldLink "PublicanryModel$Lot" (21 : Nat) "PublicanryModel$Lot" "bids" "[I") ∈ lw_all := lw_g (lw_at lw_m10 40 rfl) rfl
theorem q2275 : (Jvm.Cond.fieldLink "PublicanryModel$Lot" (25 : Nat) "PublicanryModel$Lot" "letOn" "[I") ∈ lw_all := lw_g (lw_at lw_m10 42 rfl) rfl
theorem q2277 : (Jvm.Cond.lays "PublicanryModel$Lot" "PublicanryModel$Lot" "duty" "I") ∈ lw_all := lw_g (lw_at lw_m10 44 rfl) rfl
theorem q2278 : (Jvm.Cond.soleField "PublicanryModel$Lot" "duty") ∈ lw_all := lw_g (lw_at lw_m10 45 rfl) rfl
theorem q2279 : (Jvm.Cond.lays "PublicanryModel$Lot" "PublicanryModel$Lot" "set" "I") ∈ lw_all := lw_g (lw_at lw_m10 46 rfl) rfl
theorem q2280 : (Jvm.Cond.soleField "PublicanryModel$Lot" "set") ∈ lw_all := lw_g (lw_at lw_m10 47 rfl) rfl
theorem q2281 : (Jvm.Cond.lays "PublicanryModel$Lot" "PublicanryModel$Lot" "term" "I") ∈ lw_all := lw_g (lw_at lw_m10 48 rfl) rfl
theorem q2282 : (Jvm.Cond.soleField "PublicanryModel$Lot" "term") ∈ lw_all := lw_g (lw_at lw_m10 49 rfl) rfl
theorem q2283 : (Jvm.Cond.lays "PublicanryModel$Lot" "PublicanryModel$Lot" "minimum" "I") ∈ lw_all := lw_g (lw_at lw_m10 50 rfl) rfl
theorem q2284 : (Jvm.Cond.soleField "PublicanryModel$Lot" "minimum") ∈ lw_all := lw_g (lw_at lw_m10 51 rfl) rfl
theorem q2285 : (Jvm.Cond.lays "PublicanryModel$Lot" "PublicanryModel$Lot" "state" "I") ∈ lw_all := lw_g (lw_at lw_m10 52 rfl) rfl
theorem q2286 : (Jvm.Cond.soleField "PublicanryModel$Lot" "state") ∈ lw_all := lw_g (lw_at lw_m10 53 rfl) rfl
theorem q2287 : (Jvm.Cond.lays "PublicanryModel$Lot" "PublicanryModel$Lot" "company" "I") ∈ lw_all := lw_g (lw_at lw_m10 54 rfl) rfl
theorem q2288 : (Jvm.Cond.soleField "PublicanryModel$Lot" "company") ∈ lw_all := lw_g (lw_at lw_m10 55 rfl) rfl
theorem q2289 : (Jvm.Cond.lays "PublicanryModel$Lot" "PublicanryModel$Lot" "price" "I") ∈ lw_all := lw_g (lw_at lw_m10 56 rfl) rfl
theorem q2290 : (Jvm.Cond.soleField "PublicanryModel$Lot" "price") ∈ lw_all := lw_g (lw_at lw_m10 57 rfl) rfl
theorem q2291 : (Jvm.Cond.lays "PublicanryModel$Lot" "PublicanryModel$Lot" "left" "I") ∈ lw_all := lw_g (lw_at lw_m10 58 rfl) rfl
theorem q2292 : (Jvm.Cond.soleField "PublicanryModel$Lot" "left") ∈ lw_all := lw_g (lw_at lw_m10 59 rfl) rfl
theorem q2293 : (Jvm.Cond.lays "PublicanryModel$Lot" "PublicanryModel$Lot" "due" "I") ∈ lw_all := lw_g (lw_at lw_m10 60 rfl) rfl
theorem q2294 : (Jvm.Cond.soleField "PublicanryModel$Lot" "due") ∈ lw_all := lw_g (lw_at lw_m10 61 rfl) rfl
theorem q2295 : (Jvm.Cond.lays "PublicanryModel$Lot" "PublicanryModel$Lot" "remitted" "I") ∈ lw_all := lw_g (lw_at lw_m10 62 rfl) rfl
theorem q2296 : (Jvm.Cond.soleField "PublicanryModel$Lot" "remitted") ∈ lw_all := lw_g (lw_at lw_m10 63 rfl) rfl
theorem q2297 : (Jvm.Cond.lays "PublicanryModel$Lot" "PublicanryModel$Lot" "asked" "I") ∈ lw_all := lw_g (lw_at lw_m10 64 rfl) rfl
theorem q2298 : (Jvm.Cond.soleField "PublicanryModel$Lot" "asked") ∈ lw_all := lw_g (lw_at lw_m10 65 rfl) rfl
theorem q2299 : (Jvm.Cond.laysFinal "PublicanryModel$Lot" "PublicanryModel$Lot" "bids" "[I") ∈ lw_all := lw_g (lw_at lw_m10 66 rfl) rfl
theorem q2300 : (Jvm.Cond.soleField "PublicanryModel$Lot" "bids") ∈ lw_all := lw_g (lw_at lw_m10 67 rfl) rfl
theorem q2301 : (Jvm.Cond.laysFinal "PublicanryModel$Lot" "PublicanryModel$Lot" "letOn" "[I") ∈ lw_all := lw_g (lw_at lw_m10 68 rfl) rfl
theorem q2302 : (Jvm.Cond.soleField "PublicanryModel$Lot" "letOn") ∈ lw_all := lw_g (lw_at lw_m10 69 rfl) rfl
theorem q2303 : (Jvm.Cond.superclass "PublicanryModel$Lot" "java/lang/Object") ∈ lw_all := lw_g (lw_at lw_m10 70 rfl) rfl
theorem q2448 : (Jvm.Cond.selects "PublicanryModel$Lot" ({ cls := "java/lang/Object", name := "equals", desc := "(Ljava/lang/Object;)Z" } : Jvm.MethodName) ({ cls := "java/lang/Object", name := "equals", desc := "(Ljava/lang/Object;)Z" } : Jvm.MethodName)) ∈ lw_all := lw_g (lw_at lw_m10 215 rfl) rfl
theorem q2679 : (Jvm.Cond.castable "PublicanryModel$Lot" "java/lang/Object") ∈ lw_tbl := lw_at lw_m11 206 rfl
theorem in_X16 : ∀ w ∈ wsX160, w ∈ lw_all := lw_in wsX160 [2277, 2279, 2281, 2283, 2285, 2287, 2289, 2291, 2293, 2295, 2297, 2299, 2301] (by decide +kernel) (by decide +kernel)
