/-! Publicanry -/
set_option maxRecDepth 100000
def RX1 : String := "Publicanry"
def TX1 : u_T := fun k => match k with
  | 0 => ("Publicanry", "villages", "Ljava/util/ArrayList;", true)
  | 1 => ("Publicanry", "companies", "Ljava/util/ArrayList;", true)
  | 2 => ("Publicanry", "lots", "Ljava/util/ArrayList;", true)
  | 3 => ("Publicanry", "rules", "[LPublicanry$Rule;", true)
  | 4 => ("Publicanry", "world", "LPublicanry$Chest;", true)
  | 5 => ("Publicanry", "treasury", "LPublicanry$Chest;", true)
  | 6 => ("Publicanry", "governor", "LPublicanry$Governor;", true)
  | 7 => ("Publicanry", "guard", "LPublicanry$Guard;", true)
  | 8 => ("Publicanry", "season", "I", false)
  | 9 => ("Publicanry", "sky", "I", false)
  | 10 => ("Publicanry", "law", "I", false)
  | 11 => ("Publicanry", "bidders", "I", false)
  | 12 => ("Publicanry", "won", "I", false)
  | 13 => ("Publicanry", "lost", "I", false)
  | 14 => ("Publicanry", "asideSet", "I", false)
  | _ => ("Publicanry", "d", "J", false)
def tyX1 : Nat → FieldType := fun k => match k with
  | 0 => .object "java/util/ArrayList"
  | 1 => .object "java/util/ArrayList"
  | 2 => .object "java/util/ArrayList"
  | 3 => .array (.object "Publicanry$Rule")
  | 4 => .object "Publicanry$Chest"
  | 5 => .object "Publicanry$Chest"
  | 6 => .object "Publicanry$Governor"
  | 7 => .object "Publicanry$Guard"
  | 8 => .int
  | 9 => .int
  | 10 => .int
  | 11 => .int
  | 12 => .int
  | 13 => .int
  | 14 => .int
  | _ => .long
abbrev wsX10 : List Cond := u_ws RX1 TX1 16
set_option maxRecDepth 100000 in
theorem nmX1 : ∀ a, a < 16 → ∀ b, b < 16 → a ≠ b → (TX1 a).2.1 ≠ (TX1 b).2.1 := by decide +kernel
set_option maxRecDepth 100000 in
theorem tyX1_ok : ∀ k, k < 16 → parseFieldDescriptor (TX1 k).2.2.1 = some (tyX1 k) := by decide +kernel
abbrev cX1_init : ByteArray := prog_1_method_4_code
def yX1_init : MethodName := ⟨RX1, "<init>", "()V"⟩
def dkwX1_init_5 : List UInt8 := [184, 0, 71, 27, 50, 180, 0, 77, 183, 0, 80, 83, 132, 1, 1, 167, 255, 227, 177]
abbrev dktX1_init_5 : List UInt8 := dkwX1_init_5 ++ []
def dkwX1_init_4 : List UInt8 := [181, 0, 64, 42, 6, 181, 0, 68, 3, 60, 27, 6, 162, 0, 30, 42, 180, 0, 33, 27, 187, 0, 31, 89]
abbrev dktX1_init_4 : List UInt8 := dkwX1_init_4 ++ dktX1_init_5
def dkwX1_init_3 : List UInt8 := [187, 0, 50, 89, 183, 0, 52, 181, 0, 53, 42, 187, 0, 57, 89, 183, 0, 59, 181, 0, 60, 42, 8]
abbrev dktX1_init_3 : List UInt8 := dkwX1_init_3 ++ dktX1_init_4
def dkwX1_init_2 : List UInt8 := [187, 0, 37, 89, 183, 0, 39, 181, 0, 40, 42, 187, 0, 44, 89, 183, 0, 46, 181, 0, 47, 42]
abbrev dktX1_init_2 : List UInt8 := dkwX1_init_2 ++ dktX1_init_3
def dkwX1_init_1 : List UInt8 := [181, 0, 25, 42, 187, 0, 16, 89, 183, 0, 18, 181, 0, 28, 42, 6, 189, 0, 31, 181, 0, 33, 42]
abbrev dktX1_init_1 : List UInt8 := dkwX1_init_1 ++ dktX1_init_2
def dkwX1_init_0 : List UInt8 := [42, 183, 0, 10, 42, 187, 0, 16, 89, 183, 0, 18, 181, 0, 19, 42, 187, 0, 16, 89, 183, 0, 18]
abbrev dktX1_init_0 : List UInt8 := dkwX1_init_0 ++ dktX1_init_1
theorem dksX1_init_0 : cX1_init.data.toList.drop 0 = dktX1_init_0 := by decide +kernel
theorem dksX1_init_1 : cX1_init.data.toList.drop 23 = dktX1_init_1 := dk_seg dksX1_init_0 23 rfl rfl
theorem dksX1_init_2 : cX1_init.data.toList.drop 46 = dktX1_init_2 := dk_seg dksX1_init_1 23 rfl rfl
theorem dksX1_init_3 : cX1_init.data.toList.drop 68 = dktX1_init_3 := dk_seg dksX1_init_2 22 rfl rfl
theorem dksX1_init_4 : cX1_init.data.toList.drop 91 = dktX1_init_4 := dk_seg dksX1_init_3 23 rfl rfl
theorem dksX1_init_5 : cX1_init.data.toList.drop 115 = dktX1_init_5 := dk_seg dksX1_init_4 24 rfl rfl
theorem dX1_init_0 : decode cX1_init 0 = .ok (.aload_n 0, 1) := dk_42 (dk_at dksX1_init_0 0 rfl rfl)
theorem dX1_init_1 : decode cX1_init 1 = .ok (.invokespecial 10, 3) := dk_183 0 10 (dk_at dksX1_init_0 1 rfl rfl)
theorem dX1_init_4 : decode cX1_init 4 = .ok (.aload_n 0, 1) := dk_42 (dk_at dksX1_init_0 4 rfl rfl)
theorem dX1_init_5 : decode cX1_init 5 = .ok (.new 16, 3) := dk_187 0 16 (dk_at dksX1_init_0 5 rfl rfl)
theorem dX1_init_8 : decode cX1_init 8 = .ok (.dup, 1) := dk_89 (dk_at dksX1_init_0 8 rfl rfl)
theorem dX1_init_9 : decode cX1_init 9 = .ok (.invokespecial 18, 3) := dk_183 0 18 (dk_at dksX1_init_0 9 rfl rfl)
theorem dX1_init_12 : decode cX1_init 12 = .ok (.putfield 19, 3) := dk_181 0 19 (dk_at dksX1_init_0 12 rfl rfl)
theorem dX1_init_15 : decode cX1_init 15 = .ok (.aload_n 0, 1) := dk_42 (dk_at dksX1_init_0 15 rfl rfl)
theorem dX1_init_16 : decode cX1_init 16 = .ok (.new 16, 3) := dk_187 0 16 (dk_at dksX1_init_0 16 rfl rfl)
theorem dX1_init_19 : decode cX1_init 19 = .ok (.dup, 1) := dk_89 (dk_at dksX1_init_0 19 rfl rfl)
theorem dX1_init_20 : decode cX1_init 20 = .ok (.invokespecial 18, 3) := dk_183 0 18 (dk_at dksX1_init_0 20 rfl rfl)
theorem dX1_init_23 : decode cX1_init 23 = .ok (.putfield 25, 3) := dk_181 0 25 (dk_at dksX1_init_1 0 rfl rfl)
theorem dX1_init_26 : decode cX1_init 26 = .ok (.aload_n 0, 1) := dk_42 (dk_at dksX1_init_1 3 rfl rfl)
theorem dX1_init_27 : decode cX1_init 27 = .ok (.new 16, 3) := dk_187 0 16 (dk_at dksX1_init_1 4 rfl rfl)
theorem dX1_init_30 : decode cX1_init 30 = .ok (.dup, 1) := dk_89 (dk_at dksX1_init_1 7 rfl rfl)
theorem dX1_init_31 : decode cX1_init 31 = .ok (.invokespecial 18, 3) := dk_183 0 18 (dk_at dksX1_init_1 8 rfl rfl)
theorem dX1_init_34 : decode cX1_init 34 = .ok (.putfield 28, 3) := dk_181 0 28 (dk_at dksX1_init_1 11 rfl rfl)
theorem dX1_init_37 : decode cX1_init 37 = .ok (.aload_n 0, 1) := dk_42 (dk_at dksX1_init_1 14 rfl rfl)
theorem dX1_init_38 : decode cX1_init 38 = .ok (.iconst 3, 1) := dk_6 (dk_at dksX1_init_1 15 rfl rfl)
theorem dX1_init_39 : decode cX1_init 39 = .ok (.anewarray 31, 3) := dk_189 0 31 (dk_at dksX1_init_1 16 rfl rfl)
theorem dX1_init_42 : decode cX1_init 42 = .ok (.putfield 33, 3) := dk_181 0 33 (dk_at dksX1_init_1 19 rfl rfl)
theorem dX1_init_45 : decode cX1_init 45 = .ok (.aload_n 0, 1) := dk_42 (dk_at dksX1_init_1 22 rfl rfl)
theorem dX1_init_46 : decode cX1_init 46 = .ok (.new 37, 3) := dk_187 0 37 (dk_at dksX1_init_2 0 rfl rfl)
theorem dX1_init_49 : decode cX1_init 49 = .ok (.dup, 1) := dk_89 (dk_at dksX1_init_2 3 rfl rfl)
theorem dX1_init_50 : decode cX1_init 50 = .ok (.invokespecial 39, 3) := dk_183 0 39 (dk_at dksX1_init_2 4 rfl rfl)
theorem dX1_init_53 : decode cX1_init 53 = .ok (.putfield 40, 3) := dk_181 0 40 (dk_at dksX1_init_2 7 rfl rfl)
theorem dX1_init_56 : decode cX1_init 56 = .ok (.aload_n 0, 1) := dk_42 (dk_at dksX1_init_2 10 rfl rfl)
theorem dX1_init_57 : decode cX1_init 57 = .ok (.new 44, 3) := dk_187 0 44 (dk_at dksX1_init_2 11 rfl rfl)
theorem dX1_init_60 : decode cX1_init 60 = .ok (.dup, 1) := dk_89 (dk_at dksX1_init_2 14 rfl rfl)
theorem dX1_init_61 : decode cX1_init 61 = .ok (.invokespecial 46, 3) := dk_183 0 46 (dk_at dksX1_init_2 15 rfl rfl)
theorem dX1_init_64 : decode cX1_init 64 = .ok (.putfield 47, 3) := dk_181 0 47 (dk_at dksX1_init_2 18 rfl rfl)
theorem dX1_init_67 : decode cX1_init 67 = .ok (.aload_n 0, 1) := dk_42 (dk_at dksX1_init_2 21 rfl rfl)
theorem dX1_init_68 : decode cX1_init 68 = .ok (.new 50, 3) := dk_187 0 50 (dk_at dksX1_init_3 0 rfl rfl)
theorem dX1_init_71 : decode cX1_init 71 = .ok (.dup, 1) := dk_89 (dk_at dksX1_init_3 3 rfl rfl)
theorem dX1_init_72 : decode cX1_init 72 = .ok (.invokespecial 52, 3) := dk_183 0 52 (dk_at dksX1_init_3 4 rfl rfl)
theorem dX1_init_75 : decode cX1_init 75 = .ok (.putfield 53, 3) := dk_181 0 53 (dk_at dksX1_init_3 7 rfl rfl)
theorem dX1_init_78 : decode cX1_init 78 = .ok (.aload_n 0, 1) := dk_42 (dk_at dksX1_init_3 10 rfl rfl)
theorem dX1_init_79 : decode cX1_init 79 = .ok (.new 57, 3) := dk_187 0 57 (dk_at dksX1_init_3 11 rfl rfl)
theorem dX1_init_82 : decode cX1_init 82 = .ok (.dup, 1) := dk_89 (dk_at dksX1_init_3 14 rfl rfl)
theorem dX1_init_83 : decode cX1_init 83 = .ok (.invokespecial 59, 3) := dk_183 0 59 (dk_at dksX1_init_3 15 rfl rfl)
theorem dX1_init_86 : decode cX1_init 86 = .ok (.putfield 60, 3) := dk_181 0 60 (dk_at dksX1_init_3 18 rfl rfl)
theorem dX1_init_89 : decode cX1_init 89 = .ok (.aload_n 0, 1) := dk_42 (dk_at dksX1_init_3 21 rfl rfl)
theorem dX1_init_90 : decode cX1_init 90 = .ok (.iconst 5, 1) := dk_8 (dk_at dksX1_init_3 22 rfl rfl)
theorem dX1_init_91 : decode cX1_init 91 = .ok (.putfield 64, 3) := dk_181 0 64 (dk_at dksX1_init_4 0 rfl rfl)
theorem dX1_init_94 : decode cX1_init 94 = .ok (.aload_n 0, 1) := dk_42 (dk_at dksX1_init_4 3 rfl rfl)
theorem dX1_init_95 : decode cX1_init 95 = .ok (.iconst 3, 1) := dk_6 (dk_at dksX1_init_4 4 rfl rfl)
theorem dX1_init_96 : decode cX1_init 96 = .ok (.putfield 68, 3) := dk_181 0 68 (dk_at dksX1_init_4 5 rfl rfl)
theorem dX1_init_99 : decode cX1_init 99 = .ok (.iconst 0, 1) := dk_3 (dk_at dksX1_init_4 8 rfl rfl)
theorem dX1_init_100 : decode cX1_init 100 = .ok (.istore_n 1, 1) := dk_60 (dk_at dksX1_init_4 9 rfl rfl)
theorem dX1_init_101 : decode cX1_init 101 = .ok (.iload_n 1, 1) := dk_27 (dk_at dksX1_init_4 10 rfl rfl)
theorem dX1_init_102 : decode cX1_init 102 = .ok (.iconst 3, 1) := dk_6 (dk_at dksX1_init_4 11 rfl rfl)
theorem dX1_init_103 : decode cX1_init 103 = .ok (.if_icmp .ge 30, 3) := dk_162 0 30 (dk_at dksX1_init_4 12 rfl rfl)
theorem dX1_init_106 : decode cX1_init 106 = .ok (.aload_n 0, 1) := dk_42 (dk_at dksX1_init_4 15 rfl rfl)
theorem dX1_init_107 : decode cX1_init 107 = .ok (.getfield 33, 3) := dk_180 0 33 (dk_at dksX1_init_4 16 rfl rfl)
theorem dX1_init_110 : decode cX1_init 110 = .ok (.iload_n 1, 1) := dk_27 (dk_at dksX1_init_4 19 rfl rfl)
theorem dX1_init_111 : decode cX1_init 111 = .ok (.new 31, 3) := dk_187 0 31 (dk_at dksX1_init_4 20 rfl rfl)
theorem dX1_init_114 : decode cX1_init 114 = .ok (.dup, 1) := dk_89 (dk_at dksX1_init_4 23 rfl rfl)
theorem dX1_init_115 : decode cX1_init 115 = .ok (.invokestatic 71, 3) := dk_184 0 71 (dk_at dksX1_init_5 0 rfl rfl)
theorem dX1_init_118 : decode cX1_init 118 = .ok (.iload_n 1, 1) := dk_27 (dk_at dksX1_init_5 3 rfl rfl)
theorem dX1_init_119 : decode cX1_init 119 = .ok (.aaload, 1) := dk_50 (dk_at dksX1_init_5 4 rfl rfl)
theorem dX1_init_120 : decode cX1_init 120 = .ok (.getfield 77, 3) := dk_180 0 77 (dk_at dksX1_init_5 5 rfl rfl)
theorem dX1_init_123 : decode cX1_init 123 = .ok (.invokespecial 80, 3) := dk_183 0 80 (dk_at dksX1_init_5 8 rfl rfl)
theorem dX1_init_126 : decode cX1_init 126 = .ok (.aastore, 1) := dk_83 (dk_at dksX1_init_5 11 rfl rfl)
theorem dX1_init_127 : decode cX1_init 127 = .ok (.iinc 1 1, 3) := dk_132 1 1 (dk_at dksX1_init_5 12 rfl rfl)
theorem dX1_init_130 : decode cX1_init 130 = .ok (.goto (-29), 3) := dk_167 255 227 (dk_at dksX1_init_5 15 rfl rfl)
theorem dX1_init_133 : decode cX1_init 133 = .ok (.return_, 1) := dk_177 (dk_at dksX1_init_5 18 rfl rfl)
abbrev cX1_recall : ByteArray := prog_1_method_45_code
def yX1_recall : MethodName := ⟨RX1, "recall", "()I"⟩
def dkwX1_recall_4 : List UInt8 := [181, 1, 204, 167, 255, 230, 28, 153, 0, 7, 27, 167, 0, 4, 3, 172]
abbrev dktX1_recall_4 : List UInt8 := dkwX1_recall_4 ++ []
def dkwX1_recall_3 : List UInt8 := [45, 185, 0, 195, 1, 0, 153, 0, 23, 45, 185, 0, 201, 1, 0, 192, 0, 112, 58, 4, 25, 4, 3]
abbrev dktX1_recall_3 : List UInt8 := dkwX1_recall_3 ++ dktX1_recall_4
def dkwX1_recall_2 : List UInt8 := [180, 0, 40, 27, 182, 0, 182, 87, 42, 180, 0, 53, 3, 181, 1, 233, 42, 180, 0, 25, 182, 0, 191, 78]
abbrev dktX1_recall_2 : List UInt8 := dkwX1_recall_2 ++ dktX1_recall_3
def dkwX1_recall_1 : List UInt8 := [167, 0, 4, 3, 61, 42, 180, 0, 53, 180, 1, 203, 28, 153, 0, 10, 42, 180, 0, 47, 167, 0, 7, 42]
abbrev dktX1_recall_1 : List UInt8 := dkwX1_recall_1 ++ dktX1_recall_2
def dkwX1_recall_0 : List UInt8 := [42, 180, 0, 53, 180, 1, 203, 182, 1, 1, 60, 42, 180, 0, 53, 180, 1, 233, 5, 161, 0, 7, 4]
abbrev dktX1_recall_0 : List UInt8 := dkwX1_recall_0 ++ dktX1_recall_1
theorem dksX1_recall_0 : cX1_recall.data.toList.drop 0 = dktX1_recall_0 := by decide +kernel
theorem dksX1_recall_1 : cX1_recall.data.toList.drop 23 = dktX1_recall_1 := dk_seg dksX1_recall_0 23 rfl rfl
theorem dksX1_recall_2 : cX1_recall.data.toList.drop 47 = dktX1_recall_2 := dk_seg dksX1_recall_1 24 rfl rfl
theorem dksX1_recall_3 : cX1_recall.data.toList.drop 71 = dktX1_recall_3 := dk_seg dksX1_recall_2 24 rfl rfl
theorem dksX1_recall_4 : cX1_recall.data.toList.drop 94 = dktX1_recall_4 := dk_seg dksX1_recall_3 23 rfl rfl
theorem dX1_recall_0 : decode cX1_recall 0 = .ok (.aload_n 0, 1) := dk_42 (dk_at dksX1_recall_0 0 rfl rfl)
theorem dX1_recall_1 : decode cX1_recall 1 = .ok (.getfield 53, 3) := dk_180 0 53 (dk_at dksX1_recall_0 1 rfl rfl)
theorem dX1_recall_4 : decode cX1_recall 4 = .ok (.getfield 459, 3) := dk_180 1 203 (dk_at dksX1_recall_0 4 rfl rfl)
theorem dX1_recall_7 : decode cX1_recall 7 = .ok (.invokevirtual 257, 3) := dk_182 1 1 (dk_at dksX1_recall_0 7 rfl rfl)
theorem dX1_recall_10 : decode cX1_recall 10 = .ok (.istore_n 1, 1) := dk_60 (dk_at dksX1_recall_0 10 rfl rfl)
theorem dX1_recall_11 : decode cX1_recall 11 = .ok (.aload_n 0, 1) := dk_42 (dk_at dksX1_recall_0 11 rfl rfl)
theorem dX1_recall_12 : decode cX1_recall 12 = .ok (.getfield 53, 3) := dk_180 0 53 (dk_at dksX1_recall_0 12 rfl rfl)
theorem dX1_recall_15 : decode cX1_recall 15 = .ok (.getfield 489, 3) := dk_180 1 233 (dk_at dksX1_recall_0 15 rfl rfl)
theorem dX1_recall_18 : decode cX1_recall 18 = .ok (.iconst 2, 1) := dk_5 (dk_at dksX1_recall_0 18 rfl rfl)
theorem dX1_recall_19 : decode cX1_recall 19 = .ok (.if_icmp .lt 7, 3) := dk_161 0 7 (dk_at dksX1_recall_0 19 rfl rfl)
theorem dX1_recall_22 : decode cX1_recall 22 = .ok (.iconst 1, 1) := dk_4 (dk_at dksX1_recall_0 22 rfl rfl)
theorem dX1_recall_23 : decode cX1_recall 23 = .ok (.goto 4, 3) := dk_167 0 4 (dk_at dksX1_recall_1 0 rfl rfl)
theorem dX1_recall_26 : decode cX1_recall 26 = .ok (.iconst 0, 1) := dk_3 (dk_at dksX1_recall_1 3 rfl rfl)
theorem dX1_recall_27 : decode cX1_recall 27 = .ok (.istore_n 2, 1) := dk_61 (dk_at dksX1_recall_1 4 rfl rfl)
theorem dX1_recall_28 : decode cX1_recall 28 = .ok (.aload_n 0, 1) := dk_42 (dk_at dksX1_recall_1 5 rfl rfl)
theorem dX1_recall_29 : decode cX1_recall 29 = .ok (.getfield 53, 3) := dk_180 0 53 (dk_at dksX1_recall_1 6 rfl rfl)
theorem dX1_recall_32 : decode cX1_recall 32 = .ok (.getfield 459, 3) := dk_180 1 203 (dk_at dksX1_recall_1 9 rfl rfl)
theorem dX1_recall_35 : decode cX1_recall 35 = .ok (.iload_n 2, 1) := dk_28 (dk_at dksX1_recall_1 12 rfl rfl)
theorem dX1_recall_36 : decode cX1_recall 36 = .ok (.ifCond .eq 10, 3) := dk_153 0 10 (dk_at dksX1_recall_1 13 rfl rfl)
theorem dX1_recall_39 : decode cX1_recall 39 = .ok (.aload_n 0, 1) := dk_42 (dk_at dksX1_recall_1 16 rfl rfl)
theorem dX1_recall_40 : decode cX1_recall 40 = .ok (.getfield 47, 3) := dk_180 0 47 (dk_at dksX1_recall_1 17 rfl rfl)
theorem dX1_recall_43 : decode cX1_recall 43 = .ok (.goto 7, 3) := dk_167 0 7 (dk_at dksX1_recall_1 20 rfl rfl)
theorem dX1_recall_46 : decode cX1_recall 46 = .ok (.aload_n 0, 1) := dk_42 (dk_at dksX1_recall_1 23 rfl rfl)
theorem dX1_recall_47 : decode cX1_recall 47 = .ok (.getfield 40, 3) := dk_180 0 40 (dk_at dksX1_recall_2 0 rfl rfl)
theorem dX1_recall_50 : decode cX1_recall 50 = .ok (.iload_n 1, 1) := dk_27 (dk_at dksX1_recall_2 3 rfl rfl)
theorem dX1_recall_51 : decode cX1_recall 51 = .ok (.invokevirtual 182, 3) := dk_182 0 182 (dk_at dksX1_recall_2 4 rfl rfl)
theorem dX1_recall_54 : decode cX1_recall 54 = .ok (.pop, 1) := dk_87 (dk_at dksX1_recall_2 7 rfl rfl)
theorem dX1_recall_55 : decode cX1_recall 55 = .ok (.aload_n 0, 1) := dk_42 (dk_at dksX1_recall_2 8 rfl rfl)
theorem dX1_recall_56 : decode cX1_recall 56 = .ok (.getfield 53, 3) := dk_180 0 53 (dk_at dksX1_recall_2 9 rfl rfl)
theorem dX1_recall_59 : decode cX1_recall 59 = .ok (.iconst 0, 1) := dk_3 (dk_at dksX1_recall_2 12 rfl rfl)
theorem dX1_recall_60 : decode cX1_recall 60 = .ok (.putfield 489, 3) := dk_181 1 233 (dk_at dksX1_recall_2 13 rfl rfl)
theorem dX1_recall_63 : decode cX1_recall 63 = .ok (.aload_n 0, 1) := dk_42 (dk_at dksX1_recall_2 16 rfl rfl)
theorem dX1_recall_64 : decode cX1_recall 64 = .ok (.getfield 25, 3) := dk_180 0 25 (dk_at dksX1_recall_2 17 rfl rfl)
theorem dX1_recall_67 : decode cX1_recall 67 = .ok (.invokevirtual 191, 3) := dk_182 0 191 (dk_at dksX1_recall_2 20 rfl rfl)
theorem dX1_recall_70 : decode cX1_recall 70 = .ok (.astore_n 3, 1) := dk_78 (dk_at dksX1_recall_2 23 rfl rfl)
theorem dX1_recall_71 : decode cX1_recall 71 = .ok (.aload_n 3, 1) := dk_45 (dk_at dksX1_recall_3 0 rfl rfl)
theorem dX1_recall_72 : decode cX1_recall 72 = .ok (.invokeinterface 195 1, 5) := by decide +kernel
theorem dX1_recall_77 : decode cX1_recall 77 = .ok (.ifCond .eq 23, 3) := dk_153 0 23 (dk_at dksX1_recall_3 6 rfl rfl)
theorem dX1_recall_80 : decode cX1_recall 80 = .ok (.aload_n 3, 1) := dk_45 (dk_at dksX1_recall_3 9 rfl rfl)
theorem dX1_recall_81 : decode cX1_recall 81 = .ok (.invokeinterface 201 1, 5) := by decide +kernel
theorem dX1_recall_86 : decode cX1_recall 86 = .ok (.checkcast 112, 3) := dk_192 0 112 (dk_at dksX1_recall_3 15 rfl rfl)
theorem dX1_recall_89 : decode cX1_recall 89 = .ok (.astore 4, 2) := dk_58 4 (dk_at dksX1_recall_3 18 rfl rfl)
theorem dX1_recall_91 : decode cX1_recall 91 = .ok (.aload 4, 2) := dk_25 4 (dk_at dksX1_recall_3 20 rfl rfl)
theorem dX1_recall_93 : decode cX1_recall 93 = .ok (.iconst 0, 1) := dk_3 (dk_at dksX1_recall_3 22 rfl rfl)
theorem dX1_recall_94 : decode cX1_recall 94 = .ok (.putfield 460, 3) := dk_181 1 204 (dk_at dksX1_recall_4 0 rfl rfl)
theorem dX1_recall_97 : decode cX1_recall 97 = .ok (.goto (-26), 3) := dk_167 255 230 (dk_at dksX1_recall_4 3 rfl rfl)
theorem dX1_recall_100 : decode cX1_recall 100 = .ok (.iload_n 2, 1) := dk_28 (dk_at dksX1_recall_4 6 rfl rfl)
theorem dX1_recall_101 : decode cX1_recall 101 = .ok (.ifCond .eq 7, 3) := dk_153 0 7 (dk_at dksX1_recall_4 7 rfl rfl)
theorem dX1_recall_104 : decode cX1_recall 104 = .ok (.iload_n 1, 1) := dk_27 (dk_at dksX1_recall_4 10 rfl rfl)
theorem dX1_recall_105 : decode cX1_recall 105 = .ok (.goto 4, 3) := dk_167 0 4 (dk_at dksX1_recall_4 11 rfl rfl)
theorem dX1_recall_108 : decode cX1_recall 108 = .ok (.iconst 0, 1) := dk_3 (dk_at dksX1_recall_4 14 rfl rfl)
theorem dX1_recall_109 : decode cX1_recall 109 = .ok (.ireturn, 1) := dk_172 (dk_at dksX1_recall_4 15 rfl rfl)
abbrev cX1_call : ByteArray := prog_1_method_54_code
def yX1_call : MethodName := ⟨RX1, "call", "()I"⟩
def dkwX1_call_0 : List UInt8 := [42, 180, 0, 60, 182, 2, 52, 172]
abbrev dktX1_call_0 : List UInt8 := dkwX1_call_0 ++ []
theorem dksX1_call_0 : cX1_call.data.toList.drop 0 = dktX1_call_0 := by decide +kernel
theorem dX1_call_0 : decode cX1_call 0 = .ok (.aload_n 0, 1) := dk_42 (dk_at dksX1_call_0 0 rfl rfl)
theorem dX1_call_1 : decode cX1_call 1 = .ok (.getfield 60, 3) := dk_180 0 60 (dk_at dksX1_call_0 1 rfl rfl)
theorem dX1_call_4 : decode cX1_call 4 = .ok (.invokevirtual 564, 3) := dk_182 2 52 (dk_at dksX1_call_0 4 rfl rfl)
theorem dX1_call_7 : decode cX1_call 7 = .ok (.ireturn, 1) := dk_172 (dk_at dksX1_call_0 7 rfl rfl)
abbrev cX1_isSound : ByteArray := prog_1_method_85_code
def yX1_isSound : MethodName := ⟨RX1, "isSound", "()Z"⟩
theorem dX1_isSound_0 : decode cX1_isSound 0 = .ok (.aload_n 0, 1) := by decide +kernel
theorem dX1_isSound_1 : decode cX1_isSound 1 = .ok (.invokevirtual 670, 3) := by decide +kernel
theorem dX1_isSound_4 : decode cX1_isSound 4 = .ok (.ireturn, 1) := by decide +kernel
abbrev cX1_isWhole : ByteArray := prog_1_method_84_code
def yX1_isWhole : MethodName := ⟨RX1, "isWhole", "()Z"⟩
def dkwX1_isWhole_12 : List UInt8 := [154, 0, 7, 4, 167, 0, 4, 3, 172]
abbrev dktX1_isWhole_12 : List UInt8 := dkwX1_isWhole_12 ++ []
def dkwX1_isWhole_11 : List UInt8 := [192, 0, 112, 180, 1, 30, 154, 0, 7, 4, 167, 0, 4, 3, 126, 61, 167, 255, 186, 28, 153, 0, 11, 27]
abbrev dktX1_isWhole_11 : List UInt8 := dkwX1_isWhole_11 ++ dktX1_isWhole_12
def dkwX1_isWhole_10 : List UInt8 := [25, 4, 182, 1, 11, 154, 0, 32, 25, 4, 182, 1, 116, 153, 0, 20, 25, 4, 180, 1, 65, 182, 1, 73]
abbrev dktX1_isWhole_10 : List UInt8 := dkwX1_isWhole_10 ++ dktX1_isWhole_11
def dkwX1_isWhole_9 : List UInt8 := [153, 0, 67, 45, 185, 0, 201, 1, 0, 192, 0, 116, 58, 4, 28, 25, 4, 182, 2, 155, 153, 0, 12, 42]
abbrev dktX1_isWhole_9 : List UInt8 := dkwX1_isWhole_9 ++ dktX1_isWhole_10
def dkwX1_isWhole_8 : List UInt8 := [167, 0, 4, 3, 126, 61, 167, 255, 193, 42, 180, 0, 28, 182, 0, 191, 78, 45, 185, 0, 195, 1, 0]
abbrev dktX1_isWhole_8 : List UInt8 := dkwX1_isWhole_8 ++ dktX1_isWhole_9
def dkwX1_isWhole_7 : List UInt8 := [180, 0, 242, 182, 1, 1, 155, 0, 20, 25, 4, 180, 1, 96, 25, 4, 180, 1, 145, 163, 0, 7, 4]
abbrev dktX1_isWhole_7 : List UInt8 := dkwX1_isWhole_7 ++ dktX1_isWhole_8
def dkwX1_isWhole_6 : List UInt8 := [185, 0, 201, 1, 0, 192, 0, 112, 58, 4, 27, 25, 4, 180, 0, 242, 182, 1, 1, 96, 60, 28, 25, 4]
abbrev dktX1_isWhole_6 : List UInt8 := dkwX1_isWhole_6 ++ dktX1_isWhole_7
def dkwX1_isWhole_5 : List UInt8 := [3, 126, 61, 167, 255, 206, 42, 180, 0, 25, 182, 0, 191, 78, 45, 185, 0, 195, 1, 0, 153, 0, 60, 45]
abbrev dktX1_isWhole_5 : List UInt8 := dkwX1_isWhole_5 ++ dktX1_isWhole_6
def dkwX1_isWhole_4 : List UInt8 := [180, 1, 197, 182, 1, 1, 96, 60, 28, 25, 4, 180, 1, 197, 182, 1, 1, 155, 0, 7, 4, 167, 0, 4]
abbrev dktX1_isWhole_4 : List UInt8 := dkwX1_isWhole_4 ++ dktX1_isWhole_5
def dkwX1_isWhole_3 : List UInt8 := [185, 0, 195, 1, 0, 153, 0, 47, 45, 185, 0, 201, 1, 0, 192, 0, 108, 58, 4, 27, 25, 4]
abbrev dktX1_isWhole_3 : List UInt8 := dkwX1_isWhole_3 ++ dktX1_isWhole_4
def dkwX1_isWhole_2 : List UInt8 := [182, 1, 1, 155, 0, 7, 4, 167, 0, 4, 3, 61, 42, 180, 0, 19, 182, 0, 191, 78, 45]
abbrev dktX1_isWhole_2 : List UInt8 := dkwX1_isWhole_2 ++ dktX1_isWhole_3
def dkwX1_isWhole_1 : List UInt8 := [182, 1, 1, 96, 60, 42, 180, 0, 47, 182, 1, 1, 155, 0, 20, 42, 180, 0, 53, 180, 1, 203]
abbrev dktX1_isWhole_1 : List UInt8 := dkwX1_isWhole_1 ++ dktX1_isWhole_2
def dkwX1_isWhole_0 : List UInt8 := [42, 180, 0, 40, 182, 1, 1, 42, 180, 0, 47, 182, 1, 1, 96, 42, 180, 0, 53, 180, 1, 203]
abbrev dktX1_isWhole_0 : List UInt8 := dkwX1_isWhole_0 ++ dktX1_isWhole_1
theorem dksX1_isWhole_0 : cX1_isWhole.data.toList.drop 0 = dktX1_isWhole_0 := by decide +kernel
theorem dksX1_isWhole_1 : cX1_isWhole.data.toList.drop 22 = dktX1_isWhole_1 := dk_seg dksX1_isWhole_0 22 rfl rfl
theorem dksX1_isWhole_2 : cX1_isWhole.data.toList.drop 44 = dktX1_isWhole_2 := dk_seg dksX1_isWhole_1 22 rfl rfl
theorem dksX1_isWhole_3 : cX1_isWhole.data.toList.drop 65 = dktX1_isWhole_3 := dk_seg dksX1_isWhole_2 21 rfl rfl
theorem dksX1_isWhole_4 : cX1_isWhole.data.toList.drop 87 = dktX1_isWhole_4 := dk_seg dksX1_isWhole_3 22 rfl rfl
theorem dksX1_isWhole_5 : cX1_isWhole.data.toList.drop 111 = dktX1_isWhole_5 := dk_seg dksX1_isWhole_4 24 rfl rfl
theorem dksX1_isWhole_6 : cX1_isWhole.data.toList.drop 135 = dktX1_isWhole_6 := dk_seg dksX1_isWhole_5 24 rfl rfl
theorem dksX1_isWhole_7 : cX1_isWhole.data.toList.drop 159 = dktX1_isWhole_7 := dk_seg dksX1_isWhole_6 24 rfl rfl
theorem dksX1_isWhole_8 : cX1_isWhole.data.toList.drop 182 = dktX1_isWhole_8 := dk_seg dksX1_isWhole_7 23 rfl rfl
theorem dksX1_isWhole_9 : cX1_isWhole.data.toList.drop 205 = dktX1_isWhole_9 := dk_seg dksX1_isWhole_8 23 rfl rfl
theorem dksX1_isWhole_10 : cX1_isWhole.data.toList.drop 229 = dktX1_isWhole_10 := dk_seg dksX1_isWhole_9 24 rfl rfl
theorem dksX1_isWhole_11 : cX1_isWhole.data.toList.drop 253 = dktX1_isWhole_11 := dk_seg dksX1_isWhole_10 24 rfl rfl
theorem dksX1_isWhole_12 : cX1_isWhole.data.toList.drop 277 = dktX1_isWhole_12 := dk_seg dksX1_isWhole_11 24 rfl rfl
theorem dX1_isWhole_0 : decode cX1_isWhole 0 = .ok (.aload_n 0, 1) := dk_42 (dk_at dksX1_isWhole_0 0 rfl rfl)
theorem dX1_isWhole_1 : decode cX1_isWhole 1 = .ok (.getfield 40, 3) := dk_180 0 40 (dk_at dksX1_isWhole_0 1 rfl rfl)
theorem dX1_isWhole_4 : decode cX1_isWhole 4 = .ok (.invokevirtual 257, 3) := dk_182 1 1 (dk_at dksX1_isWhole_0 4 rfl rfl)
theorem dX1_isWhole_7 : decode cX1_isWhole 7 = .ok (.aload_n 0, 1) := dk_42 (dk_at dksX1_isWhole_0 7 rfl rfl)
theorem dX1_isWhole_8 : decode cX1_isWhole 8 = .ok (.getfield 47, 3) := dk_180 0 47 (dk_at dksX1_isWhole_0 8 rfl rfl)
theorem dX1_isWhole_11 : decode cX1_isWhole 11 = .ok (.invokevirtual 257, 3) := dk_182 1 1 (dk_at dksX1_isWhole_0 11 rfl rfl)
theorem dX1_isWhole_14 : decode cX1_isWhole 14 = .ok (.iadd, 1) := dk_96 (dk_at dksX1_isWhole_0 14 rfl rfl)
theorem dX1_isWhole_15 : decode cX1_isWhole 15 = .ok (.aload_n 0, 1) := dk_42 (dk_at dksX1_isWhole_0 15 rfl rfl)
theorem dX1_isWhole_16 : decode cX1_isWhole 16 = .ok (.getfield 53, 3) := dk_180 0 53 (dk_at dksX1_isWhole_0 16 rfl rfl)
theorem dX1_isWhole_19 : decode cX1_isWhole 19 = .ok (.getfield 459, 3) := dk_180 1 203 (dk_at dksX1_isWhole_0 19 rfl rfl)
theorem dX1_isWhole_22 : decode cX1_isWhole 22 = .ok (.invokevirtual 257, 3) := dk_182 1 1 (dk_at dksX1_isWhole_1 0 rfl rfl)
theorem dX1_isWhole_25 : decode cX1_isWhole 25 = .ok (.iadd, 1) := dk_96 (dk_at dksX1_isWhole_1 3 rfl rfl)
theorem dX1_isWhole_26 : decode cX1_isWhole 26 = .ok (.istore_n 1, 1) := dk_60 (dk_at dksX1_isWhole_1 4 rfl rfl)
theorem dX1_isWhole_27 : decode cX1_isWhole 27 = .ok (.aload_n 0, 1) := dk_42 (dk_at dksX1_isWhole_1 5 rfl rfl)
theorem dX1_isWhole_28 : decode cX1_isWhole 28 = .ok (.getfield 47, 3) := dk_180 0 47 (dk_at dksX1_isWhole_1 6 rfl rfl)
theorem dX1_isWhole_31 : decode cX1_isWhole 31 = .ok (.invokevirtual 257, 3) := dk_182 1 1 (dk_at dksX1_isWhole_1 9 rfl rfl)
theorem dX1_isWhole_34 : decode cX1_isWhole 34 = .ok (.ifCond .lt 20, 3) := dk_155 0 20 (dk_at dksX1_isWhole_1 12 rfl rfl)
theorem dX1_isWhole_37 : decode cX1_isWhole 37 = .ok (.aload_n 0, 1) := dk_42 (dk_at dksX1_isWhole_1 15 rfl rfl)
theorem dX1_isWhole_38 : decode cX1_isWhole 38 = .ok (.getfield 53, 3) := dk_180 0 53 (dk_at dksX1_isWhole_1 16 rfl rfl)
theorem dX1_isWhole_41 : decode cX1_isWhole 41 = .ok (.getfield 459, 3) := dk_180 1 203 (dk_at dksX1_isWhole_1 19 rfl rfl)
theorem dX1_isWhole_44 : decode cX1_isWhole 44 = .ok (.invokevirtual 257, 3) := dk_182 1 1 (dk_at dksX1_isWhole_2 0 rfl rfl)
theorem dX1_isWhole_47 : decode cX1_isWhole 47 = .ok (.ifCond .lt 7, 3) := dk_155 0 7 (dk_at dksX1_isWhole_2 3 rfl rfl)
theorem dX1_isWhole_50 : decode cX1_isWhole 50 = .ok (.iconst 1, 1) := dk_4 (dk_at dksX1_isWhole_2 6 rfl rfl)
theorem dX1_isWhole_51 : decode cX1_isWhole 51 = .ok (.goto 4, 3) := dk_167 0 4 (dk_at dksX1_isWhole_2 7 rfl rfl)
theorem dX1_isWhole_54 : decode cX1_isWhole 54 = .ok (.iconst 0, 1) := dk_3 (dk_at dksX1_isWhole_2 10 rfl rfl)
theorem dX1_isWhole_55 : decode cX1_isWhole 55 = .ok (.istore_n 2, 1) := dk_61 (dk_at dksX1_isWhole_2 11 rfl rfl)
theorem dX1_isWhole_56 : decode cX1_isWhole 56 = .ok (.aload_n 0, 1) := dk_42 (dk_at dksX1_isWhole_2 12 rfl rfl)
theorem dX1_isWhole_57 : decode cX1_isWhole 57 = .ok (.getfield 19, 3) := dk_180 0 19 (dk_at dksX1_isWhole_2 13 rfl rfl)
theorem dX1_isWhole_60 : decode cX1_isWhole 60 = .ok (.invokevirtual 191, 3) := dk_182 0 191 (dk_at dksX1_isWhole_2 16 rfl rfl)
theorem dX1_isWhole_63 : decode cX1_isWhole 63 = .ok (.astore_n 3, 1) := dk_78 (dk_at dksX1_isWhole_2 19 rfl rfl)
theorem dX1_isWhole_64 : decode cX1_isWhole 64 = .ok (.aload_n 3, 1) := dk_45 (dk_at dksX1_isWhole_2 20 rfl rfl)
theorem dX1_isWhole_65 : decode cX1_isWhole 65 = .ok (.invokeinterface 195 1, 5) := by decide +kernel
theorem dX1_isWhole_70 : decode cX1_isWhole 70 = .ok (.ifCond .eq 47, 3) := dk_153 0 47 (dk_at dksX1_isWhole_3 5 rfl rfl)
theorem dX1_isWhole_73 : decode cX1_isWhole 73 = .ok (.aload_n 3, 1) := dk_45 (dk_at dksX1_isWhole_3 8 rfl rfl)
theorem dX1_isWhole_74 : decode cX1_isWhole 74 = .ok (.invokeinterface 201 1, 5) := by decide +kernel
theorem dX1_isWhole_79 : decode cX1_isWhole 79 = .ok (.checkcast 108, 3) := dk_192 0 108 (dk_at dksX1_isWhole_3 14 rfl rfl)
theorem dX1_isWhole_82 : decode cX1_isWhole 82 = .ok (.astore 4, 2) := dk_58 4 (dk_at dksX1_isWhole_3 17 rfl rfl)
theorem dX1_isWhole_84 : decode cX1_isWhole 84 = .ok (.iload_n 1, 1) := dk_27 (dk_at dksX1_isWhole_3 19 rfl rfl)
theorem dX1_isWhole_85 : decode cX1_isWhole 85 = .ok (.aload 4, 2) := dk_25 4 (dk_at dksX1_isWhole_3 20 rfl rfl)
theorem dX1_isWhole_87 : decode cX1_isWhole 87 = .ok (.getfield 453, 3) := dk_180 1 197 (dk_at dksX1_isWhole_4 0 rfl rfl)
theorem dX1_isWhole_90 : decode cX1_isWhole 90 = .ok (.invokevirtual 257, 3) := dk_182 1 1 (dk_at dksX1_isWhole_4 3 rfl rfl)
theorem dX1_isWhole_93 : decode cX1_isWhole 93 = .ok (.iadd, 1) := dk_96 (dk_at dksX1_isWhole_4 6 rfl rfl)
theorem dX1_isWhole_94 : decode cX1_isWhole 94 = .ok (.istore_n 1, 1) := dk_60 (dk_at dksX1_isWhole_4 7 rfl rfl)
theorem dX1_isWhole_95 : decode cX1_isWhole 95 = .ok (.iload_n 2, 1) := dk_28 (dk_at dksX1_isWhole_4 8 rfl rfl)
theorem dX1_isWhole_96 : decode cX1_isWhole 96 = .ok (.aload 4, 2) := dk_25 4 (dk_at dksX1_isWhole_4 9 rfl rfl)
theorem dX1_isWhole_98 : decode cX1_isWhole 98 = .ok (.getfield 453, 3) := dk_180 1 197 (dk_at dksX1_isWhole_4 11 rfl rfl)
theorem dX1_isWhole_101 : decode cX1_isWhole 101 = .ok (.invokevirtual 257, 3) := dk_182 1 1 (dk_at dksX1_isWhole_4 14 rfl rfl)
theorem dX1_isWhole_104 : decode cX1_isWhole 104 = .ok (.ifCond .lt 7, 3) := dk_155 0 7 (dk_at dksX1_isWhole_4 17 rfl rfl)
theorem dX1_isWhole_107 : decode cX1_isWhole 107 = .ok (.iconst 1, 1) := dk_4 (dk_at dksX1_isWhole_4 20 rfl rfl)
theorem dX1_isWhole_108 : decode cX1_isWhole 108 = .ok (.goto 4, 3) := dk_167 0 4 (dk_at dksX1_isWhole_4 21 rfl rfl)
theorem dX1_isWhole_111 : decode cX1_isWhole 111 = .ok (.iconst 0, 1) := dk_3 (dk_at dksX1_isWhole_5 0 rfl rfl)
theorem dX1_isWhole_112 : decode cX1_isWhole 112 = .ok (.iand, 1) := dk_126 (dk_at dksX1_isWhole_5 1 rfl rfl)
theorem dX1_isWhole_113 : decode cX1_isWhole 113 = .ok (.istore_n 2, 1) := dk_61 (dk_at dksX1_isWhole_5 2 rfl rfl)
theorem dX1_isWhole_114 : decode cX1_isWhole 114 = .ok (.goto (-50), 3) := dk_167 255 206 (dk_at dksX1_isWhole_5 3 rfl rfl)
theorem dX1_isWhole_117 : decode cX1_isWhole 117 = .ok (.aload_n 0, 1) := dk_42 (dk_at dksX1_isWhole_5 6 rfl rfl)
theorem dX1_isWhole_118 : decode cX1_isWhole 118 = .ok (.getfield 25, 3) := dk_180 0 25 (dk_at dksX1_isWhole_5 7 rfl rfl)
theorem dX1_isWhole_121 : decode cX1_isWhole 121 = .ok (.invokevirtual 191, 3) := dk_182 0 191 (dk_at dksX1_isWhole_5 10 rfl rfl)
theorem dX1_isWhole_124 : decode cX1_isWhole 124 = .ok (.astore_n 3, 1) := dk_78 (dk_at dksX1_isWhole_5 13 rfl rfl)
theorem dX1_isWhole_125 : decode cX1_isWhole 125 = .ok (.aload_n 3, 1) := dk_45 (dk_at dksX1_isWhole_5 14 rfl rfl)
theorem dX1_isWhole_126 : decode cX1_isWhole 126 = .ok (.invokeinterface 195 1, 5) := by decide +kernel
theorem dX1_isWhole_131 : decode cX1_isWhole 131 = .ok (.ifCond .eq 60, 3) := dk_153 0 60 (dk_at dksX1_isWhole_5 20 rfl rfl)
theorem dX1_isWhole_134 : decode cX1_isWhole 134 = .ok (.aload_n 3, 1) := dk_45 (dk_at dksX1_isWhole_5 23 rfl rfl)
theorem dX1_isWhole_135 : decode cX1_isWhole 135 = .ok (.invokeinterface 201 1, 5) := by decide +kernel
theorem dX1_isWhole_140 : decode cX1_isWhole 140 = .ok (.checkcast 112, 3) := dk_192 0 112 (dk_at dksX1_isWhole_6 5 rfl rfl)
theorem dX1_isWhole_143 : decode cX1_isWhole 143 = .ok (.astore 4, 2) := dk_58 4 (dk_at dksX1_isWhole_6 8 rfl rfl)
theorem dX1_isWhole_145 : decode cX1_isWhole 145 = .ok (.iload_n 1, 1) := dk_27 (dk_at dksX1_isWhole_6 10 rfl rfl)
theorem dX1_isWhole_146 : decode cX1_isWhole 146 = .ok (.aload 4, 2) := dk_25 4 (dk_at dksX1_isWhole_6 11 rfl rfl)
theorem dX1_isWhole_148 : decode cX1_isWhole 148 = .ok (.getfield 242, 3) := dk_180 0 242 (dk_at dksX1_isWhole_6 13 rfl rfl)
theorem dX1_isWhole_151 : decode cX1_isWhole 151 = .ok (.invokevirtual 257, 3) := dk_182 1 1 (dk_at dksX1_isWhole_6 16 rfl rfl)
theorem dX1_isWhole_154 : decode cX1_isWhole 154 = .ok (.iadd, 1) := dk_96 (dk_at dksX1_isWhole_6 19 rfl rfl)
theorem dX1_isWhole_155 : decode cX1_isWhole 155 = .ok (.istore_n 1, 1) := dk_60 (dk_at dksX1_isWhole_6 20 rfl rfl)
theorem dX1_isWhole_156 : decode cX1_isWhole 156 = .ok (.iload_n 2, 1) := dk_28 (dk_at dksX1_isWhole_6 21 rfl rfl)
theorem dX1_isWhole_157 : decode cX1_isWhole 157 = .ok (.aload 4, 2) := dk_25 4 (dk_at dksX1_isWhole_6 22 rfl rfl)
theorem dX1_isWhole_159 : decode cX1_isWhole 159 = .ok (.getfield 242, 3) := dk_180 0 242 (dk_at dksX1_isWhole_7 0 rfl rfl)
theorem dX1_isWhole_162 : decode cX1_isWhole 162 = .ok (.invokevirtual 257, 3) := dk_182 1 1 (dk_at dksX1_isWhole_7 3 rfl rfl)
theorem dX1_isWhole_165 : decode cX1_isWhole 165 = .ok (.ifCond .lt 20, 3) := dk_155 0 20 (dk_at dksX1_isWhole_7 6 rfl rfl)
theorem dX1_isWhole_168 : decode cX1_isWhole 168 = .ok (.aload 4, 2) := dk_25 4 (dk_at dksX1_isWhole_7 9 rfl rfl)
theorem dX1_isWhole_170 : decode cX1_isWhole 170 = .ok (.getfield 352, 3) := dk_180 1 96 (dk_at dksX1_isWhole_7 11 rfl rfl)
theorem dX1_isWhole_173 : decode cX1_isWhole 173 = .ok (.aload 4, 2) := dk_25 4 (dk_at dksX1_isWhole_7 14 rfl rfl)
theorem dX1_isWhole_175 : decode cX1_isWhole 175 = .ok (.getfield 401, 3) := dk_180 1 145 (dk_at dksX1_isWhole_7 16 rfl rfl)
theorem dX1_isWhole_178 : decode cX1_isWhole 178 = .ok (.if_icmp .gt 7, 3) := dk_163 0 7 (dk_at dksX1_isWhole_7 19 rfl rfl)
theorem dX1_isWhole_181 : decode cX1_isWhole 181 = .ok (.iconst 1, 1) := dk_4 (dk_at dksX1_isWhole_7 22 rfl rfl)
theorem dX1_isWhole_182 : decode cX1_isWhole 182 = .ok (.goto 4, 3) := dk_167 0 4 (dk_at dksX1_isWhole_8 0 rfl rfl)
theorem dX1_isWhole_185 : decode cX1_isWhole 185 = .ok (.iconst 0, 1) := dk_3 (dk_at dksX1_isWhole_8 3 rfl rfl)
theorem dX1_isWhole_186 : decode cX1_isWhole 186 = .ok (.iand, 1) := dk_126 (dk_at dksX1_isWhole_8 4 rfl rfl)
theorem dX1_isWhole_187 : decode cX1_isWhole 187 = .ok (.istore_n 2, 1) := dk_61 (dk_at dksX1_isWhole_8 5 rfl rfl)
theorem dX1_isWhole_188 : decode cX1_isWhole 188 = .ok (.goto (-63), 3) := dk_167 255 193 (dk_at dksX1_isWhole_8 6 rfl rfl)
theorem dX1_isWhole_191 : decode cX1_isWhole 191 = .ok (.aload_n 0, 1) := dk_42 (dk_at dksX1_isWhole_8 9 rfl rfl)
theorem dX1_isWhole_192 : decode cX1_isWhole 192 = .ok (.getfield 28, 3) := dk_180 0 28 (dk_at dksX1_isWhole_8 10 rfl rfl)
theorem dX1_isWhole_195 : decode cX1_isWhole 195 = .ok (.invokevirtual 191, 3) := dk_182 0 191 (dk_at dksX1_isWhole_8 13 rfl rfl)
theorem dX1_isWhole_198 : decode cX1_isWhole 198 = .ok (.astore_n 3, 1) := dk_78 (dk_at dksX1_isWhole_8 16 rfl rfl)
theorem dX1_isWhole_199 : decode cX1_isWhole 199 = .ok (.aload_n 3, 1) := dk_45 (dk_at dksX1_isWhole_8 17 rfl rfl)
theorem dX1_isWhole_200 : decode cX1_isWhole 200 = .ok (.invokeinterface 195 1, 5) := by decide +kernel
theorem dX1_isWhole_205 : decode cX1_isWhole 205 = .ok (.ifCond .eq 67, 3) := dk_153 0 67 (dk_at dksX1_isWhole_9 0 rfl rfl)
theorem dX1_isWhole_208 : decode cX1_isWhole 208 = .ok (.aload_n 3, 1) := dk_45 (dk_at dksX1_isWhole_9 3 rfl rfl)
theorem dX1_isWhole_209 : decode cX1_isWhole 209 = .ok (.invokeinterface 201 1, 5) := by decide +kernel
theorem dX1_isWhole_214 : decode cX1_isWhole 214 = .ok (.checkcast 116, 3) := dk_192 0 116 (dk_at dksX1_isWhole_9 9 rfl rfl)
theorem dX1_isWhole_217 : decode cX1_isWhole 217 = .ok (.astore 4, 2) := dk_58 4 (dk_at dksX1_isWhole_9 12 rfl rfl)
theorem dX1_isWhole_219 : decode cX1_isWhole 219 = .ok (.iload_n 2, 1) := dk_28 (dk_at dksX1_isWhole_9 14 rfl rfl)
theorem dX1_isWhole_220 : decode cX1_isWhole 220 = .ok (.aload 4, 2) := dk_25 4 (dk_at dksX1_isWhole_9 15 rfl rfl)
theorem dX1_isWhole_222 : decode cX1_isWhole 222 = .ok (.invokevirtual 667, 3) := dk_182 2 155 (dk_at dksX1_isWhole_9 17 rfl rfl)
theorem dX1_isWhole_225 : decode cX1_isWhole 225 = .ok (.ifCond .eq 12, 3) := dk_153 0 12 (dk_at dksX1_isWhole_9 20 rfl rfl)
theorem dX1_isWhole_228 : decode cX1_isWhole 228 = .ok (.aload_n 0, 1) := dk_42 (dk_at dksX1_isWhole_9 23 rfl rfl)
theorem dX1_isWhole_229 : decode cX1_isWhole 229 = .ok (.aload 4, 2) := dk_25 4 (dk_at dksX1_isWhole_10 0 rfl rfl)
theorem dX1_isWhole_231 : decode cX1_isWhole 231 = .ok (.invokevirtual 267, 3) := dk_182 1 11 (dk_at dksX1_isWhole_10 2 rfl rfl)
theorem dX1_isWhole_234 : decode cX1_isWhole 234 = .ok (.ifCond .ne 32, 3) := dk_154 0 32 (dk_at dksX1_isWhole_10 5 rfl rfl)
theorem dX1_isWhole_237 : decode cX1_isWhole 237 = .ok (.aload 4, 2) := dk_25 4 (dk_at dksX1_isWhole_10 8 rfl rfl)
theorem dX1_isWhole_239 : decode cX1_isWhole 239 = .ok (.invokevirtual 372, 3) := dk_182 1 116 (dk_at dksX1_isWhole_10 10 rfl rfl)
theorem dX1_isWhole_242 : decode cX1_isWhole 242 = .ok (.ifCond .eq 20, 3) := dk_153 0 20 (dk_at dksX1_isWhole_10 13 rfl rfl)
theorem dX1_isWhole_245 : decode cX1_isWhole 245 = .ok (.aload 4, 2) := dk_25 4 (dk_at dksX1_isWhole_10 16 rfl rfl)
theorem dX1_isWhole_247 : decode cX1_isWhole 247 = .ok (.getfield 321, 3) := dk_180 1 65 (dk_at dksX1_isWhole_10 18 rfl rfl)
theorem dX1_isWhole_250 : decode cX1_isWhole 250 = .ok (.invokevirtual 329, 3) := dk_182 1 73 (dk_at dksX1_isWhole_10 21 rfl rfl)
theorem dX1_isWhole_253 : decode cX1_isWhole 253 = .ok (.checkcast 112, 3) := dk_192 0 112 (dk_at dksX1_isWhole_11 0 rfl rfl)
theorem dX1_isWhole_256 : decode cX1_isWhole 256 = .ok (.getfield 286, 3) := dk_180 1 30 (dk_at dksX1_isWhole_11 3 rfl rfl)
theorem dX1_isWhole_259 : decode cX1_isWhole 259 = .ok (.ifCond .ne 7, 3) := dk_154 0 7 (dk_at dksX1_isWhole_11 6 rfl rfl)
theorem dX1_isWhole_262 : decode cX1_isWhole 262 = .ok (.iconst 1, 1) := dk_4 (dk_at dksX1_isWhole_11 9 rfl rfl)
theorem dX1_isWhole_263 : decode cX1_isWhole 263 = .ok (.goto 4, 3) := dk_167 0 4 (dk_at dksX1_isWhole_11 10 rfl rfl)
theorem dX1_isWhole_266 : decode cX1_isWhole 266 = .ok (.iconst 0, 1) := dk_3 (dk_at dksX1_isWhole_11 13 rfl rfl)
theorem dX1_isWhole_267 : decode cX1_isWhole 267 = .ok (.iand, 1) := dk_126 (dk_at dksX1_isWhole_11 14 rfl rfl)
theorem dX1_isWhole_268 : decode cX1_isWhole 268 = .ok (.istore_n 2, 1) := dk_61 (dk_at dksX1_isWhole_11 15 rfl rfl)
theorem dX1_isWhole_269 : decode cX1_isWhole 269 = .ok (.goto (-70), 3) := dk_167 255 186 (dk_at dksX1_isWhole_11 16 rfl rfl)
theorem dX1_isWhole_272 : decode cX1_isWhole 272 = .ok (.iload_n 2, 1) := dk_28 (dk_at dksX1_isWhole_11 19 rfl rfl)
theorem dX1_isWhole_273 : decode cX1_isWhole 273 = .ok (.ifCond .eq 11, 3) := dk_153 0 11 (dk_at dksX1_isWhole_11 20 rfl rfl)
theorem dX1_isWhole_276 : decode cX1_isWhole 276 = .ok (.iload_n 1, 1) := dk_27 (dk_at dksX1_isWhole_11 23 rfl rfl)
theorem dX1_isWhole_277 : decode cX1_isWhole 277 = .ok (.ifCond .ne 7, 3) := dk_154 0 7 (dk_at dksX1_isWhole_12 0 rfl rfl)
theorem dX1_isWhole_280 : decode cX1_isWhole 280 = .ok (.iconst 1, 1) := dk_4 (dk_at dksX1_isWhole_12 3 rfl rfl)
theorem dX1_isWhole_281 : decode cX1_isWhole 281 = .ok (.goto 4, 3) := dk_167 0 4 (dk_at dksX1_isWhole_12 4 rfl rfl)
theorem dX1_isWhole_284 : decode cX1_isWhole 284 = .ok (.iconst 0, 1) := dk_3 (dk_at dksX1_isWhole_12 7 rfl rfl)
theorem dX1_isWhole_285 : decode cX1_isWhole 285 = .ok (.ireturn, 1) := dk_172 (dk_at dksX1_isWhole_12 8 rfl rfl)
abbrev cX1_clashes : ByteArray := prog_1_method_28_code
def yX1_clashes : MethodName := ⟨RX1, "clashes", "(LPublicanry$Lot;)Z"⟩
def dkwX1_clashes_1 : List UInt8 := [192, 0, 116, 78, 45, 43, 165, 0, 13, 45, 43, 182, 1, 16, 153, 0, 5, 4, 172, 167, 255, 222, 3, 172]
abbrev dktX1_clashes_1 : List UInt8 := dkwX1_clashes_1 ++ []
def dkwX1_clashes_0 : List UInt8 := [42, 180, 0, 28, 182, 0, 191, 77, 44, 185, 0, 195, 1, 0, 153, 0, 31, 44, 185, 0, 201, 1, 0]
abbrev dktX1_clashes_0 : List UInt8 := dkwX1_clashes_0 ++ dktX1_clashes_1
theorem dksX1_clashes_0 : cX1_clashes.data.toList.drop 0 = dktX1_clashes_0 := by decide +kernel
theorem dksX1_clashes_1 : cX1_clashes.data.toList.drop 23 = dktX1_clashes_1 := dk_seg dksX1_clashes_0 23 rfl rfl
theorem dX1_clashes_0 : decode cX1_clashes 0 = .ok (.aload_n 0, 1) := dk_42 (dk_at dksX1_clashes_0 0 rfl rfl)
theorem dX1_clashes_1 : decode cX1_clashes 1 = .ok (.getfield 28, 3) := dk_180 0 28 (dk_at dksX1_clashes_0 1 rfl rfl)
theorem dX1_clashes_4 : decode cX1_clashes 4 = .ok (.invokevirtual 191, 3) := dk_182 0 191 (dk_at dksX1_clashes_0 4 rfl rfl)
theorem dX1_clashes_7 : decode cX1_clashes 7 = .ok (.astore_n 2, 1) := dk_77 (dk_at dksX1_clashes_0 7 rfl rfl)
theorem dX1_clashes_8 : decode cX1_clashes 8 = .ok (.aload_n 2, 1) := dk_44 (dk_at dksX1_clashes_0 8 rfl rfl)
theorem dX1_clashes_9 : decode cX1_clashes 9 = .ok (.invokeinterface 195 1, 5) := by decide +kernel
theorem dX1_clashes_14 : decode cX1_clashes 14 = .ok (.ifCond .eq 31, 3) := dk_153 0 31 (dk_at dksX1_clashes_0 14 rfl rfl)
theorem dX1_clashes_17 : decode cX1_clashes 17 = .ok (.aload_n 2, 1) := dk_44 (dk_at dksX1_clashes_0 17 rfl rfl)
theorem dX1_clashes_18 : decode cX1_clashes 18 = .ok (.invokeinterface 201 1, 5) := by decide +kernel
theorem dX1_clashes_23 : decode cX1_clashes 23 = .ok (.checkcast 116, 3) := dk_192 0 116 (dk_at dksX1_clashes_1 0 rfl rfl)
theorem dX1_clashes_26 : decode cX1_clashes 26 = .ok (.astore_n 3, 1) := dk_78 (dk_at dksX1_clashes_1 3 rfl rfl)
theorem dX1_clashes_27 : decode cX1_clashes 27 = .ok (.aload_n 3, 1) := dk_45 (dk_at dksX1_clashes_1 4 rfl rfl)
theorem dX1_clashes_28 : decode cX1_clashes 28 = .ok (.aload_n 1, 1) := dk_43 (dk_at dksX1_clashes_1 5 rfl rfl)
theorem dX1_clashes_29 : decode cX1_clashes 29 = .ok (.if_acmp .eq 13, 3) := dk_165 0 13 (dk_at dksX1_clashes_1 6 rfl rfl)
theorem dX1_clashes_32 : decode cX1_clashes 32 = .ok (.aload_n 3, 1) := dk_45 (dk_at dksX1_clashes_1 9 rfl rfl)
theorem dX1_clashes_33 : decode cX1_clashes 33 = .ok (.aload_n 1, 1) := dk_43 (dk_at dksX1_clashes_1 10 rfl rfl)
theorem dX1_clashes_34 : decode cX1_clashes 34 = .ok (.invokevirtual 272, 3) := dk_182 1 16 (dk_at dksX1_clashes_1 11 rfl rfl)
theorem dX1_clashes_37 : decode cX1_clashes 37 = .ok (.ifCond .eq 5, 3) := dk_153 0 5 (dk_at dksX1_clashes_1 14 rfl rfl)
theorem dX1_clashes_40 : decode cX1_clashes 40 = .ok (.iconst 1, 1) := dk_4 (dk_at dksX1_clashes_1 17 rfl rfl)
theorem dX1_clashes_41 : decode cX1_clashes 41 = .ok (.ireturn, 1) := dk_172 (dk_at dksX1_clashes_1 18 rfl rfl)
theorem dX1_clashes_42 : decode cX1_clashes 42 = .ok (.goto (-34), 3) := dk_167 255 222 (dk_at dksX1_clashes_1 19 rfl rfl)
theorem dX1_clashes_45 : decode cX1_clashes 45 = .ok (.iconst 0, 1) := dk_3 (dk_at dksX1_clashes_1 22 rfl rfl)
theorem dX1_clashes_46 : decode cX1_clashes 46 = .ok (.ireturn, 1) := dk_172 (dk_at dksX1_clashes_1 23 rfl rfl)
abbrev cX1_digest : ByteArray := prog_1_method_89_code
def yX1_digest : MethodName := ⟨RX1, "digest", "()J"⟩
def dkwX1_digest_11 : List UInt8 := [182, 2, 158, 184, 0, 209, 133, 182, 2, 167, 42, 180, 2, 161, 173]
abbrev dktX1_digest_11 : List UInt8 := dkwX1_digest_11 ++ []
def dkwX1_digest_10 : List UInt8 := [182, 2, 141, 133, 182, 2, 167, 42, 42, 44, 182, 2, 144, 133, 182, 2, 167, 167, 255, 192, 42, 42]
abbrev dktX1_digest_10 : List UInt8 := dkwX1_digest_10 ++ dktX1_digest_11
def dkwX1_digest_9 : List UInt8 := [162, 0, 19, 42, 44, 29, 184, 2, 101, 133, 182, 2, 167, 132, 3, 1, 167, 255, 237, 42, 42, 44, 4]
abbrev dktX1_digest_9 : List UInt8 := dkwX1_digest_9 ++ dktX1_digest_10
def dkwX1_digest_8 : List UInt8 := [185, 0, 195, 1, 0, 153, 0, 61, 43, 185, 0, 201, 1, 0, 192, 0, 116, 77, 3, 62, 29, 16, 12]
abbrev dktX1_digest_8 : List UInt8 := dkwX1_digest_8 ++ dktX1_digest_9
def dkwX1_digest_7 : List UInt8 := [192, 0, 112, 77, 42, 44, 182, 2, 178, 167, 255, 232, 42, 180, 0, 28, 182, 0, 191, 76, 43]
abbrev dktX1_digest_7 : List UInt8 := dkwX1_digest_7 ++ dktX1_digest_8
def dkwX1_digest_6 : List UInt8 := [180, 0, 25, 182, 0, 191, 76, 43, 185, 0, 195, 1, 0, 153, 0, 21, 43, 185, 0, 201, 1, 0]
abbrev dktX1_digest_6 : List UInt8 := dkwX1_digest_6 ++ dktX1_digest_7
def dkwX1_digest_5 : List UInt8 := [153, 0, 21, 43, 185, 0, 201, 1, 0, 192, 0, 108, 77, 42, 44, 182, 2, 174, 167, 255, 232, 42]
abbrev dktX1_digest_5 : List UInt8 := dkwX1_digest_5 ++ dktX1_digest_6
def dkwX1_digest_4 : List UInt8 := [182, 2, 167, 132, 3, 1, 167, 255, 197, 42, 180, 0, 19, 182, 0, 191, 76, 43, 185, 0, 195, 1, 0]
abbrev dktX1_digest_4 : List UInt8 := dkwX1_digest_4 ++ dktX1_digest_5
def dkwX1_digest_3 : List UInt8 := [21, 5, 184, 2, 82, 133, 182, 2, 167, 132, 5, 1, 167, 255, 227, 42, 42, 25, 4, 182, 2, 152, 133]
abbrev dktX1_digest_3 : List UInt8 := dkwX1_digest_3 ++ dktX1_digest_4
def dkwX1_digest_2 : List UInt8 := [29, 50, 58, 4, 3, 54, 5, 21, 5, 8, 162, 0, 29, 42, 42, 180, 0, 33, 25, 4, 182, 0, 123, 50]
abbrev dktX1_digest_2 : List UInt8 := dkwX1_digest_2 ++ dktX1_digest_3
def dkwX1_digest_1 : List UInt8 := [182, 2, 167, 132, 1, 1, 167, 255, 237, 184, 0, 71, 76, 43, 190, 61, 3, 62, 29, 28, 162, 0, 60, 43]
abbrev dktX1_digest_1 : List UInt8 := dkwX1_digest_1 ++ dktX1_digest_2
def dkwX1_digest_0 : List UInt8 := [42, 20, 2, 172, 181, 2, 161, 3, 60, 27, 16, 17, 162, 0, 19, 42, 42, 27, 182, 2, 112, 133]
abbrev dktX1_digest_0 : List UInt8 := dkwX1_digest_0 ++ dktX1_digest_1
theorem dksX1_digest_0 : cX1_digest.data.toList.drop 0 = dktX1_digest_0 := by decide +kernel
theorem dksX1_digest_1 : cX1_digest.data.toList.drop 22 = dktX1_digest_1 := dk_seg dksX1_digest_0 22 rfl rfl
theorem dksX1_digest_2 : cX1_digest.data.toList.drop 46 = dktX1_digest_2 := dk_seg dksX1_digest_1 24 rfl rfl
theorem dksX1_digest_3 : cX1_digest.data.toList.drop 70 = dktX1_digest_3 := dk_seg dksX1_digest_2 24 rfl rfl
theorem dksX1_digest_4 : cX1_digest.data.toList.drop 93 = dktX1_digest_4 := dk_seg dksX1_digest_3 23 rfl rfl
theorem dksX1_digest_5 : cX1_digest.data.toList.drop 116 = dktX1_digest_5 := dk_seg dksX1_digest_4 23 rfl rfl
theorem dksX1_digest_6 : cX1_digest.data.toList.drop 138 = dktX1_digest_6 := dk_seg dksX1_digest_5 22 rfl rfl
theorem dksX1_digest_7 : cX1_digest.data.toList.drop 160 = dktX1_digest_7 := dk_seg dksX1_digest_6 22 rfl rfl
theorem dksX1_digest_8 : cX1_digest.data.toList.drop 181 = dktX1_digest_8 := dk_seg dksX1_digest_7 21 rfl rfl
theorem dksX1_digest_9 : cX1_digest.data.toList.drop 204 = dktX1_digest_9 := dk_seg dksX1_digest_8 23 rfl rfl
theorem dksX1_digest_10 : cX1_digest.data.toList.drop 227 = dktX1_digest_10 := dk_seg dksX1_digest_9 23 rfl rfl
theorem dksX1_digest_11 : cX1_digest.data.toList.drop 249 = dktX1_digest_11 := dk_seg dksX1_digest_10 22 rfl rfl
theorem dX1_digest_0 : decode cX1_digest 0 = .ok (.aload_n 0, 1) := dk_42 (dk_at dksX1_digest_0 0 rfl rfl)
theorem dX1_digest_1 : decode cX1_digest 1 = .ok (.ldc2_w 684, 3) := dk_20 2 172 (dk_at dksX1_digest_0 1 rfl rfl)
theorem dX1_digest_4 : decode cX1_digest 4 = .ok (.putfield 673, 3) := dk_181 2 161 (dk_at dksX1_digest_0 4 rfl rfl)
theorem dX1_digest_7 : decode cX1_digest 7 = .ok (.iconst 0, 1) := dk_3 (dk_at dksX1_digest_0 7 rfl rfl)
theorem dX1_digest_8 : decode cX1_digest 8 = .ok (.istore_n 1, 1) := dk_60 (dk_at dksX1_digest_0 8 rfl rfl)
theorem dX1_digest_9 : decode cX1_digest 9 = .ok (.iload_n 1, 1) := dk_27 (dk_at dksX1_digest_0 9 rfl rfl)
theorem dX1_digest_10 : decode cX1_digest 10 = .ok (.bipush 17, 2) := dk_16 17 (dk_at dksX1_digest_0 10 rfl rfl)
theorem dX1_digest_12 : decode cX1_digest 12 = .ok (.if_icmp .ge 19, 3) := dk_162 0 19 (dk_at dksX1_digest_0 12 rfl rfl)
theorem dX1_digest_15 : decode cX1_digest 15 = .ok (.aload_n 0, 1) := dk_42 (dk_at dksX1_digest_0 15 rfl rfl)
theorem dX1_digest_16 : decode cX1_digest 16 = .ok (.aload_n 0, 1) := dk_42 (dk_at dksX1_digest_0 16 rfl rfl)
theorem dX1_digest_17 : decode cX1_digest 17 = .ok (.iload_n 1, 1) := dk_27 (dk_at dksX1_digest_0 17 rfl rfl)
theorem dX1_digest_18 : decode cX1_digest 18 = .ok (.invokevirtual 624, 3) := dk_182 2 112 (dk_at dksX1_digest_0 18 rfl rfl)
theorem dX1_digest_21 : decode cX1_digest 21 = .ok (.i2l, 1) := dk_133 (dk_at dksX1_digest_0 21 rfl rfl)
theorem dX1_digest_22 : decode cX1_digest 22 = .ok (.invokevirtual 679, 3) := dk_182 2 167 (dk_at dksX1_digest_1 0 rfl rfl)
theorem dX1_digest_25 : decode cX1_digest 25 = .ok (.iinc 1 1, 3) := dk_132 1 1 (dk_at dksX1_digest_1 3 rfl rfl)
theorem dX1_digest_28 : decode cX1_digest 28 = .ok (.goto (-19), 3) := dk_167 255 237 (dk_at dksX1_digest_1 6 rfl rfl)
theorem dX1_digest_31 : decode cX1_digest 31 = .ok (.invokestatic 71, 3) := dk_184 0 71 (dk_at dksX1_digest_1 9 rfl rfl)
theorem dX1_digest_34 : decode cX1_digest 34 = .ok (.astore_n 1, 1) := dk_76 (dk_at dksX1_digest_1 12 rfl rfl)
theorem dX1_digest_35 : decode cX1_digest 35 = .ok (.aload_n 1, 1) := dk_43 (dk_at dksX1_digest_1 13 rfl rfl)
theorem dX1_digest_36 : decode cX1_digest 36 = .ok (.arraylength, 1) := dk_190 (dk_at dksX1_digest_1 14 rfl rfl)
theorem dX1_digest_37 : decode cX1_digest 37 = .ok (.istore_n 2, 1) := dk_61 (dk_at dksX1_digest_1 15 rfl rfl)
theorem dX1_digest_38 : decode cX1_digest 38 = .ok (.iconst 0, 1) := dk_3 (dk_at dksX1_digest_1 16 rfl rfl)
theorem dX1_digest_39 : decode cX1_digest 39 = .ok (.istore_n 3, 1) := dk_62 (dk_at dksX1_digest_1 17 rfl rfl)
theorem dX1_digest_40 : decode cX1_digest 40 = .ok (.iload_n 3, 1) := dk_29 (dk_at dksX1_digest_1 18 rfl rfl)
theorem dX1_digest_41 : decode cX1_digest 41 = .ok (.iload_n 2, 1) := dk_28 (dk_at dksX1_digest_1 19 rfl rfl)
theorem dX1_digest_42 : decode cX1_digest 42 = .ok (.if_icmp .ge 60, 3) := dk_162 0 60 (dk_at dksX1_digest_1 20 rfl rfl)
theorem dX1_digest_45 : decode cX1_digest 45 = .ok (.aload_n 1, 1) := dk_43 (dk_at dksX1_digest_1 23 rfl rfl)
theorem dX1_digest_46 : decode cX1_digest 46 = .ok (.iload_n 3, 1) := dk_29 (dk_at dksX1_digest_2 0 rfl rfl)
theorem dX1_digest_47 : decode cX1_digest 47 = .ok (.aaload, 1) := dk_50 (dk_at dksX1_digest_2 1 rfl rfl)
theorem dX1_digest_48 : decode cX1_digest 48 = .ok (.astore 4, 2) := dk_58 4 (dk_at dksX1_digest_2 2 rfl rfl)
theorem dX1_digest_50 : decode cX1_digest 50 = .ok (.iconst 0, 1) := dk_3 (dk_at dksX1_digest_2 4 rfl rfl)
theorem dX1_digest_51 : decode cX1_digest 51 = .ok (.istore 5, 2) := dk_54 5 (dk_at dksX1_digest_2 5 rfl rfl)
theorem dX1_digest_53 : decode cX1_digest 53 = .ok (.iload 5, 2) := dk_21 5 (dk_at dksX1_digest_2 7 rfl rfl)
theorem dX1_digest_55 : decode cX1_digest 55 = .ok (.iconst 5, 1) := dk_8 (dk_at dksX1_digest_2 9 rfl rfl)
theorem dX1_digest_56 : decode cX1_digest 56 = .ok (.if_icmp .ge 29, 3) := dk_162 0 29 (dk_at dksX1_digest_2 10 rfl rfl)
theorem dX1_digest_59 : decode cX1_digest 59 = .ok (.aload_n 0, 1) := dk_42 (dk_at dksX1_digest_2 13 rfl rfl)
theorem dX1_digest_60 : decode cX1_digest 60 = .ok (.aload_n 0, 1) := dk_42 (dk_at dksX1_digest_2 14 rfl rfl)
theorem dX1_digest_61 : decode cX1_digest 61 = .ok (.getfield 33, 3) := dk_180 0 33 (dk_at dksX1_digest_2 15 rfl rfl)
theorem dX1_digest_64 : decode cX1_digest 64 = .ok (.aload 4, 2) := dk_25 4 (dk_at dksX1_digest_2 18 rfl rfl)
theorem dX1_digest_66 : decode cX1_digest 66 = .ok (.invokevirtual 123, 3) := dk_182 0 123 (dk_at dksX1_digest_2 20 rfl rfl)
theorem dX1_digest_69 : decode cX1_digest 69 = .ok (.aaload, 1) := dk_50 (dk_at dksX1_digest_2 23 rfl rfl)
theorem dX1_digest_70 : decode cX1_digest 70 = .ok (.iload 5, 2) := dk_21 5 (dk_at dksX1_digest_3 0 rfl rfl)
theorem dX1_digest_72 : decode cX1_digest 72 = .ok (.invokestatic 594, 3) := dk_184 2 82 (dk_at dksX1_digest_3 2 rfl rfl)
theorem dX1_digest_75 : decode cX1_digest 75 = .ok (.i2l, 1) := dk_133 (dk_at dksX1_digest_3 5 rfl rfl)
theorem dX1_digest_76 : decode cX1_digest 76 = .ok (.invokevirtual 679, 3) := dk_182 2 167 (dk_at dksX1_digest_3 6 rfl rfl)
theorem dX1_digest_79 : decode cX1_digest 79 = .ok (.iinc 5 1, 3) := dk_132 5 1 (dk_at dksX1_digest_3 9 rfl rfl)
theorem dX1_digest_82 : decode cX1_digest 82 = .ok (.goto (-29), 3) := dk_167 255 227 (dk_at dksX1_digest_3 12 rfl rfl)
theorem dX1_digest_85 : decode cX1_digest 85 = .ok (.aload_n 0, 1) := dk_42 (dk_at dksX1_digest_3 15 rfl rfl)
theorem dX1_digest_86 : decode cX1_digest 86 = .ok (.aload_n 0, 1) := dk_42 (dk_at dksX1_digest_3 16 rfl rfl)
theorem dX1_digest_87 : decode cX1_digest 87 = .ok (.aload 4, 2) := dk_25 4 (dk_at dksX1_digest_3 17 rfl rfl)
theorem dX1_digest_89 : decode cX1_digest 89 = .ok (.invokevirtual 664, 3) := dk_182 2 152 (dk_at dksX1_digest_3 19 rfl rfl)
theorem dX1_digest_92 : decode cX1_digest 92 = .ok (.i2l, 1) := dk_133 (dk_at dksX1_digest_3 22 rfl rfl)
theorem dX1_digest_93 : decode cX1_digest 93 = .ok (.invokevirtual 679, 3) := dk_182 2 167 (dk_at dksX1_digest_4 0 rfl rfl)
theorem dX1_digest_96 : decode cX1_digest 96 = .ok (.iinc 3 1, 3) := dk_132 3 1 (dk_at dksX1_digest_4 3 rfl rfl)
theorem dX1_digest_99 : decode cX1_digest 99 = .ok (.goto (-59), 3) := dk_167 255 197 (dk_at dksX1_digest_4 6 rfl rfl)
theorem dX1_digest_102 : decode cX1_digest 102 = .ok (.aload_n 0, 1) := dk_42 (dk_at dksX1_digest_4 9 rfl rfl)
theorem dX1_digest_103 : decode cX1_digest 103 = .ok (.getfield 19, 3) := dk_180 0 19 (dk_at dksX1_digest_4 10 rfl rfl)
theorem dX1_digest_106 : decode cX1_digest 106 = .ok (.invokevirtual 191, 3) := dk_182 0 191 (dk_at dksX1_digest_4 13 rfl rfl)
theorem dX1_digest_109 : decode cX1_digest 109 = .ok (.astore_n 1, 1) := dk_76 (dk_at dksX1_digest_4 16 rfl rfl)
theorem dX1_digest_110 : decode cX1_digest 110 = .ok (.aload_n 1, 1) := dk_43 (dk_at dksX1_digest_4 17 rfl rfl)
theorem dX1_digest_111 : decode cX1_digest 111 = .ok (.invokeinterface 195 1, 5) := by decide +kernel
theorem dX1_digest_116 : decode cX1_digest 116 = .ok (.ifCond .eq 21, 3) := dk_153 0 21 (dk_at dksX1_digest_5 0 rfl rfl)
theorem dX1_digest_119 : decode cX1_digest 119 = .ok (.aload_n 1, 1) := dk_43 (dk_at dksX1_digest_5 3 rfl rfl)
theorem dX1_digest_120 : decode cX1_digest 120 = .ok (.invokeinterface 201 1, 5) := by decide +kernel
theorem dX1_digest_125 : decode cX1_digest 125 = .ok (.checkcast 108, 3) := dk_192 0 108 (dk_at dksX1_digest_5 9 rfl rfl)
theorem dX1_digest_128 : decode cX1_digest 128 = .ok (.astore_n 2, 1) := dk_77 (dk_at dksX1_digest_5 12 rfl rfl)
theorem dX1_digest_129 : decode cX1_digest 129 = .ok (.aload_n 0, 1) := dk_42 (dk_at dksX1_digest_5 13 rfl rfl)
theorem dX1_digest_130 : decode cX1_digest 130 = .ok (.aload_n 2, 1) := dk_44 (dk_at dksX1_digest_5 14 rfl rfl)
theorem dX1_digest_131 : decode cX1_digest 131 = .ok (.invokevirtual 686, 3) := dk_182 2 174 (dk_at dksX1_digest_5 15 rfl rfl)
theorem dX1_digest_134 : decode cX1_digest 134 = .ok (.goto (-24), 3) := dk_167 255 232 (dk_at dksX1_digest_5 18 rfl rfl)
theorem dX1_digest_137 : decode cX1_digest 137 = .ok (.aload_n 0, 1) := dk_42 (dk_at dksX1_digest_5 21 rfl rfl)
theorem dX1_digest_138 : decode cX1_digest 138 = .ok (.getfield 25, 3) := dk_180 0 25 (dk_at dksX1_digest_6 0 rfl rfl)
theorem dX1_digest_141 : decode cX1_digest 141 = .ok (.invokevirtual 191, 3) := dk_182 0 191 (dk_at dksX1_digest_6 3 rfl rfl)
theorem dX1_digest_144 : decode cX1_digest 144 = .ok (.astore_n 1, 1) := dk_76 (dk_at dksX1_digest_6 6 rfl rfl)
theorem dX1_digest_145 : decode cX1_digest 145 = .ok (.aload_n 1, 1) := dk_43 (dk_at dksX1_digest_6 7 rfl rfl)
theorem dX1_digest_146 : decode cX1_digest 146 = .ok (.invokeinterface 195 1, 5) := by decide +kernel
theorem dX1_digest_151 : decode cX1_digest 151 = .ok (.ifCond .eq 21, 3) := dk_153 0 21 (dk_at dksX1_digest_6 13 rfl rfl)
theorem dX1_digest_154 : decode cX1_digest 154 = .ok (.aload_n 1, 1) := dk_43 (dk_at dksX1_digest_6 16 rfl rfl)
theorem dX1_digest_155 : decode cX1_digest 155 = .ok (.invokeinterface 201 1, 5) := by decide +kernel
theorem dX1_digest_160 : decode cX1_digest 160 = .ok (.checkcast 112, 3) := dk_192 0 112 (dk_at dksX1_digest_7 0 rfl rfl)
theorem dX1_digest_163 : decode cX1_digest 163 = .ok (.astore_n 2, 1) := dk_77 (dk_at dksX1_digest_7 3 rfl rfl)
theorem dX1_digest_164 : decode cX1_digest 164 = .ok (.aload_n 0, 1) := dk_42 (dk_at dksX1_digest_7 4 rfl rfl)
theorem dX1_digest_165 : decode cX1_digest 165 = .ok (.aload_n 2, 1) := dk_44 (dk_at dksX1_digest_7 5 rfl rfl)
theorem dX1_digest_166 : decode cX1_digest 166 = .ok (.invokevirtual 690, 3) := dk_182 2 178 (dk_at dksX1_digest_7 6 rfl rfl)
theorem dX1_digest_169 : decode cX1_digest 169 = .ok (.goto (-24), 3) := dk_167 255 232 (dk_at dksX1_digest_7 9 rfl rfl)
theorem dX1_digest_172 : decode cX1_digest 172 = .ok (.aload_n 0, 1) := dk_42 (dk_at dksX1_digest_7 12 rfl rfl)
theorem dX1_digest_173 : decode cX1_digest 173 = .ok (.getfield 28, 3) := dk_180 0 28 (dk_at dksX1_digest_7 13 rfl rfl)
theorem dX1_digest_176 : decode cX1_digest 176 = .ok (.invokevirtual 191, 3) := dk_182 0 191 (dk_at dksX1_digest_7 16 rfl rfl)
theorem dX1_digest_179 : decode cX1_digest 179 = .ok (.astore_n 1, 1) := dk_76 (dk_at dksX1_digest_7 19 rfl rfl)
theorem dX1_digest_180 : decode cX1_digest 180 = .ok (.aload_n 1, 1) := dk_43 (dk_at dksX1_digest_7 20 rfl rfl)
theorem dX1_digest_181 : decode cX1_digest 181 = .ok (.invokeinterface 195 1, 5) := by decide +kernel
theorem dX1_digest_186 : decode cX1_digest 186 = .ok (.ifCond .eq 61, 3) := dk_153 0 61 (dk_at dksX1_digest_8 5 rfl rfl)
theorem dX1_digest_189 : decode cX1_digest 189 = .ok (.aload_n 1, 1) := dk_43 (dk_at dksX1_digest_8 8 rfl rfl)
theorem dX1_digest_190 : decode cX1_digest 190 = .ok (.invokeinterface 201 1, 5) := by decide +kernel
theorem dX1_digest_195 : decode cX1_digest 195 = .ok (.checkcast 116, 3) := dk_192 0 116 (dk_at dksX1_digest_8 14 rfl rfl)
theorem dX1_digest_198 : decode cX1_digest 198 = .ok (.astore_n 2, 1) := dk_77 (dk_at dksX1_digest_8 17 rfl rfl)
theorem dX1_digest_199 : decode cX1_digest 199 = .ok (.iconst 0, 1) := dk_3 (dk_at dksX1_digest_8 18 rfl rfl)
theorem dX1_digest_200 : decode cX1_digest 200 = .ok (.istore_n 3, 1) := dk_62 (dk_at dksX1_digest_8 19 rfl rfl)
theorem dX1_digest_201 : decode cX1_digest 201 = .ok (.iload_n 3, 1) := dk_29 (dk_at dksX1_digest_8 20 rfl rfl)
theorem dX1_digest_202 : decode cX1_digest 202 = .ok (.bipush 12, 2) := dk_16 12 (dk_at dksX1_digest_8 21 rfl rfl)
theorem dX1_digest_204 : decode cX1_digest 204 = .ok (.if_icmp .ge 19, 3) := dk_162 0 19 (dk_at dksX1_digest_9 0 rfl rfl)
theorem dX1_digest_207 : decode cX1_digest 207 = .ok (.aload_n 0, 1) := dk_42 (dk_at dksX1_digest_9 3 rfl rfl)
theorem dX1_digest_208 : decode cX1_digest 208 = .ok (.aload_n 2, 1) := dk_44 (dk_at dksX1_digest_9 4 rfl rfl)
theorem dX1_digest_209 : decode cX1_digest 209 = .ok (.iload_n 3, 1) := dk_29 (dk_at dksX1_digest_9 5 rfl rfl)
theorem dX1_digest_210 : decode cX1_digest 210 = .ok (.invokestatic 613, 3) := dk_184 2 101 (dk_at dksX1_digest_9 6 rfl rfl)
theorem dX1_digest_213 : decode cX1_digest 213 = .ok (.i2l, 1) := dk_133 (dk_at dksX1_digest_9 9 rfl rfl)
theorem dX1_digest_214 : decode cX1_digest 214 = .ok (.invokevirtual 679, 3) := dk_182 2 167 (dk_at dksX1_digest_9 10 rfl rfl)
theorem dX1_digest_217 : decode cX1_digest 217 = .ok (.iinc 3 1, 3) := dk_132 3 1 (dk_at dksX1_digest_9 13 rfl rfl)
theorem dX1_digest_220 : decode cX1_digest 220 = .ok (.goto (-19), 3) := dk_167 255 237 (dk_at dksX1_digest_9 16 rfl rfl)
theorem dX1_digest_223 : decode cX1_digest 223 = .ok (.aload_n 0, 1) := dk_42 (dk_at dksX1_digest_9 19 rfl rfl)
theorem dX1_digest_224 : decode cX1_digest 224 = .ok (.aload_n 0, 1) := dk_42 (dk_at dksX1_digest_9 20 rfl rfl)
theorem dX1_digest_225 : decode cX1_digest 225 = .ok (.aload_n 2, 1) := dk_44 (dk_at dksX1_digest_9 21 rfl rfl)
theorem dX1_digest_226 : decode cX1_digest 226 = .ok (.iconst 1, 1) := dk_4 (dk_at dksX1_digest_9 22 rfl rfl)
theorem dX1_digest_227 : decode cX1_digest 227 = .ok (.invokevirtual 653, 3) := dk_182 2 141 (dk_at dksX1_digest_10 0 rfl rfl)
theorem dX1_digest_230 : decode cX1_digest 230 = .ok (.i2l, 1) := dk_133 (dk_at dksX1_digest_10 3 rfl rfl)
theorem dX1_digest_231 : decode cX1_digest 231 = .ok (.invokevirtual 679, 3) := dk_182 2 167 (dk_at dksX1_digest_10 4 rfl rfl)
theorem dX1_digest_234 : decode cX1_digest 234 = .ok (.aload_n 0, 1) := dk_42 (dk_at dksX1_digest_10 7 rfl rfl)
theorem dX1_digest_235 : decode cX1_digest 235 = .ok (.aload_n 0, 1) := dk_42 (dk_at dksX1_digest_10 8 rfl rfl)
theorem dX1_digest_236 : decode cX1_digest 236 = .ok (.aload_n 2, 1) := dk_44 (dk_at dksX1_digest_10 9 rfl rfl)
theorem dX1_digest_237 : decode cX1_digest 237 = .ok (.invokevirtual 656, 3) := dk_182 2 144 (dk_at dksX1_digest_10 10 rfl rfl)
theorem dX1_digest_240 : decode cX1_digest 240 = .ok (.i2l, 1) := dk_133 (dk_at dksX1_digest_10 13 rfl rfl)
theorem dX1_digest_241 : decode cX1_digest 241 = .ok (.invokevirtual 679, 3) := dk_182 2 167 (dk_at dksX1_digest_10 14 rfl rfl)
theorem dX1_digest_244 : decode cX1_digest 244 = .ok (.goto (-64), 3) := dk_167 255 192 (dk_at dksX1_digest_10 17 rfl rfl)
theorem dX1_digest_247 : decode cX1_digest 247 = .ok (.aload_n 0, 1) := dk_42 (dk_at dksX1_digest_10 20 rfl rfl)
theorem dX1_digest_248 : decode cX1_digest 248 = .ok (.aload_n 0, 1) := dk_42 (dk_at dksX1_digest_10 21 rfl rfl)
theorem dX1_digest_249 : decode cX1_digest 249 = .ok (.invokevirtual 670, 3) := dk_182 2 158 (dk_at dksX1_digest_11 0 rfl rfl)
theorem dX1_digest_252 : decode cX1_digest 252 = .ok (.invokestatic 209, 3) := dk_184 0 209 (dk_at dksX1_digest_11 3 rfl rfl)
theorem dX1_digest_255 : decode cX1_digest 255 = .ok (.i2l, 1) := dk_133 (dk_at dksX1_digest_11 6 rfl rfl)
theorem dX1_digest_256 : decode cX1_digest 256 = .ok (.invokevirtual 679, 3) := dk_182 2 167 (dk_at dksX1_digest_11 7 rfl rfl)
theorem dX1_digest_259 : decode cX1_digest 259 = .ok (.aload_n 0, 1) := dk_42 (dk_at dksX1_digest_11 10 rfl rfl)
theorem dX1_digest_260 : decode cX1_digest 260 = .ok (.getfield 673, 3) := dk_180 2 161 (dk_at dksX1_digest_11 11 rfl rfl)
theorem dX1_digest_263 : decode cX1_digest 263 = .ok (.lreturn, 1) := dk_173 (dk_at dksX1_digest_11 14 rfl rfl)
abbrev cX1_told : ByteArray := prog_1_method_71_code
def yX1_told : MethodName := ⟨RX1, "told", "(I)I"⟩
def dkwX1_told_6 : List UInt8 := [42, 180, 0, 159, 172, 42, 182, 2, 106, 172, 42, 180, 0, 60, 182, 2, 109, 172]
abbrev dktX1_told_6 : List UInt8 := dkwX1_told_6 ++ []
def dkwX1_told_5 : List UInt8 := [180, 1, 233, 172, 42, 180, 1, 194, 172, 42, 180, 1, 179, 172, 42, 180, 1, 191, 172, 42, 182, 2, 104, 172]
abbrev dktX1_told_5 : List UInt8 := dkwX1_told_5 ++ dktX1_told_6
def dkwX1_told_4 : List UInt8 := [180, 0, 53, 180, 1, 203, 182, 1, 1, 172, 42, 180, 0, 40, 182, 1, 1, 172, 42, 180, 0, 53]
abbrev dktX1_told_4 : List UInt8 := dkwX1_told_4 ++ dktX1_told_5
def dkwX1_told_3 : List UInt8 := [180, 0, 25, 182, 0, 94, 172, 42, 180, 0, 28, 182, 0, 94, 172, 42, 180, 0, 47, 182, 1, 1, 172, 42]
abbrev dktX1_told_3 : List UInt8 := dkwX1_told_3 ++ dktX1_told_4
def dkwX1_told_2 : List UInt8 := [42, 180, 0, 120, 172, 42, 182, 1, 90, 172, 42, 180, 0, 64, 172, 42, 180, 0, 19, 182, 0, 94, 172, 42]
abbrev dktX1_told_2 : List UInt8 := dkwX1_told_2 ++ dktX1_told_3
def dkwX1_told_1 : List UInt8 := [170, 0, 0, 0, 0, 0, 183, 0, 0, 0, 0, 0, 0, 0, 15, 0, 0, 0, 79, 0, 0, 0, 84, 0, 0, 0, 89, 0, 0, 0, 94, 0, 0, 0, 102, 0, 0, 0, 110, 0, 0, 0, 118, 0, 0, 0, 126, 0, 0, 0, 137, 0, 0, 0, 145, 0, 0, 0, 153, 0, 0, 0, 158, 0, 0, 0, 163, 0, 0, 0, 168, 0, 0, 0, 173, 0, 0, 0, 178]
abbrev dktX1_told_1 : List UInt8 := dkwX1_told_1 ++ dktX1_told_2
def dkwX1_told_0 : List UInt8 := [27]
abbrev dktX1_told_0 : List UInt8 := dkwX1_told_0 ++ dktX1_told_1
theorem dksX1_told_0 : cX1_told.data.toList.drop 0 = dktX1_told_0 := by decide +kernel
theorem dksX1_told_1 : cX1_told.data.toList.drop 1 = dktX1_told_1 := dk_seg dksX1_told_0 1 rfl rfl
theorem dksX1_told_2 : cX1_told.data.toList.drop 80 = dktX1_told_2 := dk_seg dksX1_told_1 79 rfl rfl
theorem dksX1_told_3 : cX1_told.data.toList.drop 104 = dktX1_told_3 := dk_seg dksX1_told_2 24 rfl rfl
theorem dksX1_told_4 : cX1_told.data.toList.drop 128 = dktX1_told_4 := dk_seg dksX1_told_3 24 rfl rfl
theorem dksX1_told_5 : cX1_told.data.toList.drop 150 = dktX1_told_5 := dk_seg dksX1_told_4 22 rfl rfl
theorem dksX1_told_6 : cX1_told.data.toList.drop 174 = dktX1_told_6 := dk_seg dksX1_told_5 24 rfl rfl
theorem dX1_told_0 : decode cX1_told 0 = .ok (.iload_n 1, 1) := dk_27 (dk_at dksX1_told_0 0 rfl rfl)
theorem dX1_told_1 : decode cX1_told 1 = .ok (.tableswitch 183 0 15 #[79, 84, 89, 94, 102, 110, 118, 126, 137, 145, 153, 158, 163, 168, 173, 178], 79) := by decide +kernel
theorem dX1_told_80 : decode cX1_told 80 = .ok (.aload_n 0, 1) := dk_42 (dk_at dksX1_told_2 0 rfl rfl)
theorem dX1_told_81 : decode cX1_told 81 = .ok (.getfield 120, 3) := dk_180 0 120 (dk_at dksX1_told_2 1 rfl rfl)
theorem dX1_told_84 : decode cX1_told 84 = .ok (.ireturn, 1) := dk_172 (dk_at dksX1_told_2 4 rfl rfl)
theorem dX1_told_85 : decode cX1_told 85 = .ok (.aload_n 0, 1) := dk_42 (dk_at dksX1_told_2 5 rfl rfl)
theorem dX1_told_86 : decode cX1_told 86 = .ok (.invokevirtual 346, 3) := dk_182 1 90 (dk_at dksX1_told_2 6 rfl rfl)
theorem dX1_told_89 : decode cX1_told 89 = .ok (.ireturn, 1) := dk_172 (dk_at dksX1_told_2 9 rfl rfl)
theorem dX1_told_90 : decode cX1_told 90 = .ok (.aload_n 0, 1) := dk_42 (dk_at dksX1_told_2 10 rfl rfl)
theorem dX1_told_91 : decode cX1_told 91 = .ok (.getfield 64, 3) := dk_180 0 64 (dk_at dksX1_told_2 11 rfl rfl)
theorem dX1_told_94 : decode cX1_told 94 = .ok (.ireturn, 1) := dk_172 (dk_at dksX1_told_2 14 rfl rfl)
theorem dX1_told_95 : decode cX1_told 95 = .ok (.aload_n 0, 1) := dk_42 (dk_at dksX1_told_2 15 rfl rfl)
theorem dX1_told_96 : decode cX1_told 96 = .ok (.getfield 19, 3) := dk_180 0 19 (dk_at dksX1_told_2 16 rfl rfl)
theorem dX1_told_99 : decode cX1_told 99 = .ok (.invokevirtual 94, 3) := dk_182 0 94 (dk_at dksX1_told_2 19 rfl rfl)
theorem dX1_told_102 : decode cX1_told 102 = .ok (.ireturn, 1) := dk_172 (dk_at dksX1_told_2 22 rfl rfl)
theorem dX1_told_103 : decode cX1_told 103 = .ok (.aload_n 0, 1) := dk_42 (dk_at dksX1_told_2 23 rfl rfl)
theorem dX1_told_104 : decode cX1_told 104 = .ok (.getfield 25, 3) := dk_180 0 25 (dk_at dksX1_told_3 0 rfl rfl)
theorem dX1_told_107 : decode cX1_told 107 = .ok (.invokevirtual 94, 3) := dk_182 0 94 (dk_at dksX1_told_3 3 rfl rfl)
theorem dX1_told_110 : decode cX1_told 110 = .ok (.ireturn, 1) := dk_172 (dk_at dksX1_told_3 6 rfl rfl)
theorem dX1_told_111 : decode cX1_told 111 = .ok (.aload_n 0, 1) := dk_42 (dk_at dksX1_told_3 7 rfl rfl)
theorem dX1_told_112 : decode cX1_told 112 = .ok (.getfield 28, 3) := dk_180 0 28 (dk_at dksX1_told_3 8 rfl rfl)
theorem dX1_told_115 : decode cX1_told 115 = .ok (.invokevirtual 94, 3) := dk_182 0 94 (dk_at dksX1_told_3 11 rfl rfl)
theorem dX1_told_118 : decode cX1_told 118 = .ok (.ireturn, 1) := dk_172 (dk_at dksX1_told_3 14 rfl rfl)
theorem dX1_told_119 : decode cX1_told 119 = .ok (.aload_n 0, 1) := dk_42 (dk_at dksX1_told_3 15 rfl rfl)
theorem dX1_told_120 : decode cX1_told 120 = .ok (.getfield 47, 3) := dk_180 0 47 (dk_at dksX1_told_3 16 rfl rfl)
theorem dX1_told_123 : decode cX1_told 123 = .ok (.invokevirtual 257, 3) := dk_182 1 1 (dk_at dksX1_told_3 19 rfl rfl)
theorem dX1_told_126 : decode cX1_told 126 = .ok (.ireturn, 1) := dk_172 (dk_at dksX1_told_3 22 rfl rfl)
theorem dX1_told_127 : decode cX1_told 127 = .ok (.aload_n 0, 1) := dk_42 (dk_at dksX1_told_3 23 rfl rfl)
theorem dX1_told_128 : decode cX1_told 128 = .ok (.getfield 53, 3) := dk_180 0 53 (dk_at dksX1_told_4 0 rfl rfl)
theorem dX1_told_131 : decode cX1_told 131 = .ok (.getfield 459, 3) := dk_180 1 203 (dk_at dksX1_told_4 3 rfl rfl)
theorem dX1_told_134 : decode cX1_told 134 = .ok (.invokevirtual 257, 3) := dk_182 1 1 (dk_at dksX1_told_4 6 rfl rfl)
theorem dX1_told_137 : decode cX1_told 137 = .ok (.ireturn, 1) := dk_172 (dk_at dksX1_told_4 9 rfl rfl)
theorem dX1_told_138 : decode cX1_told 138 = .ok (.aload_n 0, 1) := dk_42 (dk_at dksX1_told_4 10 rfl rfl)
theorem dX1_told_139 : decode cX1_told 139 = .ok (.getfield 40, 3) := dk_180 0 40 (dk_at dksX1_told_4 11 rfl rfl)
theorem dX1_told_142 : decode cX1_told 142 = .ok (.invokevirtual 257, 3) := dk_182 1 1 (dk_at dksX1_told_4 14 rfl rfl)
theorem dX1_told_145 : decode cX1_told 145 = .ok (.ireturn, 1) := dk_172 (dk_at dksX1_told_4 17 rfl rfl)
theorem dX1_told_146 : decode cX1_told 146 = .ok (.aload_n 0, 1) := dk_42 (dk_at dksX1_told_4 18 rfl rfl)
theorem dX1_told_147 : decode cX1_told 147 = .ok (.getfield 53, 3) := dk_180 0 53 (dk_at dksX1_told_4 19 rfl rfl)
theorem dX1_told_150 : decode cX1_told 150 = .ok (.getfield 489, 3) := dk_180 1 233 (dk_at dksX1_told_5 0 rfl rfl)
theorem dX1_told_153 : decode cX1_told 153 = .ok (.ireturn, 1) := dk_172 (dk_at dksX1_told_5 3 rfl rfl)
theorem dX1_told_154 : decode cX1_told 154 = .ok (.aload_n 0, 1) := dk_42 (dk_at dksX1_told_5 4 rfl rfl)
theorem dX1_told_155 : decode cX1_told 155 = .ok (.getfield 450, 3) := dk_180 1 194 (dk_at dksX1_told_5 5 rfl rfl)
theorem dX1_told_158 : decode cX1_told 158 = .ok (.ireturn, 1) := dk_172 (dk_at dksX1_told_5 8 rfl rfl)
theorem dX1_told_159 : decode cX1_told 159 = .ok (.aload_n 0, 1) := dk_42 (dk_at dksX1_told_5 9 rfl rfl)
theorem dX1_told_160 : decode cX1_told 160 = .ok (.getfield 435, 3) := dk_180 1 179 (dk_at dksX1_told_5 10 rfl rfl)
theorem dX1_told_163 : decode cX1_told 163 = .ok (.ireturn, 1) := dk_172 (dk_at dksX1_told_5 13 rfl rfl)
theorem dX1_told_164 : decode cX1_told 164 = .ok (.aload_n 0, 1) := dk_42 (dk_at dksX1_told_5 14 rfl rfl)
theorem dX1_told_165 : decode cX1_told 165 = .ok (.getfield 447, 3) := dk_180 1 191 (dk_at dksX1_told_5 15 rfl rfl)
theorem dX1_told_168 : decode cX1_told 168 = .ok (.ireturn, 1) := dk_172 (dk_at dksX1_told_5 18 rfl rfl)
theorem dX1_told_169 : decode cX1_told 169 = .ok (.aload_n 0, 1) := dk_42 (dk_at dksX1_told_5 19 rfl rfl)
theorem dX1_told_170 : decode cX1_told 170 = .ok (.invokevirtual 616, 3) := dk_182 2 104 (dk_at dksX1_told_5 20 rfl rfl)
theorem dX1_told_173 : decode cX1_told 173 = .ok (.ireturn, 1) := dk_172 (dk_at dksX1_told_5 23 rfl rfl)
theorem dX1_told_174 : decode cX1_told 174 = .ok (.aload_n 0, 1) := dk_42 (dk_at dksX1_told_6 0 rfl rfl)
theorem dX1_told_175 : decode cX1_told 175 = .ok (.getfield 159, 3) := dk_180 0 159 (dk_at dksX1_told_6 1 rfl rfl)
theorem dX1_told_178 : decode cX1_told 178 = .ok (.ireturn, 1) := dk_172 (dk_at dksX1_told_6 4 rfl rfl)
theorem dX1_told_179 : decode cX1_told 179 = .ok (.aload_n 0, 1) := dk_42 (dk_at dksX1_told_6 5 rfl rfl)
theorem dX1_told_180 : decode cX1_told 180 = .ok (.invokevirtual 618, 3) := dk_182 2 106 (dk_at dksX1_told_6 6 rfl rfl)
theorem dX1_told_183 : decode cX1_told 183 = .ok (.ireturn, 1) := dk_172 (dk_at dksX1_told_6 9 rfl rfl)
theorem dX1_told_184 : decode cX1_told 184 = .ok (.aload_n 0, 1) := dk_42 (dk_at dksX1_told_6 10 rfl rfl)
theorem dX1_told_185 : decode cX1_told 185 = .ok (.getfield 60, 3) := dk_180 0 60 (dk_at dksX1_told_6 11 rfl rfl)
theorem dX1_told_188 : decode cX1_told 188 = .ok (.invokevirtual 621, 3) := dk_182 2 109 (dk_at dksX1_told_6 14 rfl rfl)
theorem dX1_told_191 : decode cX1_told 191 = .ok (.ireturn, 1) := dk_172 (dk_at dksX1_told_6 17 rfl rfl)
abbrev cX1_year : ByteArray := prog_1_method_13_code
def yX1_year : MethodName := ⟨RX1, "year", "()I"⟩
def dkwX1_year_0 : List UInt8 := [42, 180, 0, 120, 7, 108, 172]
abbrev dktX1_year_0 : List UInt8 := dkwX1_year_0 ++ []
theorem dksX1_year_0 : cX1_year.data.toList.drop 0 = dktX1_year_0 := by decide +kernel
theorem dX1_year_0 : decode cX1_year 0 = .ok (.aload_n 0, 1) := dk_42 (dk_at dksX1_year_0 0 rfl rfl)
theorem dX1_year_1 : decode cX1_year 1 = .ok (.getfield 120, 3) := dk_180 0 120 (dk_at dksX1_year_0 1 rfl rfl)
theorem dX1_year_4 : decode cX1_year 4 = .ok (.iconst 4, 1) := dk_7 (dk_at dksX1_year_0 4 rfl rfl)
theorem dX1_year_5 : decode cX1_year 5 = .ok (.idiv, 1) := dk_108 (dk_at dksX1_year_0 5 rfl rfl)
theorem dX1_year_6 : decode cX1_year 6 = .ok (.ireturn, 1) := dk_172 (dk_at dksX1_year_0 6 rfl rfl)
abbrev cX1_houses : ByteArray := prog_1_method_69_code
def yX1_houses : MethodName := ⟨RX1, "houses", "()I"⟩
def dkwX1_houses_1 : List UInt8 := [185, 0, 201, 1, 0, 192, 0, 108, 78, 27, 45, 180, 1, 207, 96, 60, 167, 255, 230, 27, 172]
abbrev dktX1_houses_1 : List UInt8 := dkwX1_houses_1 ++ []
def dkwX1_houses_0 : List UInt8 := [3, 60, 42, 180, 0, 19, 182, 0, 191, 77, 44, 185, 0, 195, 1, 0, 153, 0, 23, 44]
abbrev dktX1_houses_0 : List UInt8 := dkwX1_houses_0 ++ dktX1_houses_1
theorem dksX1_houses_0 : cX1_houses.data.toList.drop 0 = dktX1_houses_0 := by decide +kernel
theorem dksX1_houses_1 : cX1_houses.data.toList.drop 20 = dktX1_houses_1 := dk_seg dksX1_houses_0 20 rfl rfl
theorem dX1_houses_0 : decode cX1_houses 0 = .ok (.iconst 0, 1) := dk_3 (dk_at dksX1_houses_0 0 rfl rfl)
theorem dX1_houses_1 : decode cX1_houses 1 = .ok (.istore_n 1, 1) := dk_60 (dk_at dksX1_houses_0 1 rfl rfl)
theorem dX1_houses_2 : decode cX1_houses 2 = .ok (.aload_n 0, 1) := dk_42 (dk_at dksX1_houses_0 2 rfl rfl)
theorem dX1_houses_3 : decode cX1_houses 3 = .ok (.getfield 19, 3) := dk_180 0 19 (dk_at dksX1_houses_0 3 rfl rfl)
theorem dX1_houses_6 : decode cX1_houses 6 = .ok (.invokevirtual 191, 3) := dk_182 0 191 (dk_at dksX1_houses_0 6 rfl rfl)
theorem dX1_houses_9 : decode cX1_houses 9 = .ok (.astore_n 2, 1) := dk_77 (dk_at dksX1_houses_0 9 rfl rfl)
theorem dX1_houses_10 : decode cX1_houses 10 = .ok (.aload_n 2, 1) := dk_44 (dk_at dksX1_houses_0 10 rfl rfl)
theorem dX1_houses_11 : decode cX1_houses 11 = .ok (.invokeinterface 195 1, 5) := by decide +kernel
theorem dX1_houses_16 : decode cX1_houses 16 = .ok (.ifCond .eq 23, 3) := dk_153 0 23 (dk_at dksX1_houses_0 16 rfl rfl)
theorem dX1_houses_19 : decode cX1_houses 19 = .ok (.aload_n 2, 1) := dk_44 (dk_at dksX1_houses_0 19 rfl rfl)
theorem dX1_houses_20 : decode cX1_houses 20 = .ok (.invokeinterface 201 1, 5) := by decide +kernel
theorem dX1_houses_25 : decode cX1_houses 25 = .ok (.checkcast 108, 3) := dk_192 0 108 (dk_at dksX1_houses_1 5 rfl rfl)
theorem dX1_houses_28 : decode cX1_houses 28 = .ok (.astore_n 3, 1) := dk_78 (dk_at dksX1_houses_1 8 rfl rfl)
theorem dX1_houses_29 : decode cX1_houses 29 = .ok (.iload_n 1, 1) := dk_27 (dk_at dksX1_houses_1 9 rfl rfl)
theorem dX1_houses_30 : decode cX1_houses 30 = .ok (.aload_n 3, 1) := dk_45 (dk_at dksX1_houses_1 10 rfl rfl)
theorem dX1_houses_31 : decode cX1_houses 31 = .ok (.getfield 463, 3) := dk_180 1 207 (dk_at dksX1_houses_1 11 rfl rfl)
theorem dX1_houses_34 : decode cX1_houses 34 = .ok (.iadd, 1) := dk_96 (dk_at dksX1_houses_1 14 rfl rfl)
theorem dX1_houses_35 : decode cX1_houses 35 = .ok (.istore_n 1, 1) := dk_60 (dk_at dksX1_houses_1 15 rfl rfl)
theorem dX1_houses_36 : decode cX1_houses 36 = .ok (.goto (-26), 3) := dk_167 255 230 (dk_at dksX1_houses_1 16 rfl rfl)
theorem dX1_houses_39 : decode cX1_houses 39 = .ok (.iload_n 1, 1) := dk_27 (dk_at dksX1_houses_1 19 rfl rfl)
theorem dX1_houses_40 : decode cX1_houses 40 = .ok (.ireturn, 1) := dk_172 (dk_at dksX1_houses_1 20 rfl rfl)
abbrev cX1_oldStones : ByteArray := prog_1_method_70_code
def yX1_oldStones : MethodName := ⟨RX1, "oldStones", "()I"⟩
def dkwX1_oldStones_2 : List UInt8 := [167, 0, 4, 3, 184, 0, 209, 96, 60, 167, 255, 215, 27, 172]
abbrev dktX1_oldStones_2 : List UInt8 := dkwX1_oldStones_2 ++ []
def dkwX1_oldStones_1 : List UInt8 := [185, 0, 201, 1, 0, 192, 0, 108, 78, 27, 45, 180, 0, 226, 42, 180, 0, 159, 159, 0, 7, 4]
abbrev dktX1_oldStones_1 : List UInt8 := dkwX1_oldStones_1 ++ dktX1_oldStones_2
def dkwX1_oldStones_0 : List UInt8 := [3, 60, 42, 180, 0, 19, 182, 0, 191, 77, 44, 185, 0, 195, 1, 0, 153, 0, 38, 44]
abbrev dktX1_oldStones_0 : List UInt8 := dkwX1_oldStones_0 ++ dktX1_oldStones_1
theorem dksX1_oldStones_0 : cX1_oldStones.data.toList.drop 0 = dktX1_oldStones_0 := by decide +kernel
theorem dksX1_oldStones_1 : cX1_oldStones.data.toList.drop 20 = dktX1_oldStones_1 := dk_seg dksX1_oldStones_0 20 rfl rfl
theorem dksX1_oldStones_2 : cX1_oldStones.data.toList.drop 42 = dktX1_oldStones_2 := dk_seg dksX1_oldStones_1 22 rfl rfl
theorem dX1_oldStones_0 : decode cX1_oldStones 0 = .ok (.iconst 0, 1) := dk_3 (dk_at dksX1_oldStones_0 0 rfl rfl)
theorem dX1_oldStones_1 : decode cX1_oldStones 1 = .ok (.istore_n 1, 1) := dk_60 (dk_at dksX1_oldStones_0 1 rfl rfl)
theorem dX1_oldStones_2 : decode cX1_oldStones 2 = .ok (.aload_n 0, 1) := dk_42 (dk_at dksX1_oldStones_0 2 rfl rfl)
theorem dX1_oldStones_3 : decode cX1_oldStones 3 = .ok (.getfield 19, 3) := dk_180 0 19 (dk_at dksX1_oldStones_0 3 rfl rfl)
theorem dX1_oldStones_6 : decode cX1_oldStones 6 = .ok (.invokevirtual 191, 3) := dk_182 0 191 (dk_at dksX1_oldStones_0 6 rfl rfl)
theorem dX1_oldStones_9 : decode cX1_oldStones 9 = .ok (.astore_n 2, 1) := dk_77 (dk_at dksX1_oldStones_0 9 rfl rfl)
theorem dX1_oldStones_10 : decode cX1_oldStones 10 = .ok (.aload_n 2, 1) := dk_44 (dk_at dksX1_oldStones_0 10 rfl rfl)
theorem dX1_oldStones_11 : decode cX1_oldStones 11 = .ok (.invokeinterface 195 1, 5) := by decide +kernel
theorem dX1_oldStones_16 : decode cX1_oldStones 16 = .ok (.ifCond .eq 38, 3) := dk_153 0 38 (dk_at dksX1_oldStones_0 16 rfl rfl)
theorem dX1_oldStones_19 : decode cX1_oldStones 19 = .ok (.aload_n 2, 1) := dk_44 (dk_at dksX1_oldStones_0 19 rfl rfl)
theorem dX1_oldStones_20 : decode cX1_oldStones 20 = .ok (.invokeinterface 201 1, 5) := by decide +kernel
theorem dX1_oldStones_25 : decode cX1_oldStones 25 = .ok (.checkcast 108, 3) := dk_192 0 108 (dk_at dksX1_oldStones_1 5 rfl rfl)
theorem dX1_oldStones_28 : decode cX1_oldStones 28 = .ok (.astore_n 3, 1) := dk_78 (dk_at dksX1_oldStones_1 8 rfl rfl)
theorem dX1_oldStones_29 : decode cX1_oldStones 29 = .ok (.iload_n 1, 1) := dk_27 (dk_at dksX1_oldStones_1 9 rfl rfl)
theorem dX1_oldStones_30 : decode cX1_oldStones 30 = .ok (.aload_n 3, 1) := dk_45 (dk_at dksX1_oldStones_1 10 rfl rfl)
theorem dX1_oldStones_31 : decode cX1_oldStones 31 = .ok (.getfield 226, 3) := dk_180 0 226 (dk_at dksX1_oldStones_1 11 rfl rfl)
theorem dX1_oldStones_34 : decode cX1_oldStones 34 = .ok (.aload_n 0, 1) := dk_42 (dk_at dksX1_oldStones_1 14 rfl rfl)
theorem dX1_oldStones_35 : decode cX1_oldStones 35 = .ok (.getfield 159, 3) := dk_180 0 159 (dk_at dksX1_oldStones_1 15 rfl rfl)
theorem dX1_oldStones_38 : decode cX1_oldStones 38 = .ok (.if_icmp .eq 7, 3) := dk_159 0 7 (dk_at dksX1_oldStones_1 18 rfl rfl)
theorem dX1_oldStones_41 : decode cX1_oldStones 41 = .ok (.iconst 1, 1) := dk_4 (dk_at dksX1_oldStones_1 21 rfl rfl)
theorem dX1_oldStones_42 : decode cX1_oldStones 42 = .ok (.goto 4, 3) := dk_167 0 4 (dk_at dksX1_oldStones_2 0 rfl rfl)
theorem dX1_oldStones_45 : decode cX1_oldStones 45 = .ok (.iconst 0, 1) := dk_3 (dk_at dksX1_oldStones_2 3 rfl rfl)
theorem dX1_oldStones_46 : decode cX1_oldStones 46 = .ok (.invokestatic 209, 3) := dk_184 0 209 (dk_at dksX1_oldStones_2 4 rfl rfl)
theorem dX1_oldStones_49 : decode cX1_oldStones 49 = .ok (.iadd, 1) := dk_96 (dk_at dksX1_oldStones_2 7 rfl rfl)
theorem dX1_oldStones_50 : decode cX1_oldStones 50 = .ok (.istore_n 1, 1) := dk_60 (dk_at dksX1_oldStones_2 8 rfl rfl)
theorem dX1_oldStones_51 : decode cX1_oldStones 51 = .ok (.goto (-41), 3) := dk_167 255 215 (dk_at dksX1_oldStones_2 9 rfl rfl)
theorem dX1_oldStones_54 : decode cX1_oldStones 54 = .ok (.iload_n 1, 1) := dk_27 (dk_at dksX1_oldStones_2 12 rfl rfl)
theorem dX1_oldStones_55 : decode cX1_oldStones 55 = .ok (.ireturn, 1) := dk_172 (dk_at dksX1_oldStones_2 13 rfl rfl)
abbrev cX1_one : ByteArray := prog_1_method_1_code
def yX1_one : MethodName := ⟨RX1, "one", "(Z)I"⟩
def dkwX1_one_0 : List UInt8 := [26, 153, 0, 7, 4, 167, 0, 4, 3, 172]
abbrev dktX1_one_0 : List UInt8 := dkwX1_one_0 ++ []
theorem dksX1_one_0 : cX1_one.data.toList.drop 0 = dktX1_one_0 := by decide +kernel
theorem dX1_one_0 : decode cX1_one 0 = .ok (.iload_n 0, 1) := dk_26 (dk_at dksX1_one_0 0 rfl rfl)
theorem dX1_one_1 : decode cX1_one 1 = .ok (.ifCond .eq 7, 3) := dk_153 0 7 (dk_at dksX1_one_0 1 rfl rfl)
theorem dX1_one_4 : decode cX1_one 4 = .ok (.iconst 1, 1) := dk_4 (dk_at dksX1_one_0 4 rfl rfl)
theorem dX1_one_5 : decode cX1_one 5 = .ok (.goto 4, 3) := dk_167 0 4 (dk_at dksX1_one_0 5 rfl rfl)
theorem dX1_one_8 : decode cX1_one 8 = .ok (.iconst 0, 1) := dk_3 (dk_at dksX1_one_0 8 rfl rfl)
theorem dX1_one_9 : decode cX1_one 9 = .ok (.ireturn, 1) := dk_172 (dk_at dksX1_one_0 9 rfl rfl)
abbrev cX1_add : ByteArray := prog_1_method_86_code
def yX1_add : MethodName := ⟨RX1, "add", "(J)V"⟩
def dkwX1_add_0 : List UInt8 := [42, 42, 180, 2, 161, 20, 2, 165, 105, 31, 97, 181, 2, 161, 177]
abbrev dktX1_add_0 : List UInt8 := dkwX1_add_0 ++ []
theorem dksX1_add_0 : cX1_add.data.toList.drop 0 = dktX1_add_0 := by decide +kernel
theorem dX1_add_0 : decode cX1_add 0 = .ok (.aload_n 0, 1) := dk_42 (dk_at dksX1_add_0 0 rfl rfl)
theorem dX1_add_1 : decode cX1_add 1 = .ok (.aload_n 0, 1) := dk_42 (dk_at dksX1_add_0 1 rfl rfl)
theorem dX1_add_2 : decode cX1_add 2 = .ok (.getfield 673, 3) := dk_180 2 161 (dk_at dksX1_add_0 2 rfl rfl)
theorem dX1_add_5 : decode cX1_add 5 = .ok (.ldc2_w 677, 3) := dk_20 2 165 (dk_at dksX1_add_0 5 rfl rfl)
theorem dX1_add_8 : decode cX1_add 8 = .ok (.lmul, 1) := dk_105 (dk_at dksX1_add_0 8 rfl rfl)
theorem dX1_add_9 : decode cX1_add 9 = .ok (.lload_n 1, 1) := dk_31 (dk_at dksX1_add_0 9 rfl rfl)
theorem dX1_add_10 : decode cX1_add 10 = .ok (.ladd, 1) := dk_97 (dk_at dksX1_add_0 10 rfl rfl)
theorem dX1_add_11 : decode cX1_add 11 = .ok (.putfield 673, 3) := dk_181 2 161 (dk_at dksX1_add_0 11 rfl rfl)
theorem dX1_add_14 : decode cX1_add 14 = .ok (.return_, 1) := dk_177 (dk_at dksX1_add_0 14 rfl rfl)
abbrev cX1_told_2 : ByteArray := prog_1_method_61_code
def yX1_told_2 : MethodName := ⟨RX1, "told", "(LPublicanry$Rule;I)I"⟩
def dkwX1_told_2_3 : List UInt8 := [180, 2, 25, 172]
abbrev dktX1_told_2_3 : List UInt8 := dkwX1_told_2_3 ++ []
def dkwX1_told_2_2 : List UInt8 := [42, 180, 0, 136, 172, 42, 180, 0, 126, 172, 42, 180, 2, 79, 172, 42, 180, 1, 236, 184, 0, 209, 172, 42]
abbrev dktX1_told_2_2 : List UInt8 := dkwX1_told_2_2 ++ dktX1_told_2_3
def dkwX1_told_2_1 : List UInt8 := [170, 0, 0, 0, 0, 0, 54, 0, 0, 0, 0, 0, 0, 0, 3, 0, 0, 0, 31, 0, 0, 0, 36, 0, 0, 0, 41, 0, 0, 0, 46]
abbrev dktX1_told_2_1 : List UInt8 := dkwX1_told_2_1 ++ dktX1_told_2_2
def dkwX1_told_2_0 : List UInt8 := [27]
abbrev dktX1_told_2_0 : List UInt8 := dkwX1_told_2_0 ++ dktX1_told_2_1
theorem dksX1_told_2_0 : cX1_told_2.data.toList.drop 0 = dktX1_told_2_0 := by decide +kernel
theorem dksX1_told_2_1 : cX1_told_2.data.toList.drop 1 = dktX1_told_2_1 := dk_seg dksX1_told_2_0 1 rfl rfl
theorem dksX1_told_2_2 : cX1_told_2.data.toList.drop 32 = dktX1_told_2_2 := dk_seg dksX1_told_2_1 31 rfl rfl
theorem dksX1_told_2_3 : cX1_told_2.data.toList.drop 56 = dktX1_told_2_3 := dk_seg dksX1_told_2_2 24 rfl rfl
theorem dX1_told_2_0 : decode cX1_told_2 0 = .ok (.iload_n 1, 1) := dk_27 (dk_at dksX1_told_2_0 0 rfl rfl)
theorem dX1_told_2_1 : decode cX1_told_2 1 = .ok (.tableswitch 54 0 3 #[31, 36, 41, 46], 31) := by decide +kernel
theorem dX1_told_2_32 : decode cX1_told_2 32 = .ok (.aload_n 0, 1) := dk_42 (dk_at dksX1_told_2_2 0 rfl rfl)
theorem dX1_told_2_33 : decode cX1_told_2 33 = .ok (.getfield 136, 3) := dk_180 0 136 (dk_at dksX1_told_2_2 1 rfl rfl)
theorem dX1_told_2_36 : decode cX1_told_2 36 = .ok (.ireturn, 1) := dk_172 (dk_at dksX1_told_2_2 4 rfl rfl)
theorem dX1_told_2_37 : decode cX1_told_2 37 = .ok (.aload_n 0, 1) := dk_42 (dk_at dksX1_told_2_2 5 rfl rfl)
theorem dX1_told_2_38 : decode cX1_told_2 38 = .ok (.getfield 126, 3) := dk_180 0 126 (dk_at dksX1_told_2_2 6 rfl rfl)
theorem dX1_told_2_41 : decode cX1_told_2 41 = .ok (.ireturn, 1) := dk_172 (dk_at dksX1_told_2_2 9 rfl rfl)
theorem dX1_told_2_42 : decode cX1_told_2 42 = .ok (.aload_n 0, 1) := dk_42 (dk_at dksX1_told_2_2 10 rfl rfl)
theorem dX1_told_2_43 : decode cX1_told_2 43 = .ok (.getfield 591, 3) := dk_180 2 79 (dk_at dksX1_told_2_2 11 rfl rfl)
theorem dX1_told_2_46 : decode cX1_told_2 46 = .ok (.ireturn, 1) := dk_172 (dk_at dksX1_told_2_2 14 rfl rfl)
theorem dX1_told_2_47 : decode cX1_told_2 47 = .ok (.aload_n 0, 1) := dk_42 (dk_at dksX1_told_2_2 15 rfl rfl)
theorem dX1_told_2_48 : decode cX1_told_2 48 = .ok (.getfield 492, 3) := dk_180 1 236 (dk_at dksX1_told_2_2 16 rfl rfl)
theorem dX1_told_2_51 : decode cX1_told_2 51 = .ok (.invokestatic 209, 3) := dk_184 0 209 (dk_at dksX1_told_2_2 19 rfl rfl)
theorem dX1_told_2_54 : decode cX1_told_2 54 = .ok (.ireturn, 1) := dk_172 (dk_at dksX1_told_2_2 22 rfl rfl)
theorem dX1_told_2_55 : decode cX1_told_2 55 = .ok (.aload_n 0, 1) := dk_42 (dk_at dksX1_told_2_2 23 rfl rfl)
theorem dX1_told_2_56 : decode cX1_told_2 56 = .ok (.getfield 537, 3) := dk_180 2 25 (dk_at dksX1_told_2_3 0 rfl rfl)
theorem dX1_told_2_59 : decode cX1_told_2 59 = .ok (.ireturn, 1) := dk_172 (dk_at dksX1_told_2_3 3 rfl rfl)
abbrev cX1_direct : ByteArray := prog_1_method_81_code
def yX1_direct : MethodName := ⟨RX1, "direct", "(LPublicanry$Duty;)I"⟩
def dkwX1_direct_4 : List UInt8 := [172]
abbrev dktX1_direct_4 : List UInt8 := dkwX1_direct_4 ++ []
def dkwX1_direct_3 : List UInt8 := [3, 42, 180, 0, 47, 42, 180, 0, 40, 3, 182, 1, 254, 182, 1, 198, 7, 100, 96, 61, 167, 255, 180, 28]
abbrev dktX1_direct_3 : List UInt8 := dkwX1_direct_3 ++ dktX1_direct_4
def dkwX1_direct_2 : List UInt8 := [180, 2, 14, 154, 0, 41, 28, 43, 43, 25, 4, 25, 4, 42, 25, 4, 43, 182, 2, 5, 4, 182, 1, 251]
abbrev dktX1_direct_2 : List UInt8 := dkwX1_direct_2 ++ dktX1_direct_3
def dkwX1_direct_1 : List UInt8 := [185, 0, 201, 1, 0, 192, 0, 108, 58, 4, 42, 25, 4, 43, 182, 2, 21, 154, 0, 49, 25, 4]
abbrev dktX1_direct_1 : List UInt8 := dkwX1_direct_1 ++ dktX1_direct_2
def dkwX1_direct_0 : List UInt8 := [3, 61, 42, 180, 0, 19, 182, 0, 191, 78, 45, 185, 0, 195, 1, 0, 153, 0, 73, 45]
abbrev dktX1_direct_0 : List UInt8 := dkwX1_direct_0 ++ dktX1_direct_1
theorem dksX1_direct_0 : cX1_direct.data.toList.drop 0 = dktX1_direct_0 := by decide +kernel
theorem dksX1_direct_1 : cX1_direct.data.toList.drop 20 = dktX1_direct_1 := dk_seg dksX1_direct_0 20 rfl rfl
theorem dksX1_direct_2 : cX1_direct.data.toList.drop 42 = dktX1_direct_2 := dk_seg dksX1_direct_1 22 rfl rfl
theorem dksX1_direct_3 : cX1_direct.data.toList.drop 66 = dktX1_direct_3 := dk_seg dksX1_direct_2 24 rfl rfl
theorem dksX1_direct_4 : cX1_direct.data.toList.drop 90 = dktX1_direct_4 := dk_seg dksX1_direct_3 24 rfl rfl
theorem dX1_direct_0 : decode cX1_direct 0 = .ok (.iconst 0, 1) := dk_3 (dk_at dksX1_direct_0 0 rfl rfl)
theorem dX1_direct_1 : decode cX1_direct 1 = .ok (.istore_n 2, 1) := dk_61 (dk_at dksX1_direct_0 1 rfl rfl)
theorem dX1_direct_2 : decode cX1_direct 2 = .ok (.aload_n 0, 1) := dk_42 (dk_at dksX1_direct_0 2 rfl rfl)
theorem dX1_direct_3 : decode cX1_direct 3 = .ok (.getfield 19, 3) := dk_180 0 19 (dk_at dksX1_direct_0 3 rfl rfl)
theorem dX1_direct_6 : decode cX1_direct 6 = .ok (.invokevirtual 191, 3) := dk_182 0 191 (dk_at dksX1_direct_0 6 rfl rfl)
theorem dX1_direct_9 : decode cX1_direct 9 = .ok (.astore_n 3, 1) := dk_78 (dk_at dksX1_direct_0 9 rfl rfl)
theorem dX1_direct_10 : decode cX1_direct 10 = .ok (.aload_n 3, 1) := dk_45 (dk_at dksX1_direct_0 10 rfl rfl)
theorem dX1_direct_11 : decode cX1_direct 11 = .ok (.invokeinterface 195 1, 5) := by decide +kernel
theorem dX1_direct_16 : decode cX1_direct 16 = .ok (.ifCond .eq 73, 3) := dk_153 0 73 (dk_at dksX1_direct_0 16 rfl rfl)
theorem dX1_direct_19 : decode cX1_direct 19 = .ok (.aload_n 3, 1) := dk_45 (dk_at dksX1_direct_0 19 rfl rfl)
theorem dX1_direct_20 : decode cX1_direct 20 = .ok (.invokeinterface 201 1, 5) := by decide +kernel
theorem dX1_direct_25 : decode cX1_direct 25 = .ok (.checkcast 108, 3) := dk_192 0 108 (dk_at dksX1_direct_1 5 rfl rfl)
theorem dX1_direct_28 : decode cX1_direct 28 = .ok (.astore 4, 2) := dk_58 4 (dk_at dksX1_direct_1 8 rfl rfl)
theorem dX1_direct_30 : decode cX1_direct 30 = .ok (.aload_n 0, 1) := dk_42 (dk_at dksX1_direct_1 10 rfl rfl)
theorem dX1_direct_31 : decode cX1_direct 31 = .ok (.aload 4, 2) := dk_25 4 (dk_at dksX1_direct_1 11 rfl rfl)
theorem dX1_direct_33 : decode cX1_direct 33 = .ok (.aload_n 1, 1) := dk_43 (dk_at dksX1_direct_1 13 rfl rfl)
theorem dX1_direct_34 : decode cX1_direct 34 = .ok (.invokevirtual 533, 3) := dk_182 2 21 (dk_at dksX1_direct_1 14 rfl rfl)
theorem dX1_direct_37 : decode cX1_direct 37 = .ok (.ifCond .ne 49, 3) := dk_154 0 49 (dk_at dksX1_direct_1 17 rfl rfl)
theorem dX1_direct_40 : decode cX1_direct 40 = .ok (.aload 4, 2) := dk_25 4 (dk_at dksX1_direct_1 20 rfl rfl)
theorem dX1_direct_42 : decode cX1_direct 42 = .ok (.getfield 526, 3) := dk_180 2 14 (dk_at dksX1_direct_2 0 rfl rfl)
theorem dX1_direct_45 : decode cX1_direct 45 = .ok (.ifCond .ne 41, 3) := dk_154 0 41 (dk_at dksX1_direct_2 3 rfl rfl)
theorem dX1_direct_48 : decode cX1_direct 48 = .ok (.iload_n 2, 1) := dk_28 (dk_at dksX1_direct_2 6 rfl rfl)
theorem dX1_direct_49 : decode cX1_direct 49 = .ok (.aload_n 1, 1) := dk_43 (dk_at dksX1_direct_2 7 rfl rfl)
theorem dX1_direct_50 : decode cX1_direct 50 = .ok (.aload_n 1, 1) := dk_43 (dk_at dksX1_direct_2 8 rfl rfl)
theorem dX1_direct_51 : decode cX1_direct 51 = .ok (.aload 4, 2) := dk_25 4 (dk_at dksX1_direct_2 9 rfl rfl)
theorem dX1_direct_53 : decode cX1_direct 53 = .ok (.aload 4, 2) := dk_25 4 (dk_at dksX1_direct_2 11 rfl rfl)
theorem dX1_direct_55 : decode cX1_direct 55 = .ok (.aload_n 0, 1) := dk_42 (dk_at dksX1_direct_2 13 rfl rfl)
theorem dX1_direct_56 : decode cX1_direct 56 = .ok (.aload 4, 2) := dk_25 4 (dk_at dksX1_direct_2 14 rfl rfl)
theorem dX1_direct_58 : decode cX1_direct 58 = .ok (.aload_n 1, 1) := dk_43 (dk_at dksX1_direct_2 16 rfl rfl)
theorem dX1_direct_59 : decode cX1_direct 59 = .ok (.invokevirtual 517, 3) := dk_182 2 5 (dk_at dksX1_direct_2 17 rfl rfl)
theorem dX1_direct_62 : decode cX1_direct 62 = .ok (.iconst 1, 1) := dk_4 (dk_at dksX1_direct_2 20 rfl rfl)
theorem dX1_direct_63 : decode cX1_direct 63 = .ok (.invokevirtual 507, 3) := dk_182 1 251 (dk_at dksX1_direct_2 21 rfl rfl)
theorem dX1_direct_66 : decode cX1_direct 66 = .ok (.iconst 0, 1) := dk_3 (dk_at dksX1_direct_3 0 rfl rfl)
theorem dX1_direct_67 : decode cX1_direct 67 = .ok (.aload_n 0, 1) := dk_42 (dk_at dksX1_direct_3 1 rfl rfl)
theorem dX1_direct_68 : decode cX1_direct 68 = .ok (.getfield 47, 3) := dk_180 0 47 (dk_at dksX1_direct_3 2 rfl rfl)
theorem dX1_direct_71 : decode cX1_direct 71 = .ok (.aload_n 0, 1) := dk_42 (dk_at dksX1_direct_3 5 rfl rfl)
theorem dX1_direct_72 : decode cX1_direct 72 = .ok (.getfield 40, 3) := dk_180 0 40 (dk_at dksX1_direct_3 6 rfl rfl)
theorem dX1_direct_75 : decode cX1_direct 75 = .ok (.iconst 0, 1) := dk_3 (dk_at dksX1_direct_3 9 rfl rfl)
theorem dX1_direct_76 : decode cX1_direct 76 = .ok (.invokevirtual 510, 3) := dk_182 1 254 (dk_at dksX1_direct_3 10 rfl rfl)
theorem dX1_direct_79 : decode cX1_direct 79 = .ok (.invokevirtual 454, 3) := dk_182 1 198 (dk_at dksX1_direct_3 13 rfl rfl)
theorem dX1_direct_82 : decode cX1_direct 82 = .ok (.iconst 4, 1) := dk_7 (dk_at dksX1_direct_3 16 rfl rfl)
theorem dX1_direct_83 : decode cX1_direct 83 = .ok (.isub, 1) := dk_100 (dk_at dksX1_direct_3 17 rfl rfl)
theorem dX1_direct_84 : decode cX1_direct 84 = .ok (.iadd, 1) := dk_96 (dk_at dksX1_direct_3 18 rfl rfl)
theorem dX1_direct_85 : decode cX1_direct 85 = .ok (.istore_n 2, 1) := dk_61 (dk_at dksX1_direct_3 19 rfl rfl)
theorem dX1_direct_86 : decode cX1_direct 86 = .ok (.goto (-76), 3) := dk_167 255 180 (dk_at dksX1_direct_3 20 rfl rfl)
theorem dX1_direct_89 : decode cX1_direct 89 = .ok (.iload_n 2, 1) := dk_28 (dk_at dksX1_direct_3 23 rfl rfl)
theorem dX1_direct_90 : decode cX1_direct 90 = .ok (.ireturn, 1) := dk_172 (dk_at dksX1_direct_4 0 rfl rfl)
abbrev cX1_isLet : ByteArray := prog_1_method_50_code
def yX1_isLet : MethodName := ⟨RX1, "isLet", "(LPublicanry$Village;LPublicanry$Duty;)Z"⟩
def dkwX1_isLet_2 : List UInt8 := [180, 1, 119, 43, 180, 0, 129, 184, 0, 132, 153, 0, 5, 4, 172, 167, 255, 202, 3, 172]
abbrev dktX1_isLet_2 : List UInt8 := dkwX1_isLet_2 ++ []
def dkwX1_isLet_1 : List UInt8 := [192, 0, 116, 58, 4, 25, 4, 182, 1, 116, 153, 0, 29, 25, 4, 180, 1, 245, 44, 166, 0, 20, 25, 4]
abbrev dktX1_isLet_1 : List UInt8 := dkwX1_isLet_1 ++ dktX1_isLet_2
def dkwX1_isLet_0 : List UInt8 := [42, 180, 0, 28, 182, 0, 191, 78, 45, 185, 0, 195, 1, 0, 153, 0, 51, 45, 185, 0, 201, 1, 0]
abbrev dktX1_isLet_0 : List UInt8 := dkwX1_isLet_0 ++ dktX1_isLet_1
theorem dksX1_isLet_0 : cX1_isLet.data.toList.drop 0 = dktX1_isLet_0 := by decide +kernel
theorem dksX1_isLet_1 : cX1_isLet.data.toList.drop 23 = dktX1_isLet_1 := dk_seg dksX1_isLet_0 23 rfl rfl
theorem dksX1_isLet_2 : cX1_isLet.data.toList.drop 47 = dktX1_isLet_2 := dk_seg dksX1_isLet_1 24 rfl rfl
theorem dX1_isLet_0 : decode cX1_isLet 0 = .ok (.aload_n 0, 1) := dk_42 (dk_at dksX1_isLet_0 0 rfl rfl)
theorem dX1_isLet_1 : decode cX1_isLet 1 = .ok (.getfield 28, 3) := dk_180 0 28 (dk_at dksX1_isLet_0 1 rfl rfl)
theorem dX1_isLet_4 : decode cX1_isLet 4 = .ok (.invokevirtual 191, 3) := dk_182 0 191 (dk_at dksX1_isLet_0 4 rfl rfl)
theorem dX1_isLet_7 : decode cX1_isLet 7 = .ok (.astore_n 3, 1) := dk_78 (dk_at dksX1_isLet_0 7 rfl rfl)
theorem dX1_isLet_8 : decode cX1_isLet 8 = .ok (.aload_n 3, 1) := dk_45 (dk_at dksX1_isLet_0 8 rfl rfl)
theorem dX1_isLet_9 : decode cX1_isLet 9 = .ok (.invokeinterface 195 1, 5) := by decide +kernel
theorem dX1_isLet_14 : decode cX1_isLet 14 = .ok (.ifCond .eq 51, 3) := dk_153 0 51 (dk_at dksX1_isLet_0 14 rfl rfl)
theorem dX1_isLet_17 : decode cX1_isLet 17 = .ok (.aload_n 3, 1) := dk_45 (dk_at dksX1_isLet_0 17 rfl rfl)
theorem dX1_isLet_18 : decode cX1_isLet 18 = .ok (.invokeinterface 201 1, 5) := by decide +kernel
theorem dX1_isLet_23 : decode cX1_isLet 23 = .ok (.checkcast 116, 3) := dk_192 0 116 (dk_at dksX1_isLet_1 0 rfl rfl)
theorem dX1_isLet_26 : decode cX1_isLet 26 = .ok (.astore 4, 2) := dk_58 4 (dk_at dksX1_isLet_1 3 rfl rfl)
theorem dX1_isLet_28 : decode cX1_isLet 28 = .ok (.aload 4, 2) := dk_25 4 (dk_at dksX1_isLet_1 5 rfl rfl)
theorem dX1_isLet_30 : decode cX1_isLet 30 = .ok (.invokevirtual 372, 3) := dk_182 1 116 (dk_at dksX1_isLet_1 7 rfl rfl)
theorem dX1_isLet_33 : decode cX1_isLet 33 = .ok (.ifCond .eq 29, 3) := dk_153 0 29 (dk_at dksX1_isLet_1 10 rfl rfl)
theorem dX1_isLet_36 : decode cX1_isLet 36 = .ok (.aload 4, 2) := dk_25 4 (dk_at dksX1_isLet_1 13 rfl rfl)
theorem dX1_isLet_38 : decode cX1_isLet 38 = .ok (.getfield 501, 3) := dk_180 1 245 (dk_at dksX1_isLet_1 15 rfl rfl)
theorem dX1_isLet_41 : decode cX1_isLet 41 = .ok (.aload_n 2, 1) := dk_44 (dk_at dksX1_isLet_1 18 rfl rfl)
theorem dX1_isLet_42 : decode cX1_isLet 42 = .ok (.if_acmp .ne 20, 3) := dk_166 0 20 (dk_at dksX1_isLet_1 19 rfl rfl)
theorem dX1_isLet_45 : decode cX1_isLet 45 = .ok (.aload 4, 2) := dk_25 4 (dk_at dksX1_isLet_1 22 rfl rfl)
theorem dX1_isLet_47 : decode cX1_isLet 47 = .ok (.getfield 375, 3) := dk_180 1 119 (dk_at dksX1_isLet_2 0 rfl rfl)
theorem dX1_isLet_50 : decode cX1_isLet 50 = .ok (.aload_n 1, 1) := dk_43 (dk_at dksX1_isLet_2 3 rfl rfl)
theorem dX1_isLet_51 : decode cX1_isLet 51 = .ok (.getfield 129, 3) := dk_180 0 129 (dk_at dksX1_isLet_2 4 rfl rfl)
theorem dX1_isLet_54 : decode cX1_isLet 54 = .ok (.invokestatic 132, 3) := dk_184 0 132 (dk_at dksX1_isLet_2 7 rfl rfl)
theorem dX1_isLet_57 : decode cX1_isLet 57 = .ok (.ifCond .eq 5, 3) := dk_153 0 5 (dk_at dksX1_isLet_2 10 rfl rfl)
theorem dX1_isLet_60 : decode cX1_isLet 60 = .ok (.iconst 1, 1) := dk_4 (dk_at dksX1_isLet_2 13 rfl rfl)
theorem dX1_isLet_61 : decode cX1_isLet 61 = .ok (.ireturn, 1) := dk_172 (dk_at dksX1_isLet_2 14 rfl rfl)
theorem dX1_isLet_62 : decode cX1_isLet 62 = .ok (.goto (-54), 3) := dk_167 255 202 (dk_at dksX1_isLet_2 15 rfl rfl)
theorem dX1_isLet_65 : decode cX1_isLet 65 = .ok (.iconst 0, 1) := dk_3 (dk_at dksX1_isLet_2 18 rfl rfl)
theorem dX1_isLet_66 : decode cX1_isLet 66 = .ok (.ireturn, 1) := dk_172 (dk_at dksX1_isLet_2 19 rfl rfl)
abbrev cX1_has : ByteArray := prog_1_method_2_code
def yX1_has : MethodName := ⟨RX1, "has", "(II)Z"⟩
def dkwX1_has_0 : List UInt8 := [26, 27, 122, 4, 126, 4, 160, 0, 7, 4, 167, 0, 4, 3, 172]
abbrev dktX1_has_0 : List UInt8 := dkwX1_has_0 ++ []
theorem dksX1_has_0 : cX1_has.data.toList.drop 0 = dktX1_has_0 := by decide +kernel
theorem dX1_has_0 : decode cX1_has 0 = .ok (.iload_n 0, 1) := dk_26 (dk_at dksX1_has_0 0 rfl rfl)
theorem dX1_has_1 : decode cX1_has 1 = .ok (.iload_n 1, 1) := dk_27 (dk_at dksX1_has_0 1 rfl rfl)
theorem dX1_has_2 : decode cX1_has 2 = .ok (.ishr, 1) := dk_122 (dk_at dksX1_has_0 2 rfl rfl)
theorem dX1_has_3 : decode cX1_has 3 = .ok (.iconst 1, 1) := dk_4 (dk_at dksX1_has_0 3 rfl rfl)
theorem dX1_has_4 : decode cX1_has 4 = .ok (.iand, 1) := dk_126 (dk_at dksX1_has_0 4 rfl rfl)
theorem dX1_has_5 : decode cX1_has 5 = .ok (.iconst 1, 1) := dk_4 (dk_at dksX1_has_0 5 rfl rfl)
theorem dX1_has_6 : decode cX1_has 6 = .ok (.if_icmp .ne 7, 3) := dk_160 0 7 (dk_at dksX1_has_0 6 rfl rfl)
theorem dX1_has_9 : decode cX1_has 9 = .ok (.iconst 1, 1) := dk_4 (dk_at dksX1_has_0 9 rfl rfl)
theorem dX1_has_10 : decode cX1_has 10 = .ok (.goto 4, 3) := dk_167 0 4 (dk_at dksX1_has_0 10 rfl rfl)
theorem dX1_has_13 : decode cX1_has 13 = .ok (.iconst 0, 1) := dk_3 (dk_at dksX1_has_0 13 rfl rfl)
theorem dX1_has_14 : decode cX1_has 14 = .ok (.ireturn, 1) := dk_172 (dk_at dksX1_has_0 14 rfl rfl)
abbrev cX1_dueByLaw : ByteArray := prog_1_method_15_code
def yX1_dueByLaw : MethodName := ⟨RX1, "dueByLaw", "(LPublicanry$Village;LPublicanry$Duty;)I"⟩
def dkwX1_dueByLaw_1 : List UInt8 := [3, 167, 0, 12, 44, 43, 45, 180, 0, 136, 182, 0, 139, 172]
abbrev dktX1_dueByLaw_1 : List UInt8 := dkwX1_dueByLaw_1 ++ []
def dkwX1_dueByLaw_0 : List UInt8 := [42, 180, 0, 33, 44, 182, 0, 123, 50, 78, 45, 180, 0, 126, 43, 180, 0, 129, 184, 0, 132, 153, 0, 7]
abbrev dktX1_dueByLaw_0 : List UInt8 := dkwX1_dueByLaw_0 ++ dktX1_dueByLaw_1
theorem dksX1_dueByLaw_0 : cX1_dueByLaw.data.toList.drop 0 = dktX1_dueByLaw_0 := by decide +kernel
theorem dksX1_dueByLaw_1 : cX1_dueByLaw.data.toList.drop 24 = dktX1_dueByLaw_1 := dk_seg dksX1_dueByLaw_0 24 rfl rfl
theorem dX1_dueByLaw_0 : decode cX1_dueByLaw 0 = .ok (.aload_n 0, 1) := dk_42 (dk_at dksX1_dueByLaw_0 0 rfl rfl)
theorem dX1_dueByLaw_1 : decode cX1_dueByLaw 1 = .ok (.getfield 33, 3) := dk_180 0 33 (dk_at dksX1_dueByLaw_0 1 rfl rfl)
theorem dX1_dueByLaw_4 : decode cX1_dueByLaw 4 = .ok (.aload_n 2, 1) := dk_44 (dk_at dksX1_dueByLaw_0 4 rfl rfl)
theorem dX1_dueByLaw_5 : decode cX1_dueByLaw 5 = .ok (.invokevirtual 123, 3) := dk_182 0 123 (dk_at dksX1_dueByLaw_0 5 rfl rfl)
theorem dX1_dueByLaw_8 : decode cX1_dueByLaw 8 = .ok (.aaload, 1) := dk_50 (dk_at dksX1_dueByLaw_0 8 rfl rfl)
theorem dX1_dueByLaw_9 : decode cX1_dueByLaw 9 = .ok (.astore_n 3, 1) := dk_78 (dk_at dksX1_dueByLaw_0 9 rfl rfl)
theorem dX1_dueByLaw_10 : decode cX1_dueByLaw 10 = .ok (.aload_n 3, 1) := dk_45 (dk_at dksX1_dueByLaw_0 10 rfl rfl)
theorem dX1_dueByLaw_11 : decode cX1_dueByLaw 11 = .ok (.getfield 126, 3) := dk_180 0 126 (dk_at dksX1_dueByLaw_0 11 rfl rfl)
theorem dX1_dueByLaw_14 : decode cX1_dueByLaw 14 = .ok (.aload_n 1, 1) := dk_43 (dk_at dksX1_dueByLaw_0 14 rfl rfl)
theorem dX1_dueByLaw_15 : decode cX1_dueByLaw 15 = .ok (.getfield 129, 3) := dk_180 0 129 (dk_at dksX1_dueByLaw_0 15 rfl rfl)
theorem dX1_dueByLaw_18 : decode cX1_dueByLaw 18 = .ok (.invokestatic 132, 3) := dk_184 0 132 (dk_at dksX1_dueByLaw_0 18 rfl rfl)
theorem dX1_dueByLaw_21 : decode cX1_dueByLaw 21 = .ok (.ifCond .eq 7, 3) := dk_153 0 7 (dk_at dksX1_dueByLaw_0 21 rfl rfl)
theorem dX1_dueByLaw_24 : decode cX1_dueByLaw 24 = .ok (.iconst 0, 1) := dk_3 (dk_at dksX1_dueByLaw_1 0 rfl rfl)
theorem dX1_dueByLaw_25 : decode cX1_dueByLaw 25 = .ok (.goto 12, 3) := dk_167 0 12 (dk_at dksX1_dueByLaw_1 1 rfl rfl)
theorem dX1_dueByLaw_28 : decode cX1_dueByLaw 28 = .ok (.aload_n 2, 1) := dk_44 (dk_at dksX1_dueByLaw_1 4 rfl rfl)
theorem dX1_dueByLaw_29 : decode cX1_dueByLaw 29 = .ok (.aload_n 1, 1) := dk_43 (dk_at dksX1_dueByLaw_1 5 rfl rfl)
theorem dX1_dueByLaw_30 : decode cX1_dueByLaw 30 = .ok (.aload_n 3, 1) := dk_45 (dk_at dksX1_dueByLaw_1 6 rfl rfl)
theorem dX1_dueByLaw_31 : decode cX1_dueByLaw 31 = .ok (.getfield 136, 3) := dk_180 0 136 (dk_at dksX1_dueByLaw_1 7 rfl rfl)
theorem dX1_dueByLaw_34 : decode cX1_dueByLaw 34 = .ok (.invokevirtual 139, 3) := dk_182 0 139 (dk_at dksX1_dueByLaw_1 10 rfl rfl)
theorem dX1_dueByLaw_37 : decode cX1_dueByLaw 37 = .ok (.ireturn, 1) := dk_172 (dk_at dksX1_dueByLaw_1 13 rfl rfl)
abbrev cX1_hold : ByteArray := prog_1_method_3_code
def yX1_hold : MethodName := ⟨RX1, "hold", "(III)I"⟩
def dkwX1_hold_0 : List UInt8 := [27, 28, 26, 184, 0, 1, 184, 0, 7, 172]
abbrev dktX1_hold_0 : List UInt8 := dkwX1_hold_0 ++ []
theorem dksX1_hold_0 : cX1_hold.data.toList.drop 0 = dktX1_hold_0 := by decide +kernel
theorem dX1_hold_0 : decode cX1_hold 0 = .ok (.iload_n 1, 1) := dk_27 (dk_at dksX1_hold_0 0 rfl rfl)
theorem dX1_hold_1 : decode cX1_hold 1 = .ok (.iload_n 2, 1) := dk_28 (dk_at dksX1_hold_0 1 rfl rfl)
theorem dX1_hold_2 : decode cX1_hold 2 = .ok (.iload_n 0, 1) := dk_26 (dk_at dksX1_hold_0 2 rfl rfl)
theorem dX1_hold_3 : decode cX1_hold 3 = .ok (.invokestatic 1, 3) := dk_184 0 1 (dk_at dksX1_hold_0 3 rfl rfl)
theorem dX1_hold_6 : decode cX1_hold 6 = .ok (.invokestatic 7, 3) := dk_184 0 7 (dk_at dksX1_hold_0 6 rfl rfl)
theorem dX1_hold_9 : decode cX1_hold 9 = .ok (.ireturn, 1) := dk_172 (dk_at dksX1_hold_0 9 rfl rfl)
abbrev cX1_addVillage : ByteArray := prog_1_method_87_code
def yX1_addVillage : MethodName := ⟨RX1, "addVillage", "(LPublicanry$Village;)V"⟩
def dkwX1_addVillage_4 : List UInt8 := [21, 6, 184, 2, 76, 133, 182, 2, 167, 132, 6, 1, 167, 255, 221, 132, 4, 1, 167, 255, 177, 177]
abbrev dktX1_addVillage_4 : List UInt8 := dkwX1_addVillage_4 ++ []
def dkwX1_addVillage_3 : List UInt8 := [21, 6, 16, 6, 162, 0, 34, 42, 43, 180, 1, 161, 25, 5, 182, 0, 123, 182, 0, 104, 192, 1, 50]
abbrev dktX1_addVillage_3 : List UInt8 := dkwX1_addVillage_3 ++ dktX1_addVillage_4
def dkwX1_addVillage_2 : List UInt8 := [25, 5, 182, 1, 248, 133, 182, 2, 167, 42, 42, 43, 25, 5, 182, 2, 5, 133, 182, 2, 167, 3, 54, 6]
abbrev dktX1_addVillage_2 : List UInt8 := dkwX1_addVillage_2 ++ dktX1_addVillage_3
def dkwX1_addVillage_1 : List UInt8 := [184, 0, 71, 77, 44, 190, 62, 3, 54, 4, 21, 4, 29, 162, 0, 79, 44, 21, 4, 50, 58, 5, 42, 43]
abbrev dktX1_addVillage_1 : List UInt8 := dkwX1_addVillage_1 ++ dktX1_addVillage_2
def dkwX1_addVillage_0 : List UInt8 := [3, 61, 28, 16, 14, 162, 0, 19, 42, 43, 28, 184, 2, 68, 133, 182, 2, 167, 132, 2, 1, 167, 255, 237]
abbrev dktX1_addVillage_0 : List UInt8 := dkwX1_addVillage_0 ++ dktX1_addVillage_1
theorem dksX1_addVillage_0 : cX1_addVillage.data.toList.drop 0 = dktX1_addVillage_0 := by decide +kernel
theorem dksX1_addVillage_1 : cX1_addVillage.data.toList.drop 24 = dktX1_addVillage_1 := dk_seg dksX1_addVillage_0 24 rfl rfl
theorem dksX1_addVillage_2 : cX1_addVillage.data.toList.drop 48 = dktX1_addVillage_2 := dk_seg dksX1_addVillage_1 24 rfl rfl
theorem dksX1_addVillage_3 : cX1_addVillage.data.toList.drop 72 = dktX1_addVillage_3 := dk_seg dksX1_addVillage_2 24 rfl rfl
theorem dksX1_addVillage_4 : cX1_addVillage.data.toList.drop 95 = dktX1_addVillage_4 := dk_seg dksX1_addVillage_3 23 rfl rfl
theorem dX1_addVillage_0 : decode cX1_addVillage 0 = .ok (.iconst 0, 1) := dk_3 (dk_at dksX1_addVillage_0 0 rfl rfl)
theorem dX1_addVillage_1 : decode cX1_addVillage 1 = .ok (.istore_n 2, 1) := dk_61 (dk_at dksX1_addVillage_0 1 rfl rfl)
theorem dX1_addVillage_2 : decode cX1_addVillage 2 = .ok (.iload_n 2, 1) := dk_28 (dk_at dksX1_addVillage_0 2 rfl rfl)
theorem dX1_addVillage_3 : decode cX1_addVillage 3 = .ok (.bipush 14, 2) := dk_16 14 (dk_at dksX1_addVillage_0 3 rfl rfl)
theorem dX1_addVillage_5 : decode cX1_addVillage 5 = .ok (.if_icmp .ge 19, 3) := dk_162 0 19 (dk_at dksX1_addVillage_0 5 rfl rfl)
theorem dX1_addVillage_8 : decode cX1_addVillage 8 = .ok (.aload_n 0, 1) := dk_42 (dk_at dksX1_addVillage_0 8 rfl rfl)
theorem dX1_addVillage_9 : decode cX1_addVillage 9 = .ok (.aload_n 1, 1) := dk_43 (dk_at dksX1_addVillage_0 9 rfl rfl)
theorem dX1_addVillage_10 : decode cX1_addVillage 10 = .ok (.iload_n 2, 1) := dk_28 (dk_at dksX1_addVillage_0 10 rfl rfl)
theorem dX1_addVillage_11 : decode cX1_addVillage 11 = .ok (.invokestatic 580, 3) := dk_184 2 68 (dk_at dksX1_addVillage_0 11 rfl rfl)
theorem dX1_addVillage_14 : decode cX1_addVillage 14 = .ok (.i2l, 1) := dk_133 (dk_at dksX1_addVillage_0 14 rfl rfl)
theorem dX1_addVillage_15 : decode cX1_addVillage 15 = .ok (.invokevirtual 679, 3) := dk_182 2 167 (dk_at dksX1_addVillage_0 15 rfl rfl)
theorem dX1_addVillage_18 : decode cX1_addVillage 18 = .ok (.iinc 2 1, 3) := dk_132 2 1 (dk_at dksX1_addVillage_0 18 rfl rfl)
theorem dX1_addVillage_21 : decode cX1_addVillage 21 = .ok (.goto (-19), 3) := dk_167 255 237 (dk_at dksX1_addVillage_0 21 rfl rfl)
theorem dX1_addVillage_24 : decode cX1_addVillage 24 = .ok (.invokestatic 71, 3) := dk_184 0 71 (dk_at dksX1_addVillage_1 0 rfl rfl)
theorem dX1_addVillage_27 : decode cX1_addVillage 27 = .ok (.astore_n 2, 1) := dk_77 (dk_at dksX1_addVillage_1 3 rfl rfl)
theorem dX1_addVillage_28 : decode cX1_addVillage 28 = .ok (.aload_n 2, 1) := dk_44 (dk_at dksX1_addVillage_1 4 rfl rfl)
theorem dX1_addVillage_29 : decode cX1_addVillage 29 = .ok (.arraylength, 1) := dk_190 (dk_at dksX1_addVillage_1 5 rfl rfl)
theorem dX1_addVillage_30 : decode cX1_addVillage 30 = .ok (.istore_n 3, 1) := dk_62 (dk_at dksX1_addVillage_1 6 rfl rfl)
theorem dX1_addVillage_31 : decode cX1_addVillage 31 = .ok (.iconst 0, 1) := dk_3 (dk_at dksX1_addVillage_1 7 rfl rfl)
theorem dX1_addVillage_32 : decode cX1_addVillage 32 = .ok (.istore 4, 2) := dk_54 4 (dk_at dksX1_addVillage_1 8 rfl rfl)
theorem dX1_addVillage_34 : decode cX1_addVillage 34 = .ok (.iload 4, 2) := dk_21 4 (dk_at dksX1_addVillage_1 10 rfl rfl)
theorem dX1_addVillage_36 : decode cX1_addVillage 36 = .ok (.iload_n 3, 1) := dk_29 (dk_at dksX1_addVillage_1 12 rfl rfl)
theorem dX1_addVillage_37 : decode cX1_addVillage 37 = .ok (.if_icmp .ge 79, 3) := dk_162 0 79 (dk_at dksX1_addVillage_1 13 rfl rfl)
theorem dX1_addVillage_40 : decode cX1_addVillage 40 = .ok (.aload_n 2, 1) := dk_44 (dk_at dksX1_addVillage_1 16 rfl rfl)
theorem dX1_addVillage_41 : decode cX1_addVillage 41 = .ok (.iload 4, 2) := dk_21 4 (dk_at dksX1_addVillage_1 17 rfl rfl)
theorem dX1_addVillage_43 : decode cX1_addVillage 43 = .ok (.aaload, 1) := dk_50 (dk_at dksX1_addVillage_1 19 rfl rfl)
theorem dX1_addVillage_44 : decode cX1_addVillage 44 = .ok (.astore 5, 2) := dk_58 5 (dk_at dksX1_addVillage_1 20 rfl rfl)
theorem dX1_addVillage_46 : decode cX1_addVillage 46 = .ok (.aload_n 0, 1) := dk_42 (dk_at dksX1_addVillage_1 22 rfl rfl)
theorem dX1_addVillage_47 : decode cX1_addVillage 47 = .ok (.aload_n 1, 1) := dk_43 (dk_at dksX1_addVillage_1 23 rfl rfl)
theorem dX1_addVillage_48 : decode cX1_addVillage 48 = .ok (.aload 5, 2) := dk_25 5 (dk_at dksX1_addVillage_2 0 rfl rfl)
theorem dX1_addVillage_50 : decode cX1_addVillage 50 = .ok (.invokevirtual 504, 3) := dk_182 1 248 (dk_at dksX1_addVillage_2 2 rfl rfl)
theorem dX1_addVillage_53 : decode cX1_addVillage 53 = .ok (.i2l, 1) := dk_133 (dk_at dksX1_addVillage_2 5 rfl rfl)
theorem dX1_addVillage_54 : decode cX1_addVillage 54 = .ok (.invokevirtual 679, 3) := dk_182 2 167 (dk_at dksX1_addVillage_2 6 rfl rfl)
theorem dX1_addVillage_57 : decode cX1_addVillage 57 = .ok (.aload_n 0, 1) := dk_42 (dk_at dksX1_addVillage_2 9 rfl rfl)
theorem dX1_addVillage_58 : decode cX1_addVillage 58 = .ok (.aload_n 0, 1) := dk_42 (dk_at dksX1_addVillage_2 10 rfl rfl)
theorem dX1_addVillage_59 : decode cX1_addVillage 59 = .ok (.aload_n 1, 1) := dk_43 (dk_at dksX1_addVillage_2 11 rfl rfl)
theorem dX1_addVillage_60 : decode cX1_addVillage 60 = .ok (.aload 5, 2) := dk_25 5 (dk_at dksX1_addVillage_2 12 rfl rfl)
theorem dX1_addVillage_62 : decode cX1_addVillage 62 = .ok (.invokevirtual 517, 3) := dk_182 2 5 (dk_at dksX1_addVillage_2 14 rfl rfl)
theorem dX1_addVillage_65 : decode cX1_addVillage 65 = .ok (.i2l, 1) := dk_133 (dk_at dksX1_addVillage_2 17 rfl rfl)
theorem dX1_addVillage_66 : decode cX1_addVillage 66 = .ok (.invokevirtual 679, 3) := dk_182 2 167 (dk_at dksX1_addVillage_2 18 rfl rfl)
theorem dX1_addVillage_69 : decode cX1_addVillage 69 = .ok (.iconst 0, 1) := dk_3 (dk_at dksX1_addVillage_2 21 rfl rfl)
theorem dX1_addVillage_70 : decode cX1_addVillage 70 = .ok (.istore 6, 2) := dk_54 6 (dk_at dksX1_addVillage_2 22 rfl rfl)
theorem dX1_addVillage_72 : decode cX1_addVillage 72 = .ok (.iload 6, 2) := dk_21 6 (dk_at dksX1_addVillage_3 0 rfl rfl)
theorem dX1_addVillage_74 : decode cX1_addVillage 74 = .ok (.bipush 6, 2) := dk_16 6 (dk_at dksX1_addVillage_3 2 rfl rfl)
theorem dX1_addVillage_76 : decode cX1_addVillage 76 = .ok (.if_icmp .ge 34, 3) := dk_162 0 34 (dk_at dksX1_addVillage_3 4 rfl rfl)
theorem dX1_addVillage_79 : decode cX1_addVillage 79 = .ok (.aload_n 0, 1) := dk_42 (dk_at dksX1_addVillage_3 7 rfl rfl)
theorem dX1_addVillage_80 : decode cX1_addVillage 80 = .ok (.aload_n 1, 1) := dk_43 (dk_at dksX1_addVillage_3 8 rfl rfl)
theorem dX1_addVillage_81 : decode cX1_addVillage 81 = .ok (.getfield 417, 3) := dk_180 1 161 (dk_at dksX1_addVillage_3 9 rfl rfl)
theorem dX1_addVillage_84 : decode cX1_addVillage 84 = .ok (.aload 5, 2) := dk_25 5 (dk_at dksX1_addVillage_3 12 rfl rfl)
theorem dX1_addVillage_86 : decode cX1_addVillage 86 = .ok (.invokevirtual 123, 3) := dk_182 0 123 (dk_at dksX1_addVillage_3 14 rfl rfl)
theorem dX1_addVillage_89 : decode cX1_addVillage 89 = .ok (.invokevirtual 104, 3) := dk_182 0 104 (dk_at dksX1_addVillage_3 17 rfl rfl)
theorem dX1_addVillage_92 : decode cX1_addVillage 92 = .ok (.checkcast 306, 3) := dk_192 1 50 (dk_at dksX1_addVillage_3 20 rfl rfl)
theorem dX1_addVillage_95 : decode cX1_addVillage 95 = .ok (.iload 6, 2) := dk_21 6 (dk_at dksX1_addVillage_4 0 rfl rfl)
theorem dX1_addVillage_97 : decode cX1_addVillage 97 = .ok (.invokestatic 588, 3) := dk_184 2 76 (dk_at dksX1_addVillage_4 2 rfl rfl)
theorem dX1_addVillage_100 : decode cX1_addVillage 100 = .ok (.i2l, 1) := dk_133 (dk_at dksX1_addVillage_4 5 rfl rfl)
theorem dX1_addVillage_101 : decode cX1_addVillage 101 = .ok (.invokevirtual 679, 3) := dk_182 2 167 (dk_at dksX1_addVillage_4 6 rfl rfl)
theorem dX1_addVillage_104 : decode cX1_addVillage 104 = .ok (.iinc 6 1, 3) := dk_132 6 1 (dk_at dksX1_addVillage_4 9 rfl rfl)
theorem dX1_addVillage_107 : decode cX1_addVillage 107 = .ok (.goto (-35), 3) := dk_167 255 221 (dk_at dksX1_addVillage_4 12 rfl rfl)
theorem dX1_addVillage_110 : decode cX1_addVillage 110 = .ok (.iinc 4 1, 3) := dk_132 4 1 (dk_at dksX1_addVillage_4 15 rfl rfl)
theorem dX1_addVillage_113 : decode cX1_addVillage 113 = .ok (.goto (-79), 3) := dk_167 255 177 (dk_at dksX1_addVillage_4 18 rfl rfl)
theorem dX1_addVillage_116 : decode cX1_addVillage 116 = .ok (.return_, 1) := dk_177 (dk_at dksX1_addVillage_4 21 rfl rfl)
abbrev cX1_told_3 : ByteArray := prog_1_method_55_code
def yX1_told_3 : MethodName := ⟨RX1, "told", "(LPublicanry$Village;I)I"⟩
def dkwX1_told_3_5 : List UInt8 := [180, 0, 226, 172, 42, 180, 2, 63, 172]
abbrev dktX1_told_3_5 : List UInt8 := dkwX1_told_3_5 ++ []
def dkwX1_told_3_4 : List UInt8 := [42, 180, 1, 210, 172, 42, 180, 2, 14, 184, 0, 209, 172, 42, 180, 0, 205, 184, 0, 209, 172, 42]
abbrev dktX1_told_3_4 : List UInt8 := dkwX1_told_3_4 ++ dktX1_told_3_5
def dkwX1_told_3_3 : List UInt8 := [172, 42, 180, 1, 197, 182, 1, 1, 172, 42, 180, 1, 242, 172, 42, 180, 2, 60, 172, 42, 180, 0, 179, 172]
abbrev dktX1_told_3_3 : List UInt8 := dkwX1_told_3_3 ++ dktX1_told_3_4
def dkwX1_told_3_2 : List UInt8 := [42, 180, 1, 207, 172, 42, 180, 0, 176, 172, 42, 180, 2, 55, 172, 42, 180, 1, 213, 172, 42, 180, 2, 58]
abbrev dktX1_told_3_2 : List UInt8 := dkwX1_told_3_2 ++ dktX1_told_3_3
def dkwX1_told_3_1 : List UInt8 := [170, 0, 0, 0, 0, 0, 141, 0, 0, 0, 0, 0, 0, 0, 12, 0, 0, 0, 67, 0, 0, 0, 72, 0, 0, 0, 77, 0, 0, 0, 82, 0, 0, 0, 87, 0, 0, 0, 92, 0, 0, 0, 100, 0, 0, 0, 105, 0, 0, 0, 110, 0, 0, 0, 115, 0, 0, 0, 120, 0, 0, 0, 128, 0, 0, 0, 136]
abbrev dktX1_told_3_1 : List UInt8 := dkwX1_told_3_1 ++ dktX1_told_3_2
def dkwX1_told_3_0 : List UInt8 := [27]
abbrev dktX1_told_3_0 : List UInt8 := dkwX1_told_3_0 ++ dktX1_told_3_1
theorem dksX1_told_3_0 : cX1_told_3.data.toList.drop 0 = dktX1_told_3_0 := by decide +kernel
theorem dksX1_told_3_1 : cX1_told_3.data.toList.drop 1 = dktX1_told_3_1 := dk_seg dksX1_told_3_0 1 rfl rfl
theorem dksX1_told_3_2 : cX1_told_3.data.toList.drop 68 = dktX1_told_3_2 := dk_seg dksX1_told_3_1 67 rfl rfl
theorem dksX1_told_3_3 : cX1_told_3.data.toList.drop 92 = dktX1_told_3_3 := dk_seg dksX1_told_3_2 24 rfl rfl
theorem dksX1_told_3_4 : cX1_told_3.data.toList.drop 116 = dktX1_told_3_4 := dk_seg dksX1_told_3_3 24 rfl rfl
theorem dksX1_told_3_5 : cX1_told_3.data.toList.drop 138 = dktX1_told_3_5 := dk_seg dksX1_told_3_4 22 rfl rfl
theorem dX1_told_3_0 : decode cX1_told_3 0 = .ok (.iload_n 1, 1) := dk_27 (dk_at dksX1_told_3_0 0 rfl rfl)
theorem dX1_told_3_1 : decode cX1_told_3 1 = .ok (.tableswitch 141 0 12 #[67, 72, 77, 82, 87, 92, 100, 105, 110, 115, 120, 128, 136], 67) := by decide +kernel
theorem dX1_told_3_68 : decode cX1_told_3 68 = .ok (.aload_n 0, 1) := dk_42 (dk_at dksX1_told_3_2 0 rfl rfl)
theorem dX1_told_3_69 : decode cX1_told_3 69 = .ok (.getfield 463, 3) := dk_180 1 207 (dk_at dksX1_told_3_2 1 rfl rfl)
theorem dX1_told_3_72 : decode cX1_told_3 72 = .ok (.ireturn, 1) := dk_172 (dk_at dksX1_told_3_2 4 rfl rfl)
theorem dX1_told_3_73 : decode cX1_told_3 73 = .ok (.aload_n 0, 1) := dk_42 (dk_at dksX1_told_3_2 5 rfl rfl)
theorem dX1_told_3_74 : decode cX1_told_3 74 = .ok (.getfield 176, 3) := dk_180 0 176 (dk_at dksX1_told_3_2 6 rfl rfl)
theorem dX1_told_3_77 : decode cX1_told_3 77 = .ok (.ireturn, 1) := dk_172 (dk_at dksX1_told_3_2 9 rfl rfl)
theorem dX1_told_3_78 : decode cX1_told_3 78 = .ok (.aload_n 0, 1) := dk_42 (dk_at dksX1_told_3_2 10 rfl rfl)
theorem dX1_told_3_79 : decode cX1_told_3 79 = .ok (.getfield 567, 3) := dk_180 2 55 (dk_at dksX1_told_3_2 11 rfl rfl)
theorem dX1_told_3_82 : decode cX1_told_3 82 = .ok (.ireturn, 1) := dk_172 (dk_at dksX1_told_3_2 14 rfl rfl)
theorem dX1_told_3_83 : decode cX1_told_3 83 = .ok (.aload_n 0, 1) := dk_42 (dk_at dksX1_told_3_2 15 rfl rfl)
theorem dX1_told_3_84 : decode cX1_told_3 84 = .ok (.getfield 469, 3) := dk_180 1 213 (dk_at dksX1_told_3_2 16 rfl rfl)
theorem dX1_told_3_87 : decode cX1_told_3 87 = .ok (.ireturn, 1) := dk_172 (dk_at dksX1_told_3_2 19 rfl rfl)
theorem dX1_told_3_88 : decode cX1_told_3 88 = .ok (.aload_n 0, 1) := dk_42 (dk_at dksX1_told_3_2 20 rfl rfl)
theorem dX1_told_3_89 : decode cX1_told_3 89 = .ok (.getfield 570, 3) := dk_180 2 58 (dk_at dksX1_told_3_2 21 rfl rfl)
theorem dX1_told_3_92 : decode cX1_told_3 92 = .ok (.ireturn, 1) := dk_172 (dk_at dksX1_told_3_3 0 rfl rfl)
theorem dX1_told_3_93 : decode cX1_told_3 93 = .ok (.aload_n 0, 1) := dk_42 (dk_at dksX1_told_3_3 1 rfl rfl)
theorem dX1_told_3_94 : decode cX1_told_3 94 = .ok (.getfield 453, 3) := dk_180 1 197 (dk_at dksX1_told_3_3 2 rfl rfl)
theorem dX1_told_3_97 : decode cX1_told_3 97 = .ok (.invokevirtual 257, 3) := dk_182 1 1 (dk_at dksX1_told_3_3 5 rfl rfl)
theorem dX1_told_3_100 : decode cX1_told_3 100 = .ok (.ireturn, 1) := dk_172 (dk_at dksX1_told_3_3 8 rfl rfl)
theorem dX1_told_3_101 : decode cX1_told_3 101 = .ok (.aload_n 0, 1) := dk_42 (dk_at dksX1_told_3_3 9 rfl rfl)
theorem dX1_told_3_102 : decode cX1_told_3 102 = .ok (.getfield 498, 3) := dk_180 1 242 (dk_at dksX1_told_3_3 10 rfl rfl)
theorem dX1_told_3_105 : decode cX1_told_3 105 = .ok (.ireturn, 1) := dk_172 (dk_at dksX1_told_3_3 13 rfl rfl)
theorem dX1_told_3_106 : decode cX1_told_3 106 = .ok (.aload_n 0, 1) := dk_42 (dk_at dksX1_told_3_3 14 rfl rfl)
theorem dX1_told_3_107 : decode cX1_told_3 107 = .ok (.getfield 572, 3) := dk_180 2 60 (dk_at dksX1_told_3_3 15 rfl rfl)
theorem dX1_told_3_110 : decode cX1_told_3 110 = .ok (.ireturn, 1) := dk_172 (dk_at dksX1_told_3_3 18 rfl rfl)
theorem dX1_told_3_111 : decode cX1_told_3 111 = .ok (.aload_n 0, 1) := dk_42 (dk_at dksX1_told_3_3 19 rfl rfl)
theorem dX1_told_3_112 : decode cX1_told_3 112 = .ok (.getfield 179, 3) := dk_180 0 179 (dk_at dksX1_told_3_3 20 rfl rfl)
theorem dX1_told_3_115 : decode cX1_told_3 115 = .ok (.ireturn, 1) := dk_172 (dk_at dksX1_told_3_3 23 rfl rfl)
theorem dX1_told_3_116 : decode cX1_told_3 116 = .ok (.aload_n 0, 1) := dk_42 (dk_at dksX1_told_3_4 0 rfl rfl)
theorem dX1_told_3_117 : decode cX1_told_3 117 = .ok (.getfield 466, 3) := dk_180 1 210 (dk_at dksX1_told_3_4 1 rfl rfl)
theorem dX1_told_3_120 : decode cX1_told_3 120 = .ok (.ireturn, 1) := dk_172 (dk_at dksX1_told_3_4 4 rfl rfl)
theorem dX1_told_3_121 : decode cX1_told_3 121 = .ok (.aload_n 0, 1) := dk_42 (dk_at dksX1_told_3_4 5 rfl rfl)
theorem dX1_told_3_122 : decode cX1_told_3 122 = .ok (.getfield 526, 3) := dk_180 2 14 (dk_at dksX1_told_3_4 6 rfl rfl)
theorem dX1_told_3_125 : decode cX1_told_3 125 = .ok (.invokestatic 209, 3) := dk_184 0 209 (dk_at dksX1_told_3_4 9 rfl rfl)
theorem dX1_told_3_128 : decode cX1_told_3 128 = .ok (.ireturn, 1) := dk_172 (dk_at dksX1_told_3_4 12 rfl rfl)
theorem dX1_told_3_129 : decode cX1_told_3 129 = .ok (.aload_n 0, 1) := dk_42 (dk_at dksX1_told_3_4 13 rfl rfl)
theorem dX1_told_3_130 : decode cX1_told_3 130 = .ok (.getfield 205, 3) := dk_180 0 205 (dk_at dksX1_told_3_4 14 rfl rfl)
theorem dX1_told_3_133 : decode cX1_told_3 133 = .ok (.invokestatic 209, 3) := dk_184 0 209 (dk_at dksX1_told_3_4 17 rfl rfl)
theorem dX1_told_3_136 : decode cX1_told_3 136 = .ok (.ireturn, 1) := dk_172 (dk_at dksX1_told_3_4 20 rfl rfl)
theorem dX1_told_3_137 : decode cX1_told_3 137 = .ok (.aload_n 0, 1) := dk_42 (dk_at dksX1_told_3_4 21 rfl rfl)
theorem dX1_told_3_138 : decode cX1_told_3 138 = .ok (.getfield 226, 3) := dk_180 0 226 (dk_at dksX1_told_3_5 0 rfl rfl)
theorem dX1_told_3_141 : decode cX1_told_3 141 = .ok (.ireturn, 1) := dk_172 (dk_at dksX1_told_3_5 3 rfl rfl)
theorem dX1_told_3_142 : decode cX1_told_3 142 = .ok (.aload_n 0, 1) := dk_42 (dk_at dksX1_told_3_5 4 rfl rfl)
theorem dX1_told_3_143 : decode cX1_told_3 143 = .ok (.getfield 575, 3) := dk_180 2 63 (dk_at dksX1_told_3_5 5 rfl rfl)
theorem dX1_told_3_146 : decode cX1_told_3 146 = .ok (.ireturn, 1) := dk_172 (dk_at dksX1_told_3_5 8 rfl rfl)
abbrev cX1_told_4 : ByteArray := prog_1_method_59_code
def yX1_told_4 : MethodName := ⟨RX1, "told", "(Ljava/util/Optional;I)I"⟩
def dkwX1_told_4_1 : List UInt8 := [160, 0, 7, 3, 167, 0, 4, 2, 172]
abbrev dktX1_told_4_1 : List UInt8 := dkwX1_told_4_1 ++ []
def dkwX1_told_4_0 : List UInt8 := [42, 182, 1, 148, 153, 0, 17, 42, 182, 1, 73, 192, 1, 154, 27, 182, 2, 74, 167, 0, 13, 27, 8]
abbrev dktX1_told_4_0 : List UInt8 := dkwX1_told_4_0 ++ dktX1_told_4_1
theorem dksX1_told_4_0 : cX1_told_4.data.toList.drop 0 = dktX1_told_4_0 := by decide +kernel
theorem dksX1_told_4_1 : cX1_told_4.data.toList.drop 23 = dktX1_told_4_1 := dk_seg dksX1_told_4_0 23 rfl rfl
theorem dX1_told_4_0 : decode cX1_told_4 0 = .ok (.aload_n 0, 1) := dk_42 (dk_at dksX1_told_4_0 0 rfl rfl)
theorem dX1_told_4_1 : decode cX1_told_4 1 = .ok (.invokevirtual 404, 3) := dk_182 1 148 (dk_at dksX1_told_4_0 1 rfl rfl)
theorem dX1_told_4_4 : decode cX1_told_4 4 = .ok (.ifCond .eq 17, 3) := dk_153 0 17 (dk_at dksX1_told_4_0 4 rfl rfl)
theorem dX1_told_4_7 : decode cX1_told_4 7 = .ok (.aload_n 0, 1) := dk_42 (dk_at dksX1_told_4_0 7 rfl rfl)
theorem dX1_told_4_8 : decode cX1_told_4 8 = .ok (.invokevirtual 329, 3) := dk_182 1 73 (dk_at dksX1_told_4_0 8 rfl rfl)
theorem dX1_told_4_11 : decode cX1_told_4 11 = .ok (.checkcast 410, 3) := dk_192 1 154 (dk_at dksX1_told_4_0 11 rfl rfl)
theorem dX1_told_4_14 : decode cX1_told_4 14 = .ok (.iload_n 1, 1) := dk_27 (dk_at dksX1_told_4_0 14 rfl rfl)
theorem dX1_told_4_15 : decode cX1_told_4 15 = .ok (.invokevirtual 586, 3) := dk_182 2 74 (dk_at dksX1_told_4_0 15 rfl rfl)
theorem dX1_told_4_18 : decode cX1_told_4 18 = .ok (.goto 13, 3) := dk_167 0 13 (dk_at dksX1_told_4_0 18 rfl rfl)
theorem dX1_told_4_21 : decode cX1_told_4 21 = .ok (.iload_n 1, 1) := dk_27 (dk_at dksX1_told_4_0 21 rfl rfl)
theorem dX1_told_4_22 : decode cX1_told_4 22 = .ok (.iconst 5, 1) := dk_8 (dk_at dksX1_told_4_0 22 rfl rfl)
theorem dX1_told_4_23 : decode cX1_told_4 23 = .ok (.if_icmp .ne 7, 3) := dk_160 0 7 (dk_at dksX1_told_4_1 0 rfl rfl)
theorem dX1_told_4_26 : decode cX1_told_4 26 = .ok (.iconst 0, 1) := dk_3 (dk_at dksX1_told_4_1 3 rfl rfl)
theorem dX1_told_4_27 : decode cX1_told_4 27 = .ok (.goto 4, 3) := dk_167 0 4 (dk_at dksX1_told_4_1 4 rfl rfl)
theorem dX1_told_4_30 : decode cX1_told_4 30 = .ok (.iconst (-1), 1) := dk_2 (dk_at dksX1_told_4_1 7 rfl rfl)
theorem dX1_told_4_31 : decode cX1_told_4 31 = .ok (.ireturn, 1) := dk_172 (dk_at dksX1_told_4_1 8 rfl rfl)
abbrev cX1_addCompany : ByteArray := prog_1_method_88_code
def yX1_addCompany : MethodName := ⟨RX1, "addCompany", "(LPublicanry$Company;)V"⟩
def dkwX1_addCompany_4 : List UInt8 := [182, 2, 167, 167, 255, 214, 177]
abbrev dktX1_addCompany_4 : List UInt8 := dkwX1_addCompany_4 ++ []
def dkwX1_addCompany_3 : List UInt8 := [192, 0, 239, 58, 5, 42, 25, 5, 180, 2, 98, 133, 182, 2, 167, 42, 25, 5, 180, 2, 96, 133]
abbrev dktX1_addCompany_3 : List UInt8 := dkwX1_addCompany_3 ++ dktX1_addCompany_4
def dkwX1_addCompany_2 : List UInt8 := [182, 0, 191, 58, 4, 25, 4, 185, 0, 195, 1, 0, 153, 0, 38, 25, 4, 185, 0, 201, 1, 0]
abbrev dktX1_addCompany_2 : List UInt8 := dkwX1_addCompany_2 ++ dktX1_addCompany_3
def dkwX1_addCompany_1 : List UInt8 := [167, 255, 236, 43, 182, 2, 137, 73, 42, 20, 2, 170, 40, 107, 143, 182, 2, 167, 43, 180, 0, 236]
abbrev dktX1_addCompany_1 : List UInt8 := dkwX1_addCompany_1 ++ dktX1_addCompany_2
def dkwX1_addCompany_0 : List UInt8 := [3, 61, 28, 16, 13, 162, 0, 20, 42, 42, 43, 28, 182, 2, 91, 133, 182, 2, 167, 132, 2, 1]
abbrev dktX1_addCompany_0 : List UInt8 := dkwX1_addCompany_0 ++ dktX1_addCompany_1
theorem dksX1_addCompany_0 : cX1_addCompany.data.toList.drop 0 = dktX1_addCompany_0 := by decide +kernel
theorem dksX1_addCompany_1 : cX1_addCompany.data.toList.drop 22 = dktX1_addCompany_1 := dk_seg dksX1_addCompany_0 22 rfl rfl
theorem dksX1_addCompany_2 : cX1_addCompany.data.toList.drop 44 = dktX1_addCompany_2 := dk_seg dksX1_addCompany_1 22 rfl rfl
theorem dksX1_addCompany_3 : cX1_addCompany.data.toList.drop 66 = dktX1_addCompany_3 := dk_seg dksX1_addCompany_2 22 rfl rfl
theorem dksX1_addCompany_4 : cX1_addCompany.data.toList.drop 88 = dktX1_addCompany_4 := dk_seg dksX1_addCompany_3 22 rfl rfl
theorem dX1_addCompany_0 : decode cX1_addCompany 0 = .ok (.iconst 0, 1) := dk_3 (dk_at dksX1_addCompany_0 0 rfl rfl)
theorem dX1_addCompany_1 : decode cX1_addCompany 1 = .ok (.istore_n 2, 1) := dk_61 (dk_at dksX1_addCompany_0 1 rfl rfl)
theorem dX1_addCompany_2 : decode cX1_addCompany 2 = .ok (.iload_n 2, 1) := dk_28 (dk_at dksX1_addCompany_0 2 rfl rfl)
theorem dX1_addCompany_3 : decode cX1_addCompany 3 = .ok (.bipush 13, 2) := dk_16 13 (dk_at dksX1_addCompany_0 3 rfl rfl)
theorem dX1_addCompany_5 : decode cX1_addCompany 5 = .ok (.if_icmp .ge 20, 3) := dk_162 0 20 (dk_at dksX1_addCompany_0 5 rfl rfl)
theorem dX1_addCompany_8 : decode cX1_addCompany 8 = .ok (.aload_n 0, 1) := dk_42 (dk_at dksX1_addCompany_0 8 rfl rfl)
theorem dX1_addCompany_9 : decode cX1_addCompany 9 = .ok (.aload_n 0, 1) := dk_42 (dk_at dksX1_addCompany_0 9 rfl rfl)
theorem dX1_addCompany_10 : decode cX1_addCompany 10 = .ok (.aload_n 1, 1) := dk_43 (dk_at dksX1_addCompany_0 10 rfl rfl)
theorem dX1_addCompany_11 : decode cX1_addCompany 11 = .ok (.iload_n 2, 1) := dk_28 (dk_at dksX1_addCompany_0 11 rfl rfl)
theorem dX1_addCompany_12 : decode cX1_addCompany 12 = .ok (.invokevirtual 603, 3) := dk_182 2 91 (dk_at dksX1_addCompany_0 12 rfl rfl)
theorem dX1_addCompany_15 : decode cX1_addCompany 15 = .ok (.i2l, 1) := dk_133 (dk_at dksX1_addCompany_0 15 rfl rfl)
theorem dX1_addCompany_16 : decode cX1_addCompany 16 = .ok (.invokevirtual 679, 3) := dk_182 2 167 (dk_at dksX1_addCompany_0 16 rfl rfl)
theorem dX1_addCompany_19 : decode cX1_addCompany 19 = .ok (.iinc 2 1, 3) := dk_132 2 1 (dk_at dksX1_addCompany_0 19 rfl rfl)
theorem dX1_addCompany_22 : decode cX1_addCompany 22 = .ok (.goto (-20), 3) := dk_167 255 236 (dk_at dksX1_addCompany_1 0 rfl rfl)
theorem dX1_addCompany_25 : decode cX1_addCompany 25 = .ok (.aload_n 1, 1) := dk_43 (dk_at dksX1_addCompany_1 3 rfl rfl)
theorem dX1_addCompany_26 : decode cX1_addCompany 26 = .ok (.invokevirtual 649, 3) := dk_182 2 137 (dk_at dksX1_addCompany_1 4 rfl rfl)
theorem dX1_addCompany_29 : decode cX1_addCompany 29 = .ok (.dstore_n 2, 1) := dk_73 (dk_at dksX1_addCompany_1 7 rfl rfl)
theorem dX1_addCompany_30 : decode cX1_addCompany 30 = .ok (.aload_n 0, 1) := dk_42 (dk_at dksX1_addCompany_1 8 rfl rfl)
theorem dX1_addCompany_31 : decode cX1_addCompany 31 = .ok (.ldc2_w 682, 3) := dk_20 2 170 (dk_at dksX1_addCompany_1 9 rfl rfl)
theorem dX1_addCompany_34 : decode cX1_addCompany 34 = .ok (.dload_n 2, 1) := dk_40 (dk_at dksX1_addCompany_1 12 rfl rfl)
theorem dX1_addCompany_35 : decode cX1_addCompany 35 = .ok (.dmul, 1) := dk_107 (dk_at dksX1_addCompany_1 13 rfl rfl)
theorem dX1_addCompany_36 : decode cX1_addCompany 36 = .ok (.d2l, 1) := dk_143 (dk_at dksX1_addCompany_1 14 rfl rfl)
theorem dX1_addCompany_37 : decode cX1_addCompany 37 = .ok (.invokevirtual 679, 3) := dk_182 2 167 (dk_at dksX1_addCompany_1 15 rfl rfl)
theorem dX1_addCompany_40 : decode cX1_addCompany 40 = .ok (.aload_n 1, 1) := dk_43 (dk_at dksX1_addCompany_1 18 rfl rfl)
theorem dX1_addCompany_41 : decode cX1_addCompany 41 = .ok (.getfield 236, 3) := dk_180 0 236 (dk_at dksX1_addCompany_1 19 rfl rfl)
theorem dX1_addCompany_44 : decode cX1_addCompany 44 = .ok (.invokevirtual 191, 3) := dk_182 0 191 (dk_at dksX1_addCompany_2 0 rfl rfl)
theorem dX1_addCompany_47 : decode cX1_addCompany 47 = .ok (.astore 4, 2) := dk_58 4 (dk_at dksX1_addCompany_2 3 rfl rfl)
theorem dX1_addCompany_49 : decode cX1_addCompany 49 = .ok (.aload 4, 2) := dk_25 4 (dk_at dksX1_addCompany_2 5 rfl rfl)
theorem dX1_addCompany_51 : decode cX1_addCompany 51 = .ok (.invokeinterface 195 1, 5) := by decide +kernel
theorem dX1_addCompany_56 : decode cX1_addCompany 56 = .ok (.ifCond .eq 38, 3) := dk_153 0 38 (dk_at dksX1_addCompany_2 12 rfl rfl)
theorem dX1_addCompany_59 : decode cX1_addCompany 59 = .ok (.aload 4, 2) := dk_25 4 (dk_at dksX1_addCompany_2 15 rfl rfl)
theorem dX1_addCompany_61 : decode cX1_addCompany 61 = .ok (.invokeinterface 201 1, 5) := by decide +kernel
theorem dX1_addCompany_66 : decode cX1_addCompany 66 = .ok (.checkcast 239, 3) := dk_192 0 239 (dk_at dksX1_addCompany_3 0 rfl rfl)
theorem dX1_addCompany_69 : decode cX1_addCompany 69 = .ok (.astore 5, 2) := dk_58 5 (dk_at dksX1_addCompany_3 3 rfl rfl)
theorem dX1_addCompany_71 : decode cX1_addCompany 71 = .ok (.aload_n 0, 1) := dk_42 (dk_at dksX1_addCompany_3 5 rfl rfl)
theorem dX1_addCompany_72 : decode cX1_addCompany 72 = .ok (.aload 5, 2) := dk_25 5 (dk_at dksX1_addCompany_3 6 rfl rfl)
theorem dX1_addCompany_74 : decode cX1_addCompany 74 = .ok (.getfield 610, 3) := dk_180 2 98 (dk_at dksX1_addCompany_3 8 rfl rfl)
theorem dX1_addCompany_77 : decode cX1_addCompany 77 = .ok (.i2l, 1) := dk_133 (dk_at dksX1_addCompany_3 11 rfl rfl)
theorem dX1_addCompany_78 : decode cX1_addCompany 78 = .ok (.invokevirtual 679, 3) := dk_182 2 167 (dk_at dksX1_addCompany_3 12 rfl rfl)
theorem dX1_addCompany_81 : decode cX1_addCompany 81 = .ok (.aload_n 0, 1) := dk_42 (dk_at dksX1_addCompany_3 15 rfl rfl)
theorem dX1_addCompany_82 : decode cX1_addCompany 82 = .ok (.aload 5, 2) := dk_25 5 (dk_at dksX1_addCompany_3 16 rfl rfl)
theorem dX1_addCompany_84 : decode cX1_addCompany 84 = .ok (.getfield 608, 3) := dk_180 2 96 (dk_at dksX1_addCompany_3 18 rfl rfl)
theorem dX1_addCompany_87 : decode cX1_addCompany 87 = .ok (.i2l, 1) := dk_133 (dk_at dksX1_addCompany_3 21 rfl rfl)
theorem dX1_addCompany_88 : decode cX1_addCompany 88 = .ok (.invokevirtual 679, 3) := dk_182 2 167 (dk_at dksX1_addCompany_4 0 rfl rfl)
theorem dX1_addCompany_91 : decode cX1_addCompany 91 = .ok (.goto (-42), 3) := dk_167 255 214 (dk_at dksX1_addCompany_4 3 rfl rfl)
theorem dX1_addCompany_94 : decode cX1_addCompany 94 = .ok (.return_, 1) := dk_177 (dk_at dksX1_addCompany_4 6 rfl rfl)
abbrev cX1_told_5 : ByteArray := prog_1_method_64_code
def yX1_told_5 : MethodName := ⟨RX1, "told", "(LPublicanry$Company;I)I"⟩
def dkwX1_told_5_5 : List UInt8 := [180, 1, 142, 172]
abbrev dktX1_told_5_5 : List UInt8 := dkwX1_told_5_5 ++ []
def dkwX1_told_5_4 : List UInt8 := [172, 43, 180, 1, 129, 172, 43, 180, 1, 204, 172, 42, 43, 182, 2, 87, 172, 43, 180, 2, 2, 172, 43]
abbrev dktX1_told_5_4 : List UInt8 := dkwX1_told_5_4 ++ dktX1_told_5_5
def dkwX1_told_5_3 : List UInt8 := [180, 1, 113, 172, 43, 180, 1, 30, 184, 0, 209, 172, 43, 180, 0, 236, 182, 0, 94, 172, 43, 182, 2, 85]
abbrev dktX1_told_5_3 : List UInt8 := dkwX1_told_5_3 ++ dktX1_told_5_4
def dkwX1_told_5_2 : List UInt8 := [43, 180, 1, 145, 172, 43, 180, 1, 96, 172, 43, 180, 0, 242, 182, 1, 1, 172, 43, 180, 1, 6, 172, 43]
abbrev dktX1_told_5_2 : List UInt8 := dkwX1_told_5_2 ++ dktX1_told_5_3
def dkwX1_told_5_1 : List UInt8 := [170, 0, 0, 0, 0, 0, 133, 0, 0, 0, 0, 0, 0, 0, 11, 0, 0, 0, 63, 0, 0, 0, 68, 0, 0, 0, 73, 0, 0, 0, 81, 0, 0, 0, 86, 0, 0, 0, 91, 0, 0, 0, 99, 0, 0, 0, 107, 0, 0, 0, 112, 0, 0, 0, 117, 0, 0, 0, 122, 0, 0, 0, 128]
abbrev dktX1_told_5_1 : List UInt8 := dkwX1_told_5_1 ++ dktX1_told_5_2
def dkwX1_told_5_0 : List UInt8 := [28]
abbrev dktX1_told_5_0 : List UInt8 := dkwX1_told_5_0 ++ dktX1_told_5_1
theorem dksX1_told_5_0 : cX1_told_5.data.toList.drop 0 = dktX1_told_5_0 := by decide +kernel
theorem dksX1_told_5_1 : cX1_told_5.data.toList.drop 1 = dktX1_told_5_1 := dk_seg dksX1_told_5_0 1 rfl rfl
theorem dksX1_told_5_2 : cX1_told_5.data.toList.drop 64 = dktX1_told_5_2 := dk_seg dksX1_told_5_1 63 rfl rfl
theorem dksX1_told_5_3 : cX1_told_5.data.toList.drop 88 = dktX1_told_5_3 := dk_seg dksX1_told_5_2 24 rfl rfl
theorem dksX1_told_5_4 : cX1_told_5.data.toList.drop 112 = dktX1_told_5_4 := dk_seg dksX1_told_5_3 24 rfl rfl
theorem dksX1_told_5_5 : cX1_told_5.data.toList.drop 135 = dktX1_told_5_5 := dk_seg dksX1_told_5_4 23 rfl rfl
theorem dX1_told_5_0 : decode cX1_told_5 0 = .ok (.iload_n 2, 1) := dk_28 (dk_at dksX1_told_5_0 0 rfl rfl)
theorem dX1_told_5_1 : decode cX1_told_5 1 = .ok (.tableswitch 133 0 11 #[63, 68, 73, 81, 86, 91, 99, 107, 112, 117, 122, 128], 63) := by decide +kernel
theorem dX1_told_5_64 : decode cX1_told_5 64 = .ok (.aload_n 1, 1) := dk_43 (dk_at dksX1_told_5_2 0 rfl rfl)
theorem dX1_told_5_65 : decode cX1_told_5 65 = .ok (.getfield 401, 3) := dk_180 1 145 (dk_at dksX1_told_5_2 1 rfl rfl)
theorem dX1_told_5_68 : decode cX1_told_5 68 = .ok (.ireturn, 1) := dk_172 (dk_at dksX1_told_5_2 4 rfl rfl)
theorem dX1_told_5_69 : decode cX1_told_5 69 = .ok (.aload_n 1, 1) := dk_43 (dk_at dksX1_told_5_2 5 rfl rfl)
theorem dX1_told_5_70 : decode cX1_told_5 70 = .ok (.getfield 352, 3) := dk_180 1 96 (dk_at dksX1_told_5_2 6 rfl rfl)
theorem dX1_told_5_73 : decode cX1_told_5 73 = .ok (.ireturn, 1) := dk_172 (dk_at dksX1_told_5_2 9 rfl rfl)
theorem dX1_told_5_74 : decode cX1_told_5 74 = .ok (.aload_n 1, 1) := dk_43 (dk_at dksX1_told_5_2 10 rfl rfl)
theorem dX1_told_5_75 : decode cX1_told_5 75 = .ok (.getfield 242, 3) := dk_180 0 242 (dk_at dksX1_told_5_2 11 rfl rfl)
theorem dX1_told_5_78 : decode cX1_told_5 78 = .ok (.invokevirtual 257, 3) := dk_182 1 1 (dk_at dksX1_told_5_2 14 rfl rfl)
theorem dX1_told_5_81 : decode cX1_told_5 81 = .ok (.ireturn, 1) := dk_172 (dk_at dksX1_told_5_2 17 rfl rfl)
theorem dX1_told_5_82 : decode cX1_told_5 82 = .ok (.aload_n 1, 1) := dk_43 (dk_at dksX1_told_5_2 18 rfl rfl)
theorem dX1_told_5_83 : decode cX1_told_5 83 = .ok (.getfield 262, 3) := dk_180 1 6 (dk_at dksX1_told_5_2 19 rfl rfl)
theorem dX1_told_5_86 : decode cX1_told_5 86 = .ok (.ireturn, 1) := dk_172 (dk_at dksX1_told_5_2 22 rfl rfl)
theorem dX1_told_5_87 : decode cX1_told_5 87 = .ok (.aload_n 1, 1) := dk_43 (dk_at dksX1_told_5_2 23 rfl rfl)
theorem dX1_told_5_88 : decode cX1_told_5 88 = .ok (.getfield 369, 3) := dk_180 1 113 (dk_at dksX1_told_5_3 0 rfl rfl)
theorem dX1_told_5_91 : decode cX1_told_5 91 = .ok (.ireturn, 1) := dk_172 (dk_at dksX1_told_5_3 3 rfl rfl)
theorem dX1_told_5_92 : decode cX1_told_5 92 = .ok (.aload_n 1, 1) := dk_43 (dk_at dksX1_told_5_3 4 rfl rfl)
theorem dX1_told_5_93 : decode cX1_told_5 93 = .ok (.getfield 286, 3) := dk_180 1 30 (dk_at dksX1_told_5_3 5 rfl rfl)
theorem dX1_told_5_96 : decode cX1_told_5 96 = .ok (.invokestatic 209, 3) := dk_184 0 209 (dk_at dksX1_told_5_3 8 rfl rfl)
theorem dX1_told_5_99 : decode cX1_told_5 99 = .ok (.ireturn, 1) := dk_172 (dk_at dksX1_told_5_3 11 rfl rfl)
theorem dX1_told_5_100 : decode cX1_told_5 100 = .ok (.aload_n 1, 1) := dk_43 (dk_at dksX1_told_5_3 12 rfl rfl)
theorem dX1_told_5_101 : decode cX1_told_5 101 = .ok (.getfield 236, 3) := dk_180 0 236 (dk_at dksX1_told_5_3 13 rfl rfl)
theorem dX1_told_5_104 : decode cX1_told_5 104 = .ok (.invokevirtual 94, 3) := dk_182 0 94 (dk_at dksX1_told_5_3 16 rfl rfl)
theorem dX1_told_5_107 : decode cX1_told_5 107 = .ok (.ireturn, 1) := dk_172 (dk_at dksX1_told_5_3 19 rfl rfl)
theorem dX1_told_5_108 : decode cX1_told_5 108 = .ok (.aload_n 1, 1) := dk_43 (dk_at dksX1_told_5_3 20 rfl rfl)
theorem dX1_told_5_109 : decode cX1_told_5 109 = .ok (.invokevirtual 597, 3) := dk_182 2 85 (dk_at dksX1_told_5_3 21 rfl rfl)
theorem dX1_told_5_112 : decode cX1_told_5 112 = .ok (.ireturn, 1) := dk_172 (dk_at dksX1_told_5_4 0 rfl rfl)
theorem dX1_told_5_113 : decode cX1_told_5 113 = .ok (.aload_n 1, 1) := dk_43 (dk_at dksX1_told_5_4 1 rfl rfl)
theorem dX1_told_5_114 : decode cX1_told_5 114 = .ok (.getfield 385, 3) := dk_180 1 129 (dk_at dksX1_told_5_4 2 rfl rfl)
theorem dX1_told_5_117 : decode cX1_told_5 117 = .ok (.ireturn, 1) := dk_172 (dk_at dksX1_told_5_4 5 rfl rfl)
theorem dX1_told_5_118 : decode cX1_told_5 118 = .ok (.aload_n 1, 1) := dk_43 (dk_at dksX1_told_5_4 6 rfl rfl)
theorem dX1_told_5_119 : decode cX1_told_5 119 = .ok (.getfield 460, 3) := dk_180 1 204 (dk_at dksX1_told_5_4 7 rfl rfl)
theorem dX1_told_5_122 : decode cX1_told_5 122 = .ok (.ireturn, 1) := dk_172 (dk_at dksX1_told_5_4 10 rfl rfl)
theorem dX1_told_5_123 : decode cX1_told_5 123 = .ok (.aload_n 0, 1) := dk_42 (dk_at dksX1_told_5_4 11 rfl rfl)
theorem dX1_told_5_124 : decode cX1_told_5 124 = .ok (.aload_n 1, 1) := dk_43 (dk_at dksX1_told_5_4 12 rfl rfl)
theorem dX1_told_5_125 : decode cX1_told_5 125 = .ok (.invokevirtual 599, 3) := dk_182 2 87 (dk_at dksX1_told_5_4 13 rfl rfl)
theorem dX1_told_5_128 : decode cX1_told_5 128 = .ok (.ireturn, 1) := dk_172 (dk_at dksX1_told_5_4 16 rfl rfl)
theorem dX1_told_5_129 : decode cX1_told_5 129 = .ok (.aload_n 1, 1) := dk_43 (dk_at dksX1_told_5_4 17 rfl rfl)
theorem dX1_told_5_130 : decode cX1_told_5 130 = .ok (.getfield 514, 3) := dk_180 2 2 (dk_at dksX1_told_5_4 18 rfl rfl)
theorem dX1_told_5_133 : decode cX1_told_5 133 = .ok (.ireturn, 1) := dk_172 (dk_at dksX1_told_5_4 21 rfl rfl)
theorem dX1_told_5_134 : decode cX1_told_5 134 = .ok (.aload_n 1, 1) := dk_43 (dk_at dksX1_told_5_4 22 rfl rfl)
theorem dX1_told_5_135 : decode cX1_told_5 135 = .ok (.getfield 398, 3) := dk_180 1 142 (dk_at dksX1_told_5_5 0 rfl rfl)
theorem dX1_told_5_138 : decode cX1_told_5 138 = .ok (.ireturn, 1) := dk_172 (dk_at dksX1_told_5_5 3 rfl rfl)
abbrev cX1_lotsOf : ByteArray := prog_1_method_63_code
def yX1_lotsOf : MethodName := ⟨RX1, "lotsOf", "(LPublicanry$Company;)I"⟩
def dkwX1_lotsOf_2 : List UInt8 := [182, 1, 73, 43, 166, 0, 7, 4, 167, 0, 4, 3, 184, 0, 209, 96, 61, 167, 255, 205, 28, 172]
abbrev dktX1_lotsOf_2 : List UInt8 := dkwX1_lotsOf_2 ++ []
def dkwX1_lotsOf_1 : List UInt8 := [185, 0, 201, 1, 0, 192, 0, 116, 58, 4, 28, 25, 4, 182, 1, 116, 153, 0, 19, 25, 4, 180, 1, 65]
abbrev dktX1_lotsOf_1 : List UInt8 := dkwX1_lotsOf_1 ++ dktX1_lotsOf_2
def dkwX1_lotsOf_0 : List UInt8 := [3, 61, 42, 180, 0, 28, 182, 0, 191, 78, 45, 185, 0, 195, 1, 0, 153, 0, 48, 45]
abbrev dktX1_lotsOf_0 : List UInt8 := dkwX1_lotsOf_0 ++ dktX1_lotsOf_1
theorem dksX1_lotsOf_0 : cX1_lotsOf.data.toList.drop 0 = dktX1_lotsOf_0 := by decide +kernel
theorem dksX1_lotsOf_1 : cX1_lotsOf.data.toList.drop 20 = dktX1_lotsOf_1 := dk_seg dksX1_lotsOf_0 20 rfl rfl
theorem dksX1_lotsOf_2 : cX1_lotsOf.data.toList.drop 44 = dktX1_lotsOf_2 := dk_seg dksX1_lotsOf_1 24 rfl rfl
theorem dX1_lotsOf_0 : decode cX1_lotsOf 0 = .ok (.iconst 0, 1) := dk_3 (dk_at dksX1_lotsOf_0 0 rfl rfl)
theorem dX1_lotsOf_1 : decode cX1_lotsOf 1 = .ok (.istore_n 2, 1) := dk_61 (dk_at dksX1_lotsOf_0 1 rfl rfl)
theorem dX1_lotsOf_2 : decode cX1_lotsOf 2 = .ok (.aload_n 0, 1) := dk_42 (dk_at dksX1_lotsOf_0 2 rfl rfl)
theorem dX1_lotsOf_3 : decode cX1_lotsOf 3 = .ok (.getfield 28, 3) := dk_180 0 28 (dk_at dksX1_lotsOf_0 3 rfl rfl)
theorem dX1_lotsOf_6 : decode cX1_lotsOf 6 = .ok (.invokevirtual 191, 3) := dk_182 0 191 (dk_at dksX1_lotsOf_0 6 rfl rfl)
theorem dX1_lotsOf_9 : decode cX1_lotsOf 9 = .ok (.astore_n 3, 1) := dk_78 (dk_at dksX1_lotsOf_0 9 rfl rfl)
theorem dX1_lotsOf_10 : decode cX1_lotsOf 10 = .ok (.aload_n 3, 1) := dk_45 (dk_at dksX1_lotsOf_0 10 rfl rfl)
theorem dX1_lotsOf_11 : decode cX1_lotsOf 11 = .ok (.invokeinterface 195 1, 5) := by decide +kernel
theorem dX1_lotsOf_16 : decode cX1_lotsOf 16 = .ok (.ifCond .eq 48, 3) := dk_153 0 48 (dk_at dksX1_lotsOf_0 16 rfl rfl)
theorem dX1_lotsOf_19 : decode cX1_lotsOf 19 = .ok (.aload_n 3, 1) := dk_45 (dk_at dksX1_lotsOf_0 19 rfl rfl)
theorem dX1_lotsOf_20 : decode cX1_lotsOf 20 = .ok (.invokeinterface 201 1, 5) := by decide +kernel
theorem dX1_lotsOf_25 : decode cX1_lotsOf 25 = .ok (.checkcast 116, 3) := dk_192 0 116 (dk_at dksX1_lotsOf_1 5 rfl rfl)
theorem dX1_lotsOf_28 : decode cX1_lotsOf 28 = .ok (.astore 4, 2) := dk_58 4 (dk_at dksX1_lotsOf_1 8 rfl rfl)
theorem dX1_lotsOf_30 : decode cX1_lotsOf 30 = .ok (.iload_n 2, 1) := dk_28 (dk_at dksX1_lotsOf_1 10 rfl rfl)
theorem dX1_lotsOf_31 : decode cX1_lotsOf 31 = .ok (.aload 4, 2) := dk_25 4 (dk_at dksX1_lotsOf_1 11 rfl rfl)
theorem dX1_lotsOf_33 : decode cX1_lotsOf 33 = .ok (.invokevirtual 372, 3) := dk_182 1 116 (dk_at dksX1_lotsOf_1 13 rfl rfl)
theorem dX1_lotsOf_36 : decode cX1_lotsOf 36 = .ok (.ifCond .eq 19, 3) := dk_153 0 19 (dk_at dksX1_lotsOf_1 16 rfl rfl)
theorem dX1_lotsOf_39 : decode cX1_lotsOf 39 = .ok (.aload 4, 2) := dk_25 4 (dk_at dksX1_lotsOf_1 19 rfl rfl)
theorem dX1_lotsOf_41 : decode cX1_lotsOf 41 = .ok (.getfield 321, 3) := dk_180 1 65 (dk_at dksX1_lotsOf_1 21 rfl rfl)
theorem dX1_lotsOf_44 : decode cX1_lotsOf 44 = .ok (.invokevirtual 329, 3) := dk_182 1 73 (dk_at dksX1_lotsOf_2 0 rfl rfl)
theorem dX1_lotsOf_47 : decode cX1_lotsOf 47 = .ok (.aload_n 1, 1) := dk_43 (dk_at dksX1_lotsOf_2 3 rfl rfl)
theorem dX1_lotsOf_48 : decode cX1_lotsOf 48 = .ok (.if_acmp .ne 7, 3) := dk_166 0 7 (dk_at dksX1_lotsOf_2 4 rfl rfl)
theorem dX1_lotsOf_51 : decode cX1_lotsOf 51 = .ok (.iconst 1, 1) := dk_4 (dk_at dksX1_lotsOf_2 7 rfl rfl)
theorem dX1_lotsOf_52 : decode cX1_lotsOf 52 = .ok (.goto 4, 3) := dk_167 0 4 (dk_at dksX1_lotsOf_2 8 rfl rfl)
theorem dX1_lotsOf_55 : decode cX1_lotsOf 55 = .ok (.iconst 0, 1) := dk_3 (dk_at dksX1_lotsOf_2 11 rfl rfl)
theorem dX1_lotsOf_56 : decode cX1_lotsOf 56 = .ok (.invokestatic 209, 3) := dk_184 0 209 (dk_at dksX1_lotsOf_2 12 rfl rfl)
theorem dX1_lotsOf_59 : decode cX1_lotsOf 59 = .ok (.iadd, 1) := dk_96 (dk_at dksX1_lotsOf_2 15 rfl rfl)
theorem dX1_lotsOf_60 : decode cX1_lotsOf 60 = .ok (.istore_n 2, 1) := dk_61 (dk_at dksX1_lotsOf_2 16 rfl rfl)
theorem dX1_lotsOf_61 : decode cX1_lotsOf 61 = .ok (.goto (-51), 3) := dk_167 255 205 (dk_at dksX1_lotsOf_2 17 rfl rfl)
theorem dX1_lotsOf_64 : decode cX1_lotsOf 64 = .ok (.iload_n 2, 1) := dk_28 (dk_at dksX1_lotsOf_2 20 rfl rfl)
theorem dX1_lotsOf_65 : decode cX1_lotsOf 65 = .ok (.ireturn, 1) := dk_172 (dk_at dksX1_lotsOf_2 21 rfl rfl)
abbrev cX1_told_6 : ByteArray := prog_1_method_67_code
def yX1_told_6 : MethodName := ⟨RX1, "told", "(LPublicanry$Lot;I)I"⟩
def dkwX1_told_6_5 : List UInt8 := [180, 1, 87, 172, 42, 180, 1, 139, 172, 42, 182, 1, 124, 172, 42, 180, 1, 132, 172]
abbrev dktX1_told_6_5 : List UInt8 := dkwX1_told_6_5 ++ []
def dkwX1_told_6_4 : List UInt8 := [180, 1, 65, 182, 1, 73, 192, 0, 112, 180, 1, 103, 167, 0, 4, 2, 172, 42, 180, 1, 79, 172, 42]
abbrev dktX1_told_6_4 : List UInt8 := dkwX1_told_6_4 ++ dktX1_told_6_5
def dkwX1_told_6_3 : List UInt8 := [180, 1, 21, 182, 2, 100, 172, 42, 182, 1, 42, 172, 42, 180, 1, 65, 182, 1, 148, 153, 0, 19, 42]
abbrev dktX1_told_6_3 : List UInt8 := dkwX1_told_6_3 ++ dktX1_told_6_4
def dkwX1_told_6_2 : List UInt8 := [42, 180, 1, 245, 182, 0, 123, 172, 42, 180, 1, 119, 172, 42, 180, 1, 84, 172, 42, 180, 1, 108, 172, 42]
abbrev dktX1_told_6_2 : List UInt8 := dkwX1_told_6_2 ++ dktX1_told_6_3
def dkwX1_told_6_1 : List UInt8 := [170, 0, 0, 0, 0, 0, 143, 0, 0, 0, 0, 0, 0, 0, 10, 0, 0, 0, 59, 0, 0, 0, 67, 0, 0, 0, 72, 0, 0, 0, 77, 0, 0, 0, 82, 0, 0, 0, 90, 0, 0, 0, 95, 0, 0, 0, 123, 0, 0, 0, 128, 0, 0, 0, 133, 0, 0, 0, 138]
abbrev dktX1_told_6_1 : List UInt8 := dkwX1_told_6_1 ++ dktX1_told_6_2
def dkwX1_told_6_0 : List UInt8 := [27]
abbrev dktX1_told_6_0 : List UInt8 := dkwX1_told_6_0 ++ dktX1_told_6_1
theorem dksX1_told_6_0 : cX1_told_6.data.toList.drop 0 = dktX1_told_6_0 := by decide +kernel
theorem dksX1_told_6_1 : cX1_told_6.data.toList.drop 1 = dktX1_told_6_1 := dk_seg dksX1_told_6_0 1 rfl rfl
theorem dksX1_told_6_2 : cX1_told_6.data.toList.drop 60 = dktX1_told_6_2 := dk_seg dksX1_told_6_1 59 rfl rfl
theorem dksX1_told_6_3 : cX1_told_6.data.toList.drop 84 = dktX1_told_6_3 := dk_seg dksX1_told_6_2 24 rfl rfl
theorem dksX1_told_6_4 : cX1_told_6.data.toList.drop 107 = dktX1_told_6_4 := dk_seg dksX1_told_6_3 23 rfl rfl
theorem dksX1_told_6_5 : cX1_told_6.data.toList.drop 130 = dktX1_told_6_5 := dk_seg dksX1_told_6_4 23 rfl rfl
theorem dX1_told_6_0 : decode cX1_told_6 0 = .ok (.iload_n 1, 1) := dk_27 (dk_at dksX1_told_6_0 0 rfl rfl)
theorem dX1_told_6_1 : decode cX1_told_6 1 = .ok (.tableswitch 143 0 10 #[59, 67, 72, 77, 82, 90, 95, 123, 128, 133, 138], 59) := by decide +kernel
theorem dX1_told_6_60 : decode cX1_told_6 60 = .ok (.aload_n 0, 1) := dk_42 (dk_at dksX1_told_6_2 0 rfl rfl)
theorem dX1_told_6_61 : decode cX1_told_6 61 = .ok (.getfield 501, 3) := dk_180 1 245 (dk_at dksX1_told_6_2 1 rfl rfl)
theorem dX1_told_6_64 : decode cX1_told_6 64 = .ok (.invokevirtual 123, 3) := dk_182 0 123 (dk_at dksX1_told_6_2 4 rfl rfl)
theorem dX1_told_6_67 : decode cX1_told_6 67 = .ok (.ireturn, 1) := dk_172 (dk_at dksX1_told_6_2 7 rfl rfl)
theorem dX1_told_6_68 : decode cX1_told_6 68 = .ok (.aload_n 0, 1) := dk_42 (dk_at dksX1_told_6_2 8 rfl rfl)
theorem dX1_told_6_69 : decode cX1_told_6 69 = .ok (.getfield 375, 3) := dk_180 1 119 (dk_at dksX1_told_6_2 9 rfl rfl)
theorem dX1_told_6_72 : decode cX1_told_6 72 = .ok (.ireturn, 1) := dk_172 (dk_at dksX1_told_6_2 12 rfl rfl)
theorem dX1_told_6_73 : decode cX1_told_6 73 = .ok (.aload_n 0, 1) := dk_42 (dk_at dksX1_told_6_2 13 rfl rfl)
theorem dX1_told_6_74 : decode cX1_told_6 74 = .ok (.getfield 340, 3) := dk_180 1 84 (dk_at dksX1_told_6_2 14 rfl rfl)
theorem dX1_told_6_77 : decode cX1_told_6 77 = .ok (.ireturn, 1) := dk_172 (dk_at dksX1_told_6_2 17 rfl rfl)
theorem dX1_told_6_78 : decode cX1_told_6 78 = .ok (.aload_n 0, 1) := dk_42 (dk_at dksX1_told_6_2 18 rfl rfl)
theorem dX1_told_6_79 : decode cX1_told_6 79 = .ok (.getfield 364, 3) := dk_180 1 108 (dk_at dksX1_told_6_2 19 rfl rfl)
theorem dX1_told_6_82 : decode cX1_told_6 82 = .ok (.ireturn, 1) := dk_172 (dk_at dksX1_told_6_2 22 rfl rfl)
theorem dX1_told_6_83 : decode cX1_told_6 83 = .ok (.aload_n 0, 1) := dk_42 (dk_at dksX1_told_6_2 23 rfl rfl)
theorem dX1_told_6_84 : decode cX1_told_6 84 = .ok (.getfield 277, 3) := dk_180 1 21 (dk_at dksX1_told_6_3 0 rfl rfl)
theorem dX1_told_6_87 : decode cX1_told_6 87 = .ok (.invokevirtual 612, 3) := dk_182 2 100 (dk_at dksX1_told_6_3 3 rfl rfl)
theorem dX1_told_6_90 : decode cX1_told_6 90 = .ok (.ireturn, 1) := dk_172 (dk_at dksX1_told_6_3 6 rfl rfl)
theorem dX1_told_6_91 : decode cX1_told_6 91 = .ok (.aload_n 0, 1) := dk_42 (dk_at dksX1_told_6_3 7 rfl rfl)
theorem dX1_told_6_92 : decode cX1_told_6 92 = .ok (.invokevirtual 298, 3) := dk_182 1 42 (dk_at dksX1_told_6_3 8 rfl rfl)
theorem dX1_told_6_95 : decode cX1_told_6 95 = .ok (.ireturn, 1) := dk_172 (dk_at dksX1_told_6_3 11 rfl rfl)
theorem dX1_told_6_96 : decode cX1_told_6 96 = .ok (.aload_n 0, 1) := dk_42 (dk_at dksX1_told_6_3 12 rfl rfl)
theorem dX1_told_6_97 : decode cX1_told_6 97 = .ok (.getfield 321, 3) := dk_180 1 65 (dk_at dksX1_told_6_3 13 rfl rfl)
theorem dX1_told_6_100 : decode cX1_told_6 100 = .ok (.invokevirtual 404, 3) := dk_182 1 148 (dk_at dksX1_told_6_3 16 rfl rfl)
theorem dX1_told_6_103 : decode cX1_told_6 103 = .ok (.ifCond .eq 19, 3) := dk_153 0 19 (dk_at dksX1_told_6_3 19 rfl rfl)
theorem dX1_told_6_106 : decode cX1_told_6 106 = .ok (.aload_n 0, 1) := dk_42 (dk_at dksX1_told_6_3 22 rfl rfl)
theorem dX1_told_6_107 : decode cX1_told_6 107 = .ok (.getfield 321, 3) := dk_180 1 65 (dk_at dksX1_told_6_4 0 rfl rfl)
theorem dX1_told_6_110 : decode cX1_told_6 110 = .ok (.invokevirtual 329, 3) := dk_182 1 73 (dk_at dksX1_told_6_4 3 rfl rfl)
theorem dX1_told_6_113 : decode cX1_told_6 113 = .ok (.checkcast 112, 3) := dk_192 0 112 (dk_at dksX1_told_6_4 6 rfl rfl)
theorem dX1_told_6_116 : decode cX1_told_6 116 = .ok (.getfield 359, 3) := dk_180 1 103 (dk_at dksX1_told_6_4 9 rfl rfl)
theorem dX1_told_6_119 : decode cX1_told_6 119 = .ok (.goto 4, 3) := dk_167 0 4 (dk_at dksX1_told_6_4 12 rfl rfl)
theorem dX1_told_6_122 : decode cX1_told_6 122 = .ok (.iconst (-1), 1) := dk_2 (dk_at dksX1_told_6_4 15 rfl rfl)
theorem dX1_told_6_123 : decode cX1_told_6 123 = .ok (.ireturn, 1) := dk_172 (dk_at dksX1_told_6_4 16 rfl rfl)
theorem dX1_told_6_124 : decode cX1_told_6 124 = .ok (.aload_n 0, 1) := dk_42 (dk_at dksX1_told_6_4 17 rfl rfl)
theorem dX1_told_6_125 : decode cX1_told_6 125 = .ok (.getfield 335, 3) := dk_180 1 79 (dk_at dksX1_told_6_4 18 rfl rfl)
theorem dX1_told_6_128 : decode cX1_told_6 128 = .ok (.ireturn, 1) := dk_172 (dk_at dksX1_told_6_4 21 rfl rfl)
theorem dX1_told_6_129 : decode cX1_told_6 129 = .ok (.aload_n 0, 1) := dk_42 (dk_at dksX1_told_6_4 22 rfl rfl)
theorem dX1_told_6_130 : decode cX1_told_6 130 = .ok (.getfield 343, 3) := dk_180 1 87 (dk_at dksX1_told_6_5 0 rfl rfl)
theorem dX1_told_6_133 : decode cX1_told_6 133 = .ok (.ireturn, 1) := dk_172 (dk_at dksX1_told_6_5 3 rfl rfl)
theorem dX1_told_6_134 : decode cX1_told_6 134 = .ok (.aload_n 0, 1) := dk_42 (dk_at dksX1_told_6_5 4 rfl rfl)
theorem dX1_told_6_135 : decode cX1_told_6 135 = .ok (.getfield 395, 3) := dk_180 1 139 (dk_at dksX1_told_6_5 5 rfl rfl)
theorem dX1_told_6_138 : decode cX1_told_6 138 = .ok (.ireturn, 1) := dk_172 (dk_at dksX1_told_6_5 8 rfl rfl)
theorem dX1_told_6_139 : decode cX1_told_6 139 = .ok (.aload_n 0, 1) := dk_42 (dk_at dksX1_told_6_5 9 rfl rfl)
theorem dX1_told_6_140 : decode cX1_told_6 140 = .ok (.invokevirtual 380, 3) := dk_182 1 124 (dk_at dksX1_told_6_5 10 rfl rfl)
theorem dX1_told_6_143 : decode cX1_told_6 143 = .ok (.ireturn, 1) := dk_172 (dk_at dksX1_told_6_5 13 rfl rfl)
theorem dX1_told_6_144 : decode cX1_told_6 144 = .ok (.aload_n 0, 1) := dk_42 (dk_at dksX1_told_6_5 14 rfl rfl)
theorem dX1_told_6_145 : decode cX1_told_6 145 = .ok (.getfield 388, 3) := dk_180 1 132 (dk_at dksX1_told_6_5 15 rfl rfl)
theorem dX1_told_6_148 : decode cX1_told_6 148 = .ok (.ireturn, 1) := dk_172 (dk_at dksX1_told_6_5 18 rfl rfl)
abbrev cX1_bring : ByteArray := prog_1_method_75_code
def yX1_bring : MethodName := ⟨RX1, "bring", "(LPublicanry$Lot;I)I"⟩
def dkwX1_bring_5 : List UInt8 := [29, 43, 180, 1, 245, 21, 7, 182, 1, 198, 96, 62, 167, 255, 139, 29, 172]
abbrev dktX1_bring_5 : List UInt8 := dkwX1_bring_5 ++ []
def dkwX1_bring_4 : List UInt8 := [28, 5, 161, 0, 7, 4, 167, 0, 4, 3, 42, 180, 0, 47, 42, 180, 0, 40, 3, 182, 1, 254, 54, 7]
abbrev dktX1_bring_4 : List UInt8 := dkwX1_bring_4 ++ dktX1_bring_5
def dkwX1_bring_3 : List UInt8 := [54, 6, 43, 180, 1, 245, 25, 5, 25, 5, 21, 6, 21, 6, 28, 104, 16, 8, 108, 96, 28, 182, 1, 251]
abbrev dktX1_bring_3 : List UInt8 := dkwX1_bring_3 ++ dktX1_bring_4
def dkwX1_bring_2 : List UInt8 := [153, 255, 222, 25, 5, 180, 2, 14, 153, 0, 6, 167, 255, 211, 25, 5, 43, 180, 1, 245, 182, 1, 248]
abbrev dktX1_bring_2 : List UInt8 := dkwX1_bring_2 ++ dktX1_bring_3
def dkwX1_bring_1 : List UInt8 := [185, 0, 201, 1, 0, 192, 0, 108, 58, 5, 43, 180, 1, 119, 25, 5, 180, 0, 129, 184, 0, 132]
abbrev dktX1_bring_1 : List UInt8 := dkwX1_bring_1 ++ dktX1_bring_2
def dkwX1_bring_0 : List UInt8 := [3, 62, 42, 180, 0, 19, 182, 0, 191, 58, 4, 25, 4, 185, 0, 195, 1, 0, 153, 0, 113, 25, 4]
abbrev dktX1_bring_0 : List UInt8 := dkwX1_bring_0 ++ dktX1_bring_1
theorem dksX1_bring_0 : cX1_bring.data.toList.drop 0 = dktX1_bring_0 := by decide +kernel
theorem dksX1_bring_1 : cX1_bring.data.toList.drop 23 = dktX1_bring_1 := dk_seg dksX1_bring_0 23 rfl rfl
theorem dksX1_bring_2 : cX1_bring.data.toList.drop 45 = dktX1_bring_2 := dk_seg dksX1_bring_1 22 rfl rfl
theorem dksX1_bring_3 : cX1_bring.data.toList.drop 68 = dktX1_bring_3 := dk_seg dksX1_bring_2 23 rfl rfl
theorem dksX1_bring_4 : cX1_bring.data.toList.drop 92 = dktX1_bring_4 := dk_seg dksX1_bring_3 24 rfl rfl
theorem dksX1_bring_5 : cX1_bring.data.toList.drop 116 = dktX1_bring_5 := dk_seg dksX1_bring_4 24 rfl rfl
theorem dX1_bring_0 : decode cX1_bring 0 = .ok (.iconst 0, 1) := dk_3 (dk_at dksX1_bring_0 0 rfl rfl)
theorem dX1_bring_1 : decode cX1_bring 1 = .ok (.istore_n 3, 1) := dk_62 (dk_at dksX1_bring_0 1 rfl rfl)
theorem dX1_bring_2 : decode cX1_bring 2 = .ok (.aload_n 0, 1) := dk_42 (dk_at dksX1_bring_0 2 rfl rfl)
theorem dX1_bring_3 : decode cX1_bring 3 = .ok (.getfield 19, 3) := dk_180 0 19 (dk_at dksX1_bring_0 3 rfl rfl)
theorem dX1_bring_6 : decode cX1_bring 6 = .ok (.invokevirtual 191, 3) := dk_182 0 191 (dk_at dksX1_bring_0 6 rfl rfl)
theorem dX1_bring_9 : decode cX1_bring 9 = .ok (.astore 4, 2) := dk_58 4 (dk_at dksX1_bring_0 9 rfl rfl)
theorem dX1_bring_11 : decode cX1_bring 11 = .ok (.aload 4, 2) := dk_25 4 (dk_at dksX1_bring_0 11 rfl rfl)
theorem dX1_bring_13 : decode cX1_bring 13 = .ok (.invokeinterface 195 1, 5) := by decide +kernel
theorem dX1_bring_18 : decode cX1_bring 18 = .ok (.ifCond .eq 113, 3) := dk_153 0 113 (dk_at dksX1_bring_0 18 rfl rfl)
theorem dX1_bring_21 : decode cX1_bring 21 = .ok (.aload 4, 2) := dk_25 4 (dk_at dksX1_bring_0 21 rfl rfl)
theorem dX1_bring_23 : decode cX1_bring 23 = .ok (.invokeinterface 201 1, 5) := by decide +kernel
theorem dX1_bring_28 : decode cX1_bring 28 = .ok (.checkcast 108, 3) := dk_192 0 108 (dk_at dksX1_bring_1 5 rfl rfl)
theorem dX1_bring_31 : decode cX1_bring 31 = .ok (.astore 5, 2) := dk_58 5 (dk_at dksX1_bring_1 8 rfl rfl)
theorem dX1_bring_33 : decode cX1_bring 33 = .ok (.aload_n 1, 1) := dk_43 (dk_at dksX1_bring_1 10 rfl rfl)
theorem dX1_bring_34 : decode cX1_bring 34 = .ok (.getfield 375, 3) := dk_180 1 119 (dk_at dksX1_bring_1 11 rfl rfl)
theorem dX1_bring_37 : decode cX1_bring 37 = .ok (.aload 5, 2) := dk_25 5 (dk_at dksX1_bring_1 14 rfl rfl)
theorem dX1_bring_39 : decode cX1_bring 39 = .ok (.getfield 129, 3) := dk_180 0 129 (dk_at dksX1_bring_1 16 rfl rfl)
theorem dX1_bring_42 : decode cX1_bring 42 = .ok (.invokestatic 132, 3) := dk_184 0 132 (dk_at dksX1_bring_1 19 rfl rfl)
theorem dX1_bring_45 : decode cX1_bring 45 = .ok (.ifCond .eq (-34), 3) := dk_153 255 222 (dk_at dksX1_bring_2 0 rfl rfl)
theorem dX1_bring_48 : decode cX1_bring 48 = .ok (.aload 5, 2) := dk_25 5 (dk_at dksX1_bring_2 3 rfl rfl)
theorem dX1_bring_50 : decode cX1_bring 50 = .ok (.getfield 526, 3) := dk_180 2 14 (dk_at dksX1_bring_2 5 rfl rfl)
theorem dX1_bring_53 : decode cX1_bring 53 = .ok (.ifCond .eq 6, 3) := dk_153 0 6 (dk_at dksX1_bring_2 8 rfl rfl)
theorem dX1_bring_56 : decode cX1_bring 56 = .ok (.goto (-45), 3) := dk_167 255 211 (dk_at dksX1_bring_2 11 rfl rfl)
theorem dX1_bring_59 : decode cX1_bring 59 = .ok (.aload 5, 2) := dk_25 5 (dk_at dksX1_bring_2 14 rfl rfl)
theorem dX1_bring_61 : decode cX1_bring 61 = .ok (.aload_n 1, 1) := dk_43 (dk_at dksX1_bring_2 16 rfl rfl)
theorem dX1_bring_62 : decode cX1_bring 62 = .ok (.getfield 501, 3) := dk_180 1 245 (dk_at dksX1_bring_2 17 rfl rfl)
theorem dX1_bring_65 : decode cX1_bring 65 = .ok (.invokevirtual 504, 3) := dk_182 1 248 (dk_at dksX1_bring_2 20 rfl rfl)
theorem dX1_bring_68 : decode cX1_bring 68 = .ok (.istore 6, 2) := dk_54 6 (dk_at dksX1_bring_3 0 rfl rfl)
theorem dX1_bring_70 : decode cX1_bring 70 = .ok (.aload_n 1, 1) := dk_43 (dk_at dksX1_bring_3 2 rfl rfl)
theorem dX1_bring_71 : decode cX1_bring 71 = .ok (.getfield 501, 3) := dk_180 1 245 (dk_at dksX1_bring_3 3 rfl rfl)
theorem dX1_bring_74 : decode cX1_bring 74 = .ok (.aload 5, 2) := dk_25 5 (dk_at dksX1_bring_3 6 rfl rfl)
theorem dX1_bring_76 : decode cX1_bring 76 = .ok (.aload 5, 2) := dk_25 5 (dk_at dksX1_bring_3 8 rfl rfl)
theorem dX1_bring_78 : decode cX1_bring 78 = .ok (.iload 6, 2) := dk_21 6 (dk_at dksX1_bring_3 10 rfl rfl)
theorem dX1_bring_80 : decode cX1_bring 80 = .ok (.iload 6, 2) := dk_21 6 (dk_at dksX1_bring_3 12 rfl rfl)
theorem dX1_bring_82 : decode cX1_bring 82 = .ok (.iload_n 2, 1) := dk_28 (dk_at dksX1_bring_3 14 rfl rfl)
theorem dX1_bring_83 : decode cX1_bring 83 = .ok (.imul, 1) := dk_104 (dk_at dksX1_bring_3 15 rfl rfl)
theorem dX1_bring_84 : decode cX1_bring 84 = .ok (.bipush 8, 2) := dk_16 8 (dk_at dksX1_bring_3 16 rfl rfl)
theorem dX1_bring_86 : decode cX1_bring 86 = .ok (.idiv, 1) := dk_108 (dk_at dksX1_bring_3 18 rfl rfl)
theorem dX1_bring_87 : decode cX1_bring 87 = .ok (.iadd, 1) := dk_96 (dk_at dksX1_bring_3 19 rfl rfl)
theorem dX1_bring_88 : decode cX1_bring 88 = .ok (.iload_n 2, 1) := dk_28 (dk_at dksX1_bring_3 20 rfl rfl)
theorem dX1_bring_89 : decode cX1_bring 89 = .ok (.invokevirtual 507, 3) := dk_182 1 251 (dk_at dksX1_bring_3 21 rfl rfl)
theorem dX1_bring_92 : decode cX1_bring 92 = .ok (.iload_n 2, 1) := dk_28 (dk_at dksX1_bring_4 0 rfl rfl)
theorem dX1_bring_93 : decode cX1_bring 93 = .ok (.iconst 2, 1) := dk_5 (dk_at dksX1_bring_4 1 rfl rfl)
theorem dX1_bring_94 : decode cX1_bring 94 = .ok (.if_icmp .lt 7, 3) := dk_161 0 7 (dk_at dksX1_bring_4 2 rfl rfl)
theorem dX1_bring_97 : decode cX1_bring 97 = .ok (.iconst 1, 1) := dk_4 (dk_at dksX1_bring_4 5 rfl rfl)
theorem dX1_bring_98 : decode cX1_bring 98 = .ok (.goto 4, 3) := dk_167 0 4 (dk_at dksX1_bring_4 6 rfl rfl)
theorem dX1_bring_101 : decode cX1_bring 101 = .ok (.iconst 0, 1) := dk_3 (dk_at dksX1_bring_4 9 rfl rfl)
theorem dX1_bring_102 : decode cX1_bring 102 = .ok (.aload_n 0, 1) := dk_42 (dk_at dksX1_bring_4 10 rfl rfl)
theorem dX1_bring_103 : decode cX1_bring 103 = .ok (.getfield 47, 3) := dk_180 0 47 (dk_at dksX1_bring_4 11 rfl rfl)
theorem dX1_bring_106 : decode cX1_bring 106 = .ok (.aload_n 0, 1) := dk_42 (dk_at dksX1_bring_4 14 rfl rfl)
theorem dX1_bring_107 : decode cX1_bring 107 = .ok (.getfield 40, 3) := dk_180 0 40 (dk_at dksX1_bring_4 15 rfl rfl)
theorem dX1_bring_110 : decode cX1_bring 110 = .ok (.iconst 0, 1) := dk_3 (dk_at dksX1_bring_4 18 rfl rfl)
theorem dX1_bring_111 : decode cX1_bring 111 = .ok (.invokevirtual 510, 3) := dk_182 1 254 (dk_at dksX1_bring_4 19 rfl rfl)
theorem dX1_bring_114 : decode cX1_bring 114 = .ok (.istore 7, 2) := dk_54 7 (dk_at dksX1_bring_4 22 rfl rfl)
theorem dX1_bring_116 : decode cX1_bring 116 = .ok (.iload_n 3, 1) := dk_29 (dk_at dksX1_bring_5 0 rfl rfl)
theorem dX1_bring_117 : decode cX1_bring 117 = .ok (.aload_n 1, 1) := dk_43 (dk_at dksX1_bring_5 1 rfl rfl)
theorem dX1_bring_118 : decode cX1_bring 118 = .ok (.getfield 501, 3) := dk_180 1 245 (dk_at dksX1_bring_5 2 rfl rfl)
theorem dX1_bring_121 : decode cX1_bring 121 = .ok (.iload 7, 2) := dk_21 7 (dk_at dksX1_bring_5 5 rfl rfl)
theorem dX1_bring_123 : decode cX1_bring 123 = .ok (.invokevirtual 454, 3) := dk_182 1 198 (dk_at dksX1_bring_5 7 rfl rfl)
theorem dX1_bring_126 : decode cX1_bring 126 = .ok (.iadd, 1) := dk_96 (dk_at dksX1_bring_5 10 rfl rfl)
theorem dX1_bring_127 : decode cX1_bring 127 = .ok (.istore_n 3, 1) := dk_62 (dk_at dksX1_bring_5 11 rfl rfl)
theorem dX1_bring_128 : decode cX1_bring 128 = .ok (.goto (-117), 3) := dk_167 255 139 (dk_at dksX1_bring_5 12 rfl rfl)
theorem dX1_bring_131 : decode cX1_bring 131 = .ok (.iload_n 3, 1) := dk_29 (dk_at dksX1_bring_5 15 rfl rfl)
theorem dX1_bring_132 : decode cX1_bring 132 = .ok (.ireturn, 1) := dk_172 (dk_at dksX1_bring_5 16 rfl rfl)
abbrev cX1_best : ByteArray := prog_1_method_77_code
def yX1_best : MethodName := ⟨RX1, "best", "(LPublicanry$Lot;)I"⟩
def dkwX1_best_1 : List UInt8 := [29, 61, 132, 3, 1, 167, 255, 231, 28, 172]
abbrev dktX1_best_1 : List UInt8 := dkwX1_best_1 ++ []
def dkwX1_best_0 : List UInt8 := [3, 61, 4, 62, 29, 7, 162, 0, 26, 42, 43, 29, 182, 2, 141, 42, 43, 28, 182, 2, 141, 164, 0, 5]
abbrev dktX1_best_0 : List UInt8 := dkwX1_best_0 ++ dktX1_best_1
theorem dksX1_best_0 : cX1_best.data.toList.drop 0 = dktX1_best_0 := by decide +kernel
theorem dksX1_best_1 : cX1_best.data.toList.drop 24 = dktX1_best_1 := dk_seg dksX1_best_0 24 rfl rfl
theorem dX1_best_0 : decode cX1_best 0 = .ok (.iconst 0, 1) := dk_3 (dk_at dksX1_best_0 0 rfl rfl)
theorem dX1_best_1 : decode cX1_best 1 = .ok (.istore_n 2, 1) := dk_61 (dk_at dksX1_best_0 1 rfl rfl)
theorem dX1_best_2 : decode cX1_best 2 = .ok (.iconst 1, 1) := dk_4 (dk_at dksX1_best_0 2 rfl rfl)
theorem dX1_best_3 : decode cX1_best 3 = .ok (.istore_n 3, 1) := dk_62 (dk_at dksX1_best_0 3 rfl rfl)
theorem dX1_best_4 : decode cX1_best 4 = .ok (.iload_n 3, 1) := dk_29 (dk_at dksX1_best_0 4 rfl rfl)
theorem dX1_best_5 : decode cX1_best 5 = .ok (.iconst 4, 1) := dk_7 (dk_at dksX1_best_0 5 rfl rfl)
theorem dX1_best_6 : decode cX1_best 6 = .ok (.if_icmp .ge 26, 3) := dk_162 0 26 (dk_at dksX1_best_0 6 rfl rfl)
theorem dX1_best_9 : decode cX1_best 9 = .ok (.aload_n 0, 1) := dk_42 (dk_at dksX1_best_0 9 rfl rfl)
theorem dX1_best_10 : decode cX1_best 10 = .ok (.aload_n 1, 1) := dk_43 (dk_at dksX1_best_0 10 rfl rfl)
theorem dX1_best_11 : decode cX1_best 11 = .ok (.iload_n 3, 1) := dk_29 (dk_at dksX1_best_0 11 rfl rfl)
theorem dX1_best_12 : decode cX1_best 12 = .ok (.invokevirtual 653, 3) := dk_182 2 141 (dk_at dksX1_best_0 12 rfl rfl)
theorem dX1_best_15 : decode cX1_best 15 = .ok (.aload_n 0, 1) := dk_42 (dk_at dksX1_best_0 15 rfl rfl)
theorem dX1_best_16 : decode cX1_best 16 = .ok (.aload_n 1, 1) := dk_43 (dk_at dksX1_best_0 16 rfl rfl)
theorem dX1_best_17 : decode cX1_best 17 = .ok (.iload_n 2, 1) := dk_28 (dk_at dksX1_best_0 17 rfl rfl)
theorem dX1_best_18 : decode cX1_best 18 = .ok (.invokevirtual 653, 3) := dk_182 2 141 (dk_at dksX1_best_0 18 rfl rfl)
theorem dX1_best_21 : decode cX1_best 21 = .ok (.if_icmp .le 5, 3) := dk_164 0 5 (dk_at dksX1_best_0 21 rfl rfl)
theorem dX1_best_24 : decode cX1_best 24 = .ok (.iload_n 3, 1) := dk_29 (dk_at dksX1_best_1 0 rfl rfl)
theorem dX1_best_25 : decode cX1_best 25 = .ok (.istore_n 2, 1) := dk_61 (dk_at dksX1_best_1 1 rfl rfl)
theorem dX1_best_26 : decode cX1_best 26 = .ok (.iinc 3 1, 3) := dk_132 3 1 (dk_at dksX1_best_1 2 rfl rfl)
theorem dX1_best_29 : decode cX1_best 29 = .ok (.goto (-25), 3) := dk_167 255 231 (dk_at dksX1_best_1 5 rfl rfl)
theorem dX1_best_32 : decode cX1_best 32 = .ok (.iload_n 2, 1) := dk_28 (dk_at dksX1_best_1 8 rfl rfl)
theorem dX1_best_33 : decode cX1_best 33 = .ok (.ireturn, 1) := dk_172 (dk_at dksX1_best_1 9 rfl rfl)
abbrev cX1_village : ByteArray := prog_1_method_16_code
def yX1_village : MethodName := ⟨RX1, "village", "(IIII)I"⟩
def dkwX1_village_5 : List UInt8 := [87, 25, 5, 180, 0, 129, 172]
abbrev dktX1_village_5 : List UInt8 := dkwX1_village_5 ++ []
def dkwX1_village_4 : List UInt8 := [58, 5, 25, 5, 42, 180, 0, 33, 42, 180, 0, 159, 182, 0, 162, 42, 180, 0, 19, 25, 5, 182, 0, 166]
abbrev dktX1_village_4 : List UInt8 := dkwX1_village_4 ++ dktX1_village_5
def dkwX1_village_3 : List UInt8 := [18, 151, 184, 0, 153, 187, 0, 108, 89, 42, 180, 0, 19, 182, 0, 94, 27, 28, 29, 21, 4, 183, 0, 156]
abbrev dktX1_village_3 : List UInt8 := dkwX1_village_3 ++ dktX1_village_4
def dkwX1_village_2 : List UInt8 := [3, 18, 98, 184, 0, 147, 42, 180, 0, 19, 182, 0, 94, 16, 8, 162, 0, 7, 4, 167, 0, 4, 3]
abbrev dktX1_village_2 : List UInt8 := dkwX1_village_2 ++ dktX1_village_3
def dkwX1_village_1 : List UInt8 := [17, 2, 88, 184, 0, 143, 153, 0, 18, 21, 4, 4, 16, 9, 184, 0, 143, 153, 0, 7, 4, 167, 0, 4]
abbrev dktX1_village_1 : List UInt8 := dkwX1_village_1 ++ dktX1_village_2
def dkwX1_village_0 : List UInt8 := [27, 4, 16, 90, 184, 0, 143, 153, 0, 40, 28, 3, 17, 2, 88, 184, 0, 143, 153, 0, 29, 29, 3]
abbrev dktX1_village_0 : List UInt8 := dkwX1_village_0 ++ dktX1_village_1
theorem dksX1_village_0 : cX1_village.data.toList.drop 0 = dktX1_village_0 := by decide +kernel
theorem dksX1_village_1 : cX1_village.data.toList.drop 23 = dktX1_village_1 := dk_seg dksX1_village_0 23 rfl rfl
theorem dksX1_village_2 : cX1_village.data.toList.drop 47 = dktX1_village_2 := dk_seg dksX1_village_1 24 rfl rfl
theorem dksX1_village_3 : cX1_village.data.toList.drop 70 = dktX1_village_3 := dk_seg dksX1_village_2 23 rfl rfl
theorem dksX1_village_4 : cX1_village.data.toList.drop 94 = dktX1_village_4 := dk_seg dksX1_village_3 24 rfl rfl
theorem dksX1_village_5 : cX1_village.data.toList.drop 118 = dktX1_village_5 := dk_seg dksX1_village_4 24 rfl rfl
theorem dX1_village_0 : decode cX1_village 0 = .ok (.iload_n 1, 1) := dk_27 (dk_at dksX1_village_0 0 rfl rfl)
theorem dX1_village_1 : decode cX1_village 1 = .ok (.iconst 1, 1) := dk_4 (dk_at dksX1_village_0 1 rfl rfl)
theorem dX1_village_2 : decode cX1_village 2 = .ok (.bipush 90, 2) := dk_16 90 (dk_at dksX1_village_0 2 rfl rfl)
theorem dX1_village_4 : decode cX1_village 4 = .ok (.invokestatic 143, 3) := dk_184 0 143 (dk_at dksX1_village_0 4 rfl rfl)
theorem dX1_village_7 : decode cX1_village 7 = .ok (.ifCond .eq 40, 3) := dk_153 0 40 (dk_at dksX1_village_0 7 rfl rfl)
theorem dX1_village_10 : decode cX1_village 10 = .ok (.iload_n 2, 1) := dk_28 (dk_at dksX1_village_0 10 rfl rfl)
theorem dX1_village_11 : decode cX1_village 11 = .ok (.iconst 0, 1) := dk_3 (dk_at dksX1_village_0 11 rfl rfl)
theorem dX1_village_12 : decode cX1_village 12 = .ok (.sipush 600, 3) := dk_17 2 88 (dk_at dksX1_village_0 12 rfl rfl)
theorem dX1_village_15 : decode cX1_village 15 = .ok (.invokestatic 143, 3) := dk_184 0 143 (dk_at dksX1_village_0 15 rfl rfl)
theorem dX1_village_18 : decode cX1_village 18 = .ok (.ifCond .eq 29, 3) := dk_153 0 29 (dk_at dksX1_village_0 18 rfl rfl)
theorem dX1_village_21 : decode cX1_village 21 = .ok (.iload_n 3, 1) := dk_29 (dk_at dksX1_village_0 21 rfl rfl)
theorem dX1_village_22 : decode cX1_village 22 = .ok (.iconst 0, 1) := dk_3 (dk_at dksX1_village_0 22 rfl rfl)
theorem dX1_village_23 : decode cX1_village 23 = .ok (.sipush 600, 3) := dk_17 2 88 (dk_at dksX1_village_1 0 rfl rfl)
theorem dX1_village_26 : decode cX1_village 26 = .ok (.invokestatic 143, 3) := dk_184 0 143 (dk_at dksX1_village_1 3 rfl rfl)
theorem dX1_village_29 : decode cX1_village 29 = .ok (.ifCond .eq 18, 3) := dk_153 0 18 (dk_at dksX1_village_1 6 rfl rfl)
theorem dX1_village_32 : decode cX1_village 32 = .ok (.iload 4, 2) := dk_21 4 (dk_at dksX1_village_1 9 rfl rfl)
theorem dX1_village_34 : decode cX1_village 34 = .ok (.iconst 1, 1) := dk_4 (dk_at dksX1_village_1 11 rfl rfl)
theorem dX1_village_35 : decode cX1_village 35 = .ok (.bipush 9, 2) := dk_16 9 (dk_at dksX1_village_1 12 rfl rfl)
theorem dX1_village_37 : decode cX1_village 37 = .ok (.invokestatic 143, 3) := dk_184 0 143 (dk_at dksX1_village_1 14 rfl rfl)
theorem dX1_village_40 : decode cX1_village 40 = .ok (.ifCond .eq 7, 3) := dk_153 0 7 (dk_at dksX1_village_1 17 rfl rfl)
theorem dX1_village_43 : decode cX1_village 43 = .ok (.iconst 1, 1) := dk_4 (dk_at dksX1_village_1 20 rfl rfl)
theorem dX1_village_44 : decode cX1_village 44 = .ok (.goto 4, 3) := dk_167 0 4 (dk_at dksX1_village_1 21 rfl rfl)
theorem dX1_village_47 : decode cX1_village 47 = .ok (.iconst 0, 1) := dk_3 (dk_at dksX1_village_2 0 rfl rfl)
theorem dX1_village_48 : decode cX1_village 48 = .ok (.ldc 98, 2) := dk_18 98 (dk_at dksX1_village_2 1 rfl rfl)
theorem dX1_village_50 : decode cX1_village 50 = .ok (.invokestatic 147, 3) := dk_184 0 147 (dk_at dksX1_village_2 3 rfl rfl)
theorem dX1_village_53 : decode cX1_village 53 = .ok (.aload_n 0, 1) := dk_42 (dk_at dksX1_village_2 6 rfl rfl)
theorem dX1_village_54 : decode cX1_village 54 = .ok (.getfield 19, 3) := dk_180 0 19 (dk_at dksX1_village_2 7 rfl rfl)
theorem dX1_village_57 : decode cX1_village 57 = .ok (.invokevirtual 94, 3) := dk_182 0 94 (dk_at dksX1_village_2 10 rfl rfl)
theorem dX1_village_60 : decode cX1_village 60 = .ok (.bipush 8, 2) := dk_16 8 (dk_at dksX1_village_2 13 rfl rfl)
theorem dX1_village_62 : decode cX1_village 62 = .ok (.if_icmp .ge 7, 3) := dk_162 0 7 (dk_at dksX1_village_2 15 rfl rfl)
theorem dX1_village_65 : decode cX1_village 65 = .ok (.iconst 1, 1) := dk_4 (dk_at dksX1_village_2 18 rfl rfl)
theorem dX1_village_66 : decode cX1_village 66 = .ok (.goto 4, 3) := dk_167 0 4 (dk_at dksX1_village_2 19 rfl rfl)
theorem dX1_village_69 : decode cX1_village 69 = .ok (.iconst 0, 1) := dk_3 (dk_at dksX1_village_2 22 rfl rfl)
theorem dX1_village_70 : decode cX1_village 70 = .ok (.ldc 151, 2) := dk_18 151 (dk_at dksX1_village_3 0 rfl rfl)
theorem dX1_village_72 : decode cX1_village 72 = .ok (.invokestatic 153, 3) := dk_184 0 153 (dk_at dksX1_village_3 2 rfl rfl)
theorem dX1_village_75 : decode cX1_village 75 = .ok (.new 108, 3) := dk_187 0 108 (dk_at dksX1_village_3 5 rfl rfl)
theorem dX1_village_78 : decode cX1_village 78 = .ok (.dup, 1) := dk_89 (dk_at dksX1_village_3 8 rfl rfl)
theorem dX1_village_79 : decode cX1_village 79 = .ok (.aload_n 0, 1) := dk_42 (dk_at dksX1_village_3 9 rfl rfl)
theorem dX1_village_80 : decode cX1_village 80 = .ok (.getfield 19, 3) := dk_180 0 19 (dk_at dksX1_village_3 10 rfl rfl)
theorem dX1_village_83 : decode cX1_village 83 = .ok (.invokevirtual 94, 3) := dk_182 0 94 (dk_at dksX1_village_3 13 rfl rfl)
theorem dX1_village_86 : decode cX1_village 86 = .ok (.iload_n 1, 1) := dk_27 (dk_at dksX1_village_3 16 rfl rfl)
theorem dX1_village_87 : decode cX1_village 87 = .ok (.iload_n 2, 1) := dk_28 (dk_at dksX1_village_3 17 rfl rfl)
theorem dX1_village_88 : decode cX1_village 88 = .ok (.iload_n 3, 1) := dk_29 (dk_at dksX1_village_3 18 rfl rfl)
theorem dX1_village_89 : decode cX1_village 89 = .ok (.iload 4, 2) := dk_21 4 (dk_at dksX1_village_3 19 rfl rfl)
theorem dX1_village_91 : decode cX1_village 91 = .ok (.invokespecial 156, 3) := dk_183 0 156 (dk_at dksX1_village_3 21 rfl rfl)
theorem dX1_village_94 : decode cX1_village 94 = .ok (.astore 5, 2) := dk_58 5 (dk_at dksX1_village_4 0 rfl rfl)
theorem dX1_village_96 : decode cX1_village 96 = .ok (.aload 5, 2) := dk_25 5 (dk_at dksX1_village_4 2 rfl rfl)
theorem dX1_village_98 : decode cX1_village 98 = .ok (.aload_n 0, 1) := dk_42 (dk_at dksX1_village_4 4 rfl rfl)
theorem dX1_village_99 : decode cX1_village 99 = .ok (.getfield 33, 3) := dk_180 0 33 (dk_at dksX1_village_4 5 rfl rfl)
theorem dX1_village_102 : decode cX1_village 102 = .ok (.aload_n 0, 1) := dk_42 (dk_at dksX1_village_4 8 rfl rfl)
theorem dX1_village_103 : decode cX1_village 103 = .ok (.getfield 159, 3) := dk_180 0 159 (dk_at dksX1_village_4 9 rfl rfl)
theorem dX1_village_106 : decode cX1_village 106 = .ok (.invokevirtual 162, 3) := dk_182 0 162 (dk_at dksX1_village_4 12 rfl rfl)
theorem dX1_village_109 : decode cX1_village 109 = .ok (.aload_n 0, 1) := dk_42 (dk_at dksX1_village_4 15 rfl rfl)
theorem dX1_village_110 : decode cX1_village 110 = .ok (.getfield 19, 3) := dk_180 0 19 (dk_at dksX1_village_4 16 rfl rfl)
theorem dX1_village_113 : decode cX1_village 113 = .ok (.aload 5, 2) := dk_25 5 (dk_at dksX1_village_4 19 rfl rfl)
theorem dX1_village_115 : decode cX1_village 115 = .ok (.invokevirtual 166, 3) := dk_182 0 166 (dk_at dksX1_village_4 21 rfl rfl)
theorem dX1_village_118 : decode cX1_village 118 = .ok (.pop, 1) := dk_87 (dk_at dksX1_village_5 0 rfl rfl)
theorem dX1_village_119 : decode cX1_village 119 = .ok (.aload 5, 2) := dk_25 5 (dk_at dksX1_village_5 1 rfl rfl)
theorem dX1_village_121 : decode cX1_village 121 = .ok (.getfield 129, 3) := dk_180 0 129 (dk_at dksX1_village_5 3 rfl rfl)
theorem dX1_village_124 : decode cX1_village 124 = .ok (.ireturn, 1) := dk_172 (dk_at dksX1_village_5 6 rfl rfl)
abbrev cX1_isIn : ByteArray := prog_1_method_12_code
def yX1_isIn : MethodName := ⟨RX1, "isIn", "(III)Z"⟩
def dkwX1_isIn_0 : List UInt8 := [26, 27, 161, 0, 12, 26, 28, 163, 0, 7, 4, 167, 0, 4, 3, 172]
abbrev dktX1_isIn_0 : List UInt8 := dkwX1_isIn_0 ++ []
theorem dksX1_isIn_0 : cX1_isIn.data.toList.drop 0 = dktX1_isIn_0 := by decide +kernel
theorem dX1_isIn_0 : decode cX1_isIn 0 = .ok (.iload_n 0, 1) := dk_26 (dk_at dksX1_isIn_0 0 rfl rfl)
theorem dX1_isIn_1 : decode cX1_isIn 1 = .ok (.iload_n 1, 1) := dk_27 (dk_at dksX1_isIn_0 1 rfl rfl)
theorem dX1_isIn_2 : decode cX1_isIn 2 = .ok (.if_icmp .lt 12, 3) := dk_161 0 12 (dk_at dksX1_isIn_0 2 rfl rfl)
theorem dX1_isIn_5 : decode cX1_isIn 5 = .ok (.iload_n 0, 1) := dk_26 (dk_at dksX1_isIn_0 5 rfl rfl)
theorem dX1_isIn_6 : decode cX1_isIn 6 = .ok (.iload_n 2, 1) := dk_28 (dk_at dksX1_isIn_0 6 rfl rfl)
theorem dX1_isIn_7 : decode cX1_isIn 7 = .ok (.if_icmp .gt 7, 3) := dk_163 0 7 (dk_at dksX1_isIn_0 7 rfl rfl)
theorem dX1_isIn_10 : decode cX1_isIn 10 = .ok (.iconst 1, 1) := dk_4 (dk_at dksX1_isIn_0 10 rfl rfl)
theorem dX1_isIn_11 : decode cX1_isIn 11 = .ok (.goto 4, 3) := dk_167 0 4 (dk_at dksX1_isIn_0 11 rfl rfl)
theorem dX1_isIn_14 : decode cX1_isIn 14 = .ok (.iconst 0, 1) := dk_3 (dk_at dksX1_isIn_0 14 rfl rfl)
theorem dX1_isIn_15 : decode cX1_isIn 15 = .ok (.ireturn, 1) := dk_172 (dk_at dksX1_isIn_0 15 rfl rfl)
abbrev cX1_check : ByteArray := prog_1_method_5_code
def yX1_check : MethodName := ⟨RX1, "check", "(ZLjava/lang/String;)V"⟩
def dkwX1_check_0 : List UInt8 := [26, 154, 0, 12, 187, 0, 83, 89, 43, 183, 0, 85, 191, 177]
abbrev dktX1_check_0 : List UInt8 := dkwX1_check_0 ++ []
theorem dksX1_check_0 : cX1_check.data.toList.drop 0 = dktX1_check_0 := by decide +kernel
theorem dX1_check_0 : decode cX1_check 0 = .ok (.iload_n 0, 1) := dk_26 (dk_at dksX1_check_0 0 rfl rfl)
theorem dX1_check_1 : decode cX1_check 1 = .ok (.ifCond .ne 12, 3) := dk_154 0 12 (dk_at dksX1_check_0 1 rfl rfl)
theorem dX1_check_4 : decode cX1_check 4 = .ok (.new 83, 3) := dk_187 0 83 (dk_at dksX1_check_0 4 rfl rfl)
theorem dX1_check_7 : decode cX1_check 7 = .ok (.dup, 1) := dk_89 (dk_at dksX1_check_0 7 rfl rfl)
theorem dX1_check_8 : decode cX1_check 8 = .ok (.aload_n 1, 1) := dk_43 (dk_at dksX1_check_0 8 rfl rfl)
theorem dX1_check_9 : decode cX1_check 9 = .ok (.invokespecial 85, 3) := dk_183 0 85 (dk_at dksX1_check_0 9 rfl rfl)
theorem dX1_check_12 : decode cX1_check 12 = .ok (.athrow, 1) := dk_191 (dk_at dksX1_check_0 12 rfl rfl)
theorem dX1_check_13 : decode cX1_check 13 = .ok (.return_, 1) := dk_177 (dk_at dksX1_check_0 13 rfl rfl)
abbrev cX1_state : ByteArray := prog_1_method_6_code
def yX1_state : MethodName := ⟨RX1, "state", "(ZLjava/lang/String;)V"⟩
def dkwX1_state_0 : List UInt8 := [26, 154, 0, 12, 187, 0, 88, 89, 43, 183, 0, 90, 191, 177]
abbrev dktX1_state_0 : List UInt8 := dkwX1_state_0 ++ []
theorem dksX1_state_0 : cX1_state.data.toList.drop 0 = dktX1_state_0 := by decide +kernel
theorem dX1_state_0 : decode cX1_state 0 = .ok (.iload_n 0, 1) := dk_26 (dk_at dksX1_state_0 0 rfl rfl)
theorem dX1_state_1 : decode cX1_state 1 = .ok (.ifCond .ne 12, 3) := dk_154 0 12 (dk_at dksX1_state_0 1 rfl rfl)
theorem dX1_state_4 : decode cX1_state 4 = .ok (.new 88, 3) := dk_187 0 88 (dk_at dksX1_state_0 4 rfl rfl)
theorem dX1_state_7 : decode cX1_state 7 = .ok (.dup, 1) := dk_89 (dk_at dksX1_state_0 7 rfl rfl)
theorem dX1_state_8 : decode cX1_state 8 = .ok (.aload_n 1, 1) := dk_43 (dk_at dksX1_state_0 8 rfl rfl)
theorem dX1_state_9 : decode cX1_state 9 = .ok (.invokespecial 90, 3) := dk_183 0 90 (dk_at dksX1_state_0 9 rfl rfl)
theorem dX1_state_12 : decode cX1_state 12 = .ok (.athrow, 1) := dk_191 (dk_at dksX1_state_0 12 rfl rfl)
theorem dX1_state_13 : decode cX1_state 13 = .ok (.return_, 1) := dk_177 (dk_at dksX1_state_0 13 rfl rfl)
abbrev cX1_clear : ByteArray := prog_1_method_17_code
def yX1_clear : MethodName := ⟨RX1, "clear", "(II)I"⟩
def dkwX1_clear_1 : List UInt8 := [180, 0, 176, 28, 96, 184, 0, 1, 181, 0, 176, 45, 180, 0, 176, 172]
abbrev dktX1_clear_1 : List UInt8 := dkwX1_clear_1 ++ []
def dkwX1_clear_0 : List UInt8 := [42, 27, 182, 0, 170, 78, 28, 4, 16, 100, 184, 0, 143, 18, 174, 184, 0, 147, 45, 17, 2, 88, 45]
abbrev dktX1_clear_0 : List UInt8 := dkwX1_clear_0 ++ dktX1_clear_1
theorem dksX1_clear_0 : cX1_clear.data.toList.drop 0 = dktX1_clear_0 := by decide +kernel
theorem dksX1_clear_1 : cX1_clear.data.toList.drop 23 = dktX1_clear_1 := dk_seg dksX1_clear_0 23 rfl rfl
theorem dX1_clear_0 : decode cX1_clear 0 = .ok (.aload_n 0, 1) := dk_42 (dk_at dksX1_clear_0 0 rfl rfl)
theorem dX1_clear_1 : decode cX1_clear 1 = .ok (.iload_n 1, 1) := dk_27 (dk_at dksX1_clear_0 1 rfl rfl)
theorem dX1_clear_2 : decode cX1_clear 2 = .ok (.invokevirtual 170, 3) := dk_182 0 170 (dk_at dksX1_clear_0 2 rfl rfl)
theorem dX1_clear_5 : decode cX1_clear 5 = .ok (.astore_n 3, 1) := dk_78 (dk_at dksX1_clear_0 5 rfl rfl)
theorem dX1_clear_6 : decode cX1_clear 6 = .ok (.iload_n 2, 1) := dk_28 (dk_at dksX1_clear_0 6 rfl rfl)
theorem dX1_clear_7 : decode cX1_clear 7 = .ok (.iconst 1, 1) := dk_4 (dk_at dksX1_clear_0 7 rfl rfl)
theorem dX1_clear_8 : decode cX1_clear 8 = .ok (.bipush 100, 2) := dk_16 100 (dk_at dksX1_clear_0 8 rfl rfl)
theorem dX1_clear_10 : decode cX1_clear 10 = .ok (.invokestatic 143, 3) := dk_184 0 143 (dk_at dksX1_clear_0 10 rfl rfl)
theorem dX1_clear_13 : decode cX1_clear 13 = .ok (.ldc 174, 2) := dk_18 174 (dk_at dksX1_clear_0 13 rfl rfl)
theorem dX1_clear_15 : decode cX1_clear 15 = .ok (.invokestatic 147, 3) := dk_184 0 147 (dk_at dksX1_clear_0 15 rfl rfl)
theorem dX1_clear_18 : decode cX1_clear 18 = .ok (.aload_n 3, 1) := dk_45 (dk_at dksX1_clear_0 18 rfl rfl)
theorem dX1_clear_19 : decode cX1_clear 19 = .ok (.sipush 600, 3) := dk_17 2 88 (dk_at dksX1_clear_0 19 rfl rfl)
theorem dX1_clear_22 : decode cX1_clear 22 = .ok (.aload_n 3, 1) := dk_45 (dk_at dksX1_clear_0 22 rfl rfl)
theorem dX1_clear_23 : decode cX1_clear 23 = .ok (.getfield 176, 3) := dk_180 0 176 (dk_at dksX1_clear_1 0 rfl rfl)
theorem dX1_clear_26 : decode cX1_clear 26 = .ok (.iload_n 2, 1) := dk_28 (dk_at dksX1_clear_1 3 rfl rfl)
theorem dX1_clear_27 : decode cX1_clear 27 = .ok (.iadd, 1) := dk_96 (dk_at dksX1_clear_1 4 rfl rfl)
theorem dX1_clear_28 : decode cX1_clear 28 = .ok (.invokestatic 1, 3) := dk_184 0 1 (dk_at dksX1_clear_1 5 rfl rfl)
theorem dX1_clear_31 : decode cX1_clear 31 = .ok (.putfield 176, 3) := dk_181 0 176 (dk_at dksX1_clear_1 8 rfl rfl)
theorem dX1_clear_34 : decode cX1_clear 34 = .ok (.aload_n 3, 1) := dk_45 (dk_at dksX1_clear_1 11 rfl rfl)
theorem dX1_clear_35 : decode cX1_clear 35 = .ok (.getfield 176, 3) := dk_180 0 176 (dk_at dksX1_clear_1 12 rfl rfl)
theorem dX1_clear_38 : decode cX1_clear 38 = .ok (.ireturn, 1) := dk_172 (dk_at dksX1_clear_1 15 rfl rfl)
abbrev cX1_villageOf : ByteArray := prog_1_method_8_code
def yX1_villageOf : MethodName := ⟨RX1, "villageOf", "(I)LPublicanry$Village;"⟩
def dkwX1_villageOf_0 : List UInt8 := [42, 180, 0, 19, 27, 42, 180, 0, 19, 182, 0, 94, 18, 98, 184, 0, 100, 182, 0, 104, 192, 0, 108, 176]
abbrev dktX1_villageOf_0 : List UInt8 := dkwX1_villageOf_0 ++ []
theorem dksX1_villageOf_0 : cX1_villageOf.data.toList.drop 0 = dktX1_villageOf_0 := by decide +kernel
theorem dX1_villageOf_0 : decode cX1_villageOf 0 = .ok (.aload_n 0, 1) := dk_42 (dk_at dksX1_villageOf_0 0 rfl rfl)
theorem dX1_villageOf_1 : decode cX1_villageOf 1 = .ok (.getfield 19, 3) := dk_180 0 19 (dk_at dksX1_villageOf_0 1 rfl rfl)
theorem dX1_villageOf_4 : decode cX1_villageOf 4 = .ok (.iload_n 1, 1) := dk_27 (dk_at dksX1_villageOf_0 4 rfl rfl)
theorem dX1_villageOf_5 : decode cX1_villageOf 5 = .ok (.aload_n 0, 1) := dk_42 (dk_at dksX1_villageOf_0 5 rfl rfl)
theorem dX1_villageOf_6 : decode cX1_villageOf 6 = .ok (.getfield 19, 3) := dk_180 0 19 (dk_at dksX1_villageOf_0 6 rfl rfl)
theorem dX1_villageOf_9 : decode cX1_villageOf 9 = .ok (.invokevirtual 94, 3) := dk_182 0 94 (dk_at dksX1_villageOf_0 9 rfl rfl)
theorem dX1_villageOf_12 : decode cX1_villageOf 12 = .ok (.ldc 98, 2) := dk_18 98 (dk_at dksX1_villageOf_0 12 rfl rfl)
theorem dX1_villageOf_14 : decode cX1_villageOf 14 = .ok (.invokestatic 100, 3) := dk_184 0 100 (dk_at dksX1_villageOf_0 14 rfl rfl)
theorem dX1_villageOf_17 : decode cX1_villageOf 17 = .ok (.invokevirtual 104, 3) := dk_182 0 104 (dk_at dksX1_villageOf_0 17 rfl rfl)
theorem dX1_villageOf_20 : decode cX1_villageOf 20 = .ok (.checkcast 108, 3) := dk_192 0 108 (dk_at dksX1_villageOf_0 20 rfl rfl)
theorem dX1_villageOf_23 : decode cX1_villageOf 23 = .ok (.areturn, 1) := dk_176 (dk_at dksX1_villageOf_0 23 rfl rfl)
abbrev cX1_index : ByteArray := prog_1_method_7_code
def yX1_index : MethodName := ⟨RX1, "index", "(IILjava/lang/String;)I"⟩
def dkwX1_index_0 : List UInt8 := [26, 155, 0, 8, 26, 27, 161, 0, 12, 187, 0, 91, 89, 44, 183, 0, 93, 191, 26, 172]
abbrev dktX1_index_0 : List UInt8 := dkwX1_index_0 ++ []
theorem dksX1_index_0 : cX1_index.data.toList.drop 0 = dktX1_index_0 := by decide +kernel
theorem dX1_index_0 : decode cX1_index 0 = .ok (.iload_n 0, 1) := dk_26 (dk_at dksX1_index_0 0 rfl rfl)
theorem dX1_index_1 : decode cX1_index 1 = .ok (.ifCond .lt 8, 3) := dk_155 0 8 (dk_at dksX1_index_0 1 rfl rfl)
theorem dX1_index_4 : decode cX1_index 4 = .ok (.iload_n 0, 1) := dk_26 (dk_at dksX1_index_0 4 rfl rfl)
theorem dX1_index_5 : decode cX1_index 5 = .ok (.iload_n 1, 1) := dk_27 (dk_at dksX1_index_0 5 rfl rfl)
theorem dX1_index_6 : decode cX1_index 6 = .ok (.if_icmp .lt 12, 3) := dk_161 0 12 (dk_at dksX1_index_0 6 rfl rfl)
theorem dX1_index_9 : decode cX1_index 9 = .ok (.new 91, 3) := dk_187 0 91 (dk_at dksX1_index_0 9 rfl rfl)
theorem dX1_index_12 : decode cX1_index 12 = .ok (.dup, 1) := dk_89 (dk_at dksX1_index_0 12 rfl rfl)
theorem dX1_index_13 : decode cX1_index 13 = .ok (.aload_n 2, 1) := dk_44 (dk_at dksX1_index_0 13 rfl rfl)
theorem dX1_index_14 : decode cX1_index 14 = .ok (.invokespecial 93, 3) := dk_183 0 93 (dk_at dksX1_index_0 14 rfl rfl)
theorem dX1_index_17 : decode cX1_index 17 = .ok (.athrow, 1) := dk_191 (dk_at dksX1_index_0 17 rfl rfl)
theorem dX1_index_18 : decode cX1_index 18 = .ok (.iload_n 0, 1) := dk_26 (dk_at dksX1_index_0 18 rfl rfl)
theorem dX1_index_19 : decode cX1_index 19 = .ok (.ireturn, 1) := dk_172 (dk_at dksX1_index_0 19 rfl rfl)
abbrev cX1_survey : ByteArray := prog_1_method_18_code
def yX1_survey : MethodName := ⟨RX1, "survey", "(I)I"⟩
def dkwX1_survey_1 : List UInt8 := [16, 50, 108, 96, 182, 0, 182, 87, 44, 44, 180, 0, 176, 181, 0, 179, 29, 172]
abbrev dktX1_survey_1 : List UInt8 := dkwX1_survey_1 ++ []
def dkwX1_survey_0 : List UInt8 := [42, 27, 182, 0, 170, 77, 44, 180, 0, 179, 62, 42, 180, 0, 47, 42, 180, 0, 40, 5, 44, 180, 0, 176]
abbrev dktX1_survey_0 : List UInt8 := dkwX1_survey_0 ++ dktX1_survey_1
theorem dksX1_survey_0 : cX1_survey.data.toList.drop 0 = dktX1_survey_0 := by decide +kernel
theorem dksX1_survey_1 : cX1_survey.data.toList.drop 24 = dktX1_survey_1 := dk_seg dksX1_survey_0 24 rfl rfl
theorem dX1_survey_0 : decode cX1_survey 0 = .ok (.aload_n 0, 1) := dk_42 (dk_at dksX1_survey_0 0 rfl rfl)
theorem dX1_survey_1 : decode cX1_survey 1 = .ok (.iload_n 1, 1) := dk_27 (dk_at dksX1_survey_0 1 rfl rfl)
theorem dX1_survey_2 : decode cX1_survey 2 = .ok (.invokevirtual 170, 3) := dk_182 0 170 (dk_at dksX1_survey_0 2 rfl rfl)
theorem dX1_survey_5 : decode cX1_survey 5 = .ok (.astore_n 2, 1) := dk_77 (dk_at dksX1_survey_0 5 rfl rfl)
theorem dX1_survey_6 : decode cX1_survey 6 = .ok (.aload_n 2, 1) := dk_44 (dk_at dksX1_survey_0 6 rfl rfl)
theorem dX1_survey_7 : decode cX1_survey 7 = .ok (.getfield 179, 3) := dk_180 0 179 (dk_at dksX1_survey_0 7 rfl rfl)
theorem dX1_survey_10 : decode cX1_survey 10 = .ok (.istore_n 3, 1) := dk_62 (dk_at dksX1_survey_0 10 rfl rfl)
theorem dX1_survey_11 : decode cX1_survey 11 = .ok (.aload_n 0, 1) := dk_42 (dk_at dksX1_survey_0 11 rfl rfl)
theorem dX1_survey_12 : decode cX1_survey 12 = .ok (.getfield 47, 3) := dk_180 0 47 (dk_at dksX1_survey_0 12 rfl rfl)
theorem dX1_survey_15 : decode cX1_survey 15 = .ok (.aload_n 0, 1) := dk_42 (dk_at dksX1_survey_0 15 rfl rfl)
theorem dX1_survey_16 : decode cX1_survey 16 = .ok (.getfield 40, 3) := dk_180 0 40 (dk_at dksX1_survey_0 16 rfl rfl)
theorem dX1_survey_19 : decode cX1_survey 19 = .ok (.iconst 2, 1) := dk_5 (dk_at dksX1_survey_0 19 rfl rfl)
theorem dX1_survey_20 : decode cX1_survey 20 = .ok (.aload_n 2, 1) := dk_44 (dk_at dksX1_survey_0 20 rfl rfl)
theorem dX1_survey_21 : decode cX1_survey 21 = .ok (.getfield 176, 3) := dk_180 0 176 (dk_at dksX1_survey_0 21 rfl rfl)
theorem dX1_survey_24 : decode cX1_survey 24 = .ok (.bipush 50, 2) := dk_16 50 (dk_at dksX1_survey_1 0 rfl rfl)
theorem dX1_survey_26 : decode cX1_survey 26 = .ok (.idiv, 1) := dk_108 (dk_at dksX1_survey_1 2 rfl rfl)
theorem dX1_survey_27 : decode cX1_survey 27 = .ok (.iadd, 1) := dk_96 (dk_at dksX1_survey_1 3 rfl rfl)
theorem dX1_survey_28 : decode cX1_survey 28 = .ok (.invokevirtual 182, 3) := dk_182 0 182 (dk_at dksX1_survey_1 4 rfl rfl)
theorem dX1_survey_31 : decode cX1_survey 31 = .ok (.pop, 1) := dk_87 (dk_at dksX1_survey_1 7 rfl rfl)
theorem dX1_survey_32 : decode cX1_survey 32 = .ok (.aload_n 2, 1) := dk_44 (dk_at dksX1_survey_1 8 rfl rfl)
theorem dX1_survey_33 : decode cX1_survey 33 = .ok (.aload_n 2, 1) := dk_44 (dk_at dksX1_survey_1 9 rfl rfl)
theorem dX1_survey_34 : decode cX1_survey 34 = .ok (.getfield 176, 3) := dk_180 0 176 (dk_at dksX1_survey_1 10 rfl rfl)
theorem dX1_survey_37 : decode cX1_survey 37 = .ok (.putfield 179, 3) := dk_181 0 179 (dk_at dksX1_survey_1 13 rfl rfl)
theorem dX1_survey_40 : decode cX1_survey 40 = .ok (.iload_n 3, 1) := dk_29 (dk_at dksX1_survey_1 16 rfl rfl)
theorem dX1_survey_41 : decode cX1_survey 41 = .ok (.ireturn, 1) := dk_172 (dk_at dksX1_survey_1 17 rfl rfl)
abbrev cX1_war : ByteArray := prog_1_method_20_code
def yX1_war : MethodName := ⟨RX1, "war", "(I)I"⟩
def dkwX1_war_3 : List UInt8 := [184, 0, 209, 96, 61, 167, 255, 206, 28, 172]
abbrev dktX1_war_3 : List UInt8 := dkwX1_war_3 ++ []
def dkwX1_war_2 : List UInt8 := [180, 0, 205, 27, 25, 4, 180, 0, 129, 184, 0, 132, 128, 181, 0, 205, 28, 25, 4, 180, 0, 205]
abbrev dktX1_war_2 : List UInt8 := dkwX1_war_2 ++ dktX1_war_3
def dkwX1_war_1 : List UInt8 := [185, 0, 195, 1, 0, 153, 0, 47, 45, 185, 0, 201, 1, 0, 192, 0, 108, 58, 4, 25, 4, 89]
abbrev dktX1_war_1 : List UInt8 := dkwX1_war_1 ++ dktX1_war_2
def dkwX1_war_0 : List UInt8 := [42, 27, 182, 0, 186, 18, 190, 184, 0, 147, 3, 61, 42, 180, 0, 19, 182, 0, 191, 78, 45]
abbrev dktX1_war_0 : List UInt8 := dkwX1_war_0 ++ dktX1_war_1
theorem dksX1_war_0 : cX1_war.data.toList.drop 0 = dktX1_war_0 := by decide +kernel
theorem dksX1_war_1 : cX1_war.data.toList.drop 21 = dktX1_war_1 := dk_seg dksX1_war_0 21 rfl rfl
theorem dksX1_war_2 : cX1_war.data.toList.drop 43 = dktX1_war_2 := dk_seg dksX1_war_1 22 rfl rfl
theorem dksX1_war_3 : cX1_war.data.toList.drop 65 = dktX1_war_3 := dk_seg dksX1_war_2 22 rfl rfl
theorem dX1_war_0 : decode cX1_war 0 = .ok (.aload_n 0, 1) := dk_42 (dk_at dksX1_war_0 0 rfl rfl)
theorem dX1_war_1 : decode cX1_war 1 = .ok (.iload_n 1, 1) := dk_27 (dk_at dksX1_war_0 1 rfl rfl)
theorem dX1_war_2 : decode cX1_war 2 = .ok (.invokevirtual 186, 3) := dk_182 0 186 (dk_at dksX1_war_0 2 rfl rfl)
theorem dX1_war_5 : decode cX1_war 5 = .ok (.ldc 190, 2) := dk_18 190 (dk_at dksX1_war_0 5 rfl rfl)
theorem dX1_war_7 : decode cX1_war 7 = .ok (.invokestatic 147, 3) := dk_184 0 147 (dk_at dksX1_war_0 7 rfl rfl)
theorem dX1_war_10 : decode cX1_war 10 = .ok (.iconst 0, 1) := dk_3 (dk_at dksX1_war_0 10 rfl rfl)
theorem dX1_war_11 : decode cX1_war 11 = .ok (.istore_n 2, 1) := dk_61 (dk_at dksX1_war_0 11 rfl rfl)
theorem dX1_war_12 : decode cX1_war 12 = .ok (.aload_n 0, 1) := dk_42 (dk_at dksX1_war_0 12 rfl rfl)
theorem dX1_war_13 : decode cX1_war 13 = .ok (.getfield 19, 3) := dk_180 0 19 (dk_at dksX1_war_0 13 rfl rfl)
theorem dX1_war_16 : decode cX1_war 16 = .ok (.invokevirtual 191, 3) := dk_182 0 191 (dk_at dksX1_war_0 16 rfl rfl)
theorem dX1_war_19 : decode cX1_war 19 = .ok (.astore_n 3, 1) := dk_78 (dk_at dksX1_war_0 19 rfl rfl)
theorem dX1_war_20 : decode cX1_war 20 = .ok (.aload_n 3, 1) := dk_45 (dk_at dksX1_war_0 20 rfl rfl)
theorem dX1_war_21 : decode cX1_war 21 = .ok (.invokeinterface 195 1, 5) := by decide +kernel
theorem dX1_war_26 : decode cX1_war 26 = .ok (.ifCond .eq 47, 3) := dk_153 0 47 (dk_at dksX1_war_1 5 rfl rfl)
theorem dX1_war_29 : decode cX1_war 29 = .ok (.aload_n 3, 1) := dk_45 (dk_at dksX1_war_1 8 rfl rfl)
theorem dX1_war_30 : decode cX1_war 30 = .ok (.invokeinterface 201 1, 5) := by decide +kernel
theorem dX1_war_35 : decode cX1_war 35 = .ok (.checkcast 108, 3) := dk_192 0 108 (dk_at dksX1_war_1 14 rfl rfl)
theorem dX1_war_38 : decode cX1_war 38 = .ok (.astore 4, 2) := dk_58 4 (dk_at dksX1_war_1 17 rfl rfl)
theorem dX1_war_40 : decode cX1_war 40 = .ok (.aload 4, 2) := dk_25 4 (dk_at dksX1_war_1 19 rfl rfl)
theorem dX1_war_42 : decode cX1_war 42 = .ok (.dup, 1) := dk_89 (dk_at dksX1_war_1 21 rfl rfl)
theorem dX1_war_43 : decode cX1_war 43 = .ok (.getfield 205, 3) := dk_180 0 205 (dk_at dksX1_war_2 0 rfl rfl)
theorem dX1_war_46 : decode cX1_war 46 = .ok (.iload_n 1, 1) := dk_27 (dk_at dksX1_war_2 3 rfl rfl)
theorem dX1_war_47 : decode cX1_war 47 = .ok (.aload 4, 2) := dk_25 4 (dk_at dksX1_war_2 4 rfl rfl)
theorem dX1_war_49 : decode cX1_war 49 = .ok (.getfield 129, 3) := dk_180 0 129 (dk_at dksX1_war_2 6 rfl rfl)
theorem dX1_war_52 : decode cX1_war 52 = .ok (.invokestatic 132, 3) := dk_184 0 132 (dk_at dksX1_war_2 9 rfl rfl)
theorem dX1_war_55 : decode cX1_war 55 = .ok (.ior, 1) := dk_128 (dk_at dksX1_war_2 12 rfl rfl)
theorem dX1_war_56 : decode cX1_war 56 = .ok (.putfield 205, 3) := dk_181 0 205 (dk_at dksX1_war_2 13 rfl rfl)
theorem dX1_war_59 : decode cX1_war 59 = .ok (.iload_n 2, 1) := dk_28 (dk_at dksX1_war_2 16 rfl rfl)
theorem dX1_war_60 : decode cX1_war 60 = .ok (.aload 4, 2) := dk_25 4 (dk_at dksX1_war_2 17 rfl rfl)
theorem dX1_war_62 : decode cX1_war 62 = .ok (.getfield 205, 3) := dk_180 0 205 (dk_at dksX1_war_2 19 rfl rfl)
theorem dX1_war_65 : decode cX1_war 65 = .ok (.invokestatic 209, 3) := dk_184 0 209 (dk_at dksX1_war_3 0 rfl rfl)
theorem dX1_war_68 : decode cX1_war 68 = .ok (.iadd, 1) := dk_96 (dk_at dksX1_war_3 3 rfl rfl)
theorem dX1_war_69 : decode cX1_war 69 = .ok (.istore_n 2, 1) := dk_61 (dk_at dksX1_war_3 4 rfl rfl)
theorem dX1_war_70 : decode cX1_war 70 = .ok (.goto (-50), 3) := dk_167 255 206 (dk_at dksX1_war_3 5 rfl rfl)
theorem dX1_war_73 : decode cX1_war 73 = .ok (.iload_n 2, 1) := dk_28 (dk_at dksX1_war_3 8 rfl rfl)
theorem dX1_war_74 : decode cX1_war 74 = .ok (.ireturn, 1) := dk_172 (dk_at dksX1_war_3 9 rfl rfl)
abbrev cX1_areVillages : ByteArray := prog_1_method_19_code
def yX1_areVillages : MethodName := ⟨RX1, "areVillages", "(I)Z"⟩
def dkwX1_areVillages_0 : List UInt8 := [27, 155, 0, 19, 27, 42, 180, 0, 19, 182, 0, 94, 122, 154, 0, 7, 4, 167, 0, 4, 3, 172]
abbrev dktX1_areVillages_0 : List UInt8 := dkwX1_areVillages_0 ++ []
theorem dksX1_areVillages_0 : cX1_areVillages.data.toList.drop 0 = dktX1_areVillages_0 := by decide +kernel
theorem dX1_areVillages_0 : decode cX1_areVillages 0 = .ok (.iload_n 1, 1) := dk_27 (dk_at dksX1_areVillages_0 0 rfl rfl)
theorem dX1_areVillages_1 : decode cX1_areVillages 1 = .ok (.ifCond .lt 19, 3) := dk_155 0 19 (dk_at dksX1_areVillages_0 1 rfl rfl)
theorem dX1_areVillages_4 : decode cX1_areVillages 4 = .ok (.iload_n 1, 1) := dk_27 (dk_at dksX1_areVillages_0 4 rfl rfl)
theorem dX1_areVillages_5 : decode cX1_areVillages 5 = .ok (.aload_n 0, 1) := dk_42 (dk_at dksX1_areVillages_0 5 rfl rfl)
theorem dX1_areVillages_6 : decode cX1_areVillages 6 = .ok (.getfield 19, 3) := dk_180 0 19 (dk_at dksX1_areVillages_0 6 rfl rfl)
theorem dX1_areVillages_9 : decode cX1_areVillages 9 = .ok (.invokevirtual 94, 3) := dk_182 0 94 (dk_at dksX1_areVillages_0 9 rfl rfl)
theorem dX1_areVillages_12 : decode cX1_areVillages 12 = .ok (.ishr, 1) := dk_122 (dk_at dksX1_areVillages_0 12 rfl rfl)
theorem dX1_areVillages_13 : decode cX1_areVillages 13 = .ok (.ifCond .ne 7, 3) := dk_154 0 7 (dk_at dksX1_areVillages_0 13 rfl rfl)
theorem dX1_areVillages_16 : decode cX1_areVillages 16 = .ok (.iconst 1, 1) := dk_4 (dk_at dksX1_areVillages_0 16 rfl rfl)
theorem dX1_areVillages_17 : decode cX1_areVillages 17 = .ok (.goto 4, 3) := dk_167 0 4 (dk_at dksX1_areVillages_0 17 rfl rfl)
theorem dX1_areVillages_20 : decode cX1_areVillages 20 = .ok (.iconst 0, 1) := dk_3 (dk_at dksX1_areVillages_0 20 rfl rfl)
theorem dX1_areVillages_21 : decode cX1_areVillages 21 = .ok (.ireturn, 1) := dk_172 (dk_at dksX1_areVillages_0 21 rfl rfl)
abbrev cX1_edict : ByteArray := prog_1_method_21_code
def yX1_edict : MethodName := ⟨RX1, "edict", "(III)I"⟩
def dkwX1_edict_2 : List UInt8 := [182, 0, 222, 42, 180, 0, 159, 4, 96, 172]
abbrev dktX1_edict_2 : List UInt8 := dkwX1_edict_2 ++ []
def dkwX1_edict_1 : List UInt8 := [184, 0, 143, 153, 0, 7, 4, 167, 0, 4, 3, 18, 220, 184, 0, 147, 42, 180, 0, 33, 27, 50, 28, 29]
abbrev dktX1_edict_1 : List UInt8 := dkwX1_edict_1 ++ dktX1_edict_2
def dkwX1_edict_0 : List UInt8 := [27, 184, 0, 213, 58, 4, 28, 3, 25, 4, 182, 0, 217, 184, 0, 143, 153, 0, 18, 29, 3, 17, 0, 255]
abbrev dktX1_edict_0 : List UInt8 := dkwX1_edict_0 ++ dktX1_edict_1
theorem dksX1_edict_0 : cX1_edict.data.toList.drop 0 = dktX1_edict_0 := by decide +kernel
theorem dksX1_edict_1 : cX1_edict.data.toList.drop 24 = dktX1_edict_1 := dk_seg dksX1_edict_0 24 rfl rfl
theorem dksX1_edict_2 : cX1_edict.data.toList.drop 48 = dktX1_edict_2 := dk_seg dksX1_edict_1 24 rfl rfl
theorem dX1_edict_0 : decode cX1_edict 0 = .ok (.iload_n 1, 1) := dk_27 (dk_at dksX1_edict_0 0 rfl rfl)
theorem dX1_edict_1 : decode cX1_edict 1 = .ok (.invokestatic 213, 3) := dk_184 0 213 (dk_at dksX1_edict_0 1 rfl rfl)
theorem dX1_edict_4 : decode cX1_edict 4 = .ok (.astore 4, 2) := dk_58 4 (dk_at dksX1_edict_0 4 rfl rfl)
theorem dX1_edict_6 : decode cX1_edict 6 = .ok (.iload_n 2, 1) := dk_28 (dk_at dksX1_edict_0 6 rfl rfl)
theorem dX1_edict_7 : decode cX1_edict 7 = .ok (.iconst 0, 1) := dk_3 (dk_at dksX1_edict_0 7 rfl rfl)
theorem dX1_edict_8 : decode cX1_edict 8 = .ok (.aload 4, 2) := dk_25 4 (dk_at dksX1_edict_0 8 rfl rfl)
theorem dX1_edict_10 : decode cX1_edict 10 = .ok (.invokevirtual 217, 3) := dk_182 0 217 (dk_at dksX1_edict_0 10 rfl rfl)
theorem dX1_edict_13 : decode cX1_edict 13 = .ok (.invokestatic 143, 3) := dk_184 0 143 (dk_at dksX1_edict_0 13 rfl rfl)
theorem dX1_edict_16 : decode cX1_edict 16 = .ok (.ifCond .eq 18, 3) := dk_153 0 18 (dk_at dksX1_edict_0 16 rfl rfl)
theorem dX1_edict_19 : decode cX1_edict 19 = .ok (.iload_n 3, 1) := dk_29 (dk_at dksX1_edict_0 19 rfl rfl)
theorem dX1_edict_20 : decode cX1_edict 20 = .ok (.iconst 0, 1) := dk_3 (dk_at dksX1_edict_0 20 rfl rfl)
theorem dX1_edict_21 : decode cX1_edict 21 = .ok (.sipush 255, 3) := dk_17 0 255 (dk_at dksX1_edict_0 21 rfl rfl)
theorem dX1_edict_24 : decode cX1_edict 24 = .ok (.invokestatic 143, 3) := dk_184 0 143 (dk_at dksX1_edict_1 0 rfl rfl)
theorem dX1_edict_27 : decode cX1_edict 27 = .ok (.ifCond .eq 7, 3) := dk_153 0 7 (dk_at dksX1_edict_1 3 rfl rfl)
theorem dX1_edict_30 : decode cX1_edict 30 = .ok (.iconst 1, 1) := dk_4 (dk_at dksX1_edict_1 6 rfl rfl)
theorem dX1_edict_31 : decode cX1_edict 31 = .ok (.goto 4, 3) := dk_167 0 4 (dk_at dksX1_edict_1 7 rfl rfl)
theorem dX1_edict_34 : decode cX1_edict 34 = .ok (.iconst 0, 1) := dk_3 (dk_at dksX1_edict_1 10 rfl rfl)
theorem dX1_edict_35 : decode cX1_edict 35 = .ok (.ldc 220, 2) := dk_18 220 (dk_at dksX1_edict_1 11 rfl rfl)
theorem dX1_edict_37 : decode cX1_edict 37 = .ok (.invokestatic 147, 3) := dk_184 0 147 (dk_at dksX1_edict_1 13 rfl rfl)
theorem dX1_edict_40 : decode cX1_edict 40 = .ok (.aload_n 0, 1) := dk_42 (dk_at dksX1_edict_1 16 rfl rfl)
theorem dX1_edict_41 : decode cX1_edict 41 = .ok (.getfield 33, 3) := dk_180 0 33 (dk_at dksX1_edict_1 17 rfl rfl)
theorem dX1_edict_44 : decode cX1_edict 44 = .ok (.iload_n 1, 1) := dk_27 (dk_at dksX1_edict_1 20 rfl rfl)
theorem dX1_edict_45 : decode cX1_edict 45 = .ok (.aaload, 1) := dk_50 (dk_at dksX1_edict_1 21 rfl rfl)
theorem dX1_edict_46 : decode cX1_edict 46 = .ok (.iload_n 2, 1) := dk_28 (dk_at dksX1_edict_1 22 rfl rfl)
theorem dX1_edict_47 : decode cX1_edict 47 = .ok (.iload_n 3, 1) := dk_29 (dk_at dksX1_edict_1 23 rfl rfl)
theorem dX1_edict_48 : decode cX1_edict 48 = .ok (.invokevirtual 222, 3) := dk_182 0 222 (dk_at dksX1_edict_2 0 rfl rfl)
theorem dX1_edict_51 : decode cX1_edict 51 = .ok (.aload_n 0, 1) := dk_42 (dk_at dksX1_edict_2 3 rfl rfl)
theorem dX1_edict_52 : decode cX1_edict 52 = .ok (.getfield 159, 3) := dk_180 0 159 (dk_at dksX1_edict_2 4 rfl rfl)
theorem dX1_edict_55 : decode cX1_edict 55 = .ok (.iconst 1, 1) := dk_4 (dk_at dksX1_edict_2 7 rfl rfl)
theorem dX1_edict_56 : decode cX1_edict 56 = .ok (.iadd, 1) := dk_96 (dk_at dksX1_edict_2 8 rfl rfl)
theorem dX1_edict_57 : decode cX1_edict 57 = .ok (.ireturn, 1) := dk_172 (dk_at dksX1_edict_2 9 rfl rfl)
abbrev cX1_dutyOf : ByteArray := prog_1_method_11_code
def yX1_dutyOf : MethodName := ⟨RX1, "dutyOf", "(I)LPublicanry$Duty;"⟩
def dkwX1_dutyOf_0 : List UInt8 := [184, 0, 71, 26, 6, 18, 118, 184, 0, 100, 50, 176]
abbrev dktX1_dutyOf_0 : List UInt8 := dkwX1_dutyOf_0 ++ []
theorem dksX1_dutyOf_0 : cX1_dutyOf.data.toList.drop 0 = dktX1_dutyOf_0 := by decide +kernel
theorem dX1_dutyOf_0 : decode cX1_dutyOf 0 = .ok (.invokestatic 71, 3) := dk_184 0 71 (dk_at dksX1_dutyOf_0 0 rfl rfl)
theorem dX1_dutyOf_3 : decode cX1_dutyOf 3 = .ok (.iload_n 0, 1) := dk_26 (dk_at dksX1_dutyOf_0 3 rfl rfl)
theorem dX1_dutyOf_4 : decode cX1_dutyOf 4 = .ok (.iconst 3, 1) := dk_6 (dk_at dksX1_dutyOf_0 4 rfl rfl)
theorem dX1_dutyOf_5 : decode cX1_dutyOf 5 = .ok (.ldc 118, 2) := dk_18 118 (dk_at dksX1_dutyOf_0 5 rfl rfl)
theorem dX1_dutyOf_7 : decode cX1_dutyOf 7 = .ok (.invokestatic 100, 3) := dk_184 0 100 (dk_at dksX1_dutyOf_0 7 rfl rfl)
theorem dX1_dutyOf_10 : decode cX1_dutyOf 10 = .ok (.aaload, 1) := dk_50 (dk_at dksX1_dutyOf_0 10 rfl rfl)
theorem dX1_dutyOf_11 : decode cX1_dutyOf 11 = .ok (.areturn, 1) := dk_176 (dk_at dksX1_dutyOf_0 11 rfl rfl)
abbrev cX1_cut : ByteArray := prog_1_method_22_code
def yX1_cut : MethodName := ⟨RX1, "cut", "(I)I"⟩
def dkwX1_cut_1 : List UInt8 := [44, 42, 180, 0, 33, 42, 180, 0, 159, 182, 0, 162, 29, 172]
abbrev dktX1_cut_1 : List UInt8 := dkwX1_cut_1 ++ []
def dkwX1_cut_0 : List UInt8 := [42, 27, 182, 0, 170, 77, 44, 180, 0, 226, 62, 42, 180, 0, 47, 42, 180, 0, 40, 6, 182, 0, 182, 87]
abbrev dktX1_cut_0 : List UInt8 := dkwX1_cut_0 ++ dktX1_cut_1
theorem dksX1_cut_0 : cX1_cut.data.toList.drop 0 = dktX1_cut_0 := by decide +kernel
theorem dksX1_cut_1 : cX1_cut.data.toList.drop 24 = dktX1_cut_1 := dk_seg dksX1_cut_0 24 rfl rfl
theorem dX1_cut_0 : decode cX1_cut 0 = .ok (.aload_n 0, 1) := dk_42 (dk_at dksX1_cut_0 0 rfl rfl)
theorem dX1_cut_1 : decode cX1_cut 1 = .ok (.iload_n 1, 1) := dk_27 (dk_at dksX1_cut_0 1 rfl rfl)
theorem dX1_cut_2 : decode cX1_cut 2 = .ok (.invokevirtual 170, 3) := dk_182 0 170 (dk_at dksX1_cut_0 2 rfl rfl)
theorem dX1_cut_5 : decode cX1_cut 5 = .ok (.astore_n 2, 1) := dk_77 (dk_at dksX1_cut_0 5 rfl rfl)
theorem dX1_cut_6 : decode cX1_cut 6 = .ok (.aload_n 2, 1) := dk_44 (dk_at dksX1_cut_0 6 rfl rfl)
theorem dX1_cut_7 : decode cX1_cut 7 = .ok (.getfield 226, 3) := dk_180 0 226 (dk_at dksX1_cut_0 7 rfl rfl)
theorem dX1_cut_10 : decode cX1_cut 10 = .ok (.istore_n 3, 1) := dk_62 (dk_at dksX1_cut_0 10 rfl rfl)
theorem dX1_cut_11 : decode cX1_cut 11 = .ok (.aload_n 0, 1) := dk_42 (dk_at dksX1_cut_0 11 rfl rfl)
theorem dX1_cut_12 : decode cX1_cut 12 = .ok (.getfield 47, 3) := dk_180 0 47 (dk_at dksX1_cut_0 12 rfl rfl)
theorem dX1_cut_15 : decode cX1_cut 15 = .ok (.aload_n 0, 1) := dk_42 (dk_at dksX1_cut_0 15 rfl rfl)
theorem dX1_cut_16 : decode cX1_cut 16 = .ok (.getfield 40, 3) := dk_180 0 40 (dk_at dksX1_cut_0 16 rfl rfl)
theorem dX1_cut_19 : decode cX1_cut 19 = .ok (.iconst 3, 1) := dk_6 (dk_at dksX1_cut_0 19 rfl rfl)
theorem dX1_cut_20 : decode cX1_cut 20 = .ok (.invokevirtual 182, 3) := dk_182 0 182 (dk_at dksX1_cut_0 20 rfl rfl)
theorem dX1_cut_23 : decode cX1_cut 23 = .ok (.pop, 1) := dk_87 (dk_at dksX1_cut_0 23 rfl rfl)
theorem dX1_cut_24 : decode cX1_cut 24 = .ok (.aload_n 2, 1) := dk_44 (dk_at dksX1_cut_1 0 rfl rfl)
theorem dX1_cut_25 : decode cX1_cut 25 = .ok (.aload_n 0, 1) := dk_42 (dk_at dksX1_cut_1 1 rfl rfl)
theorem dX1_cut_26 : decode cX1_cut 26 = .ok (.getfield 33, 3) := dk_180 0 33 (dk_at dksX1_cut_1 2 rfl rfl)
theorem dX1_cut_29 : decode cX1_cut 29 = .ok (.aload_n 0, 1) := dk_42 (dk_at dksX1_cut_1 5 rfl rfl)
theorem dX1_cut_30 : decode cX1_cut 30 = .ok (.getfield 159, 3) := dk_180 0 159 (dk_at dksX1_cut_1 6 rfl rfl)
theorem dX1_cut_33 : decode cX1_cut 33 = .ok (.invokevirtual 162, 3) := dk_182 0 162 (dk_at dksX1_cut_1 9 rfl rfl)
theorem dX1_cut_36 : decode cX1_cut 36 = .ok (.iload_n 3, 1) := dk_29 (dk_at dksX1_cut_1 12 rfl rfl)
theorem dX1_cut_37 : decode cX1_cut 37 = .ok (.ireturn, 1) := dk_172 (dk_at dksX1_cut_1 13 rfl rfl)
abbrev cX1_company : ByteArray := prog_1_method_23_code
def yX1_company : MethodName := ⟨RX1, "company", "(II)I"⟩
def dkwX1_company_3 : List UInt8 := [182, 0, 166, 87, 42, 180, 0, 25, 182, 0, 94, 4, 100, 172]
abbrev dktX1_company_3 : List UInt8 := dkwX1_company_3 ++ []
def dkwX1_company_2 : List UInt8 := [184, 0, 153, 42, 180, 0, 25, 187, 0, 112, 89, 42, 180, 0, 25, 182, 0, 94, 27, 28, 183, 0, 227]
abbrev dktX1_company_2 : List UInt8 := dkwX1_company_2 ++ dktX1_company_3
def dkwX1_company_1 : List UInt8 := [3, 18, 110, 184, 0, 147, 42, 180, 0, 25, 182, 0, 94, 7, 162, 0, 7, 4, 167, 0, 4, 3, 18, 151]
abbrev dktX1_company_1 : List UInt8 := dkwX1_company_1 ++ dktX1_company_2
def dkwX1_company_0 : List UInt8 := [27, 3, 17, 7, 208, 184, 0, 143, 153, 0, 16, 28, 3, 6, 184, 0, 143, 153, 0, 7, 4, 167, 0, 4]
abbrev dktX1_company_0 : List UInt8 := dkwX1_company_0 ++ dktX1_company_1
theorem dksX1_company_0 : cX1_company.data.toList.drop 0 = dktX1_company_0 := by decide +kernel
theorem dksX1_company_1 : cX1_company.data.toList.drop 24 = dktX1_company_1 := dk_seg dksX1_company_0 24 rfl rfl
theorem dksX1_company_2 : cX1_company.data.toList.drop 48 = dktX1_company_2 := dk_seg dksX1_company_1 24 rfl rfl
theorem dksX1_company_3 : cX1_company.data.toList.drop 71 = dktX1_company_3 := dk_seg dksX1_company_2 23 rfl rfl
theorem dX1_company_0 : decode cX1_company 0 = .ok (.iload_n 1, 1) := dk_27 (dk_at dksX1_company_0 0 rfl rfl)
theorem dX1_company_1 : decode cX1_company 1 = .ok (.iconst 0, 1) := dk_3 (dk_at dksX1_company_0 1 rfl rfl)
theorem dX1_company_2 : decode cX1_company 2 = .ok (.sipush 2000, 3) := dk_17 7 208 (dk_at dksX1_company_0 2 rfl rfl)
theorem dX1_company_5 : decode cX1_company 5 = .ok (.invokestatic 143, 3) := dk_184 0 143 (dk_at dksX1_company_0 5 rfl rfl)
theorem dX1_company_8 : decode cX1_company 8 = .ok (.ifCond .eq 16, 3) := dk_153 0 16 (dk_at dksX1_company_0 8 rfl rfl)
theorem dX1_company_11 : decode cX1_company 11 = .ok (.iload_n 2, 1) := dk_28 (dk_at dksX1_company_0 11 rfl rfl)
theorem dX1_company_12 : decode cX1_company 12 = .ok (.iconst 0, 1) := dk_3 (dk_at dksX1_company_0 12 rfl rfl)
theorem dX1_company_13 : decode cX1_company 13 = .ok (.iconst 3, 1) := dk_6 (dk_at dksX1_company_0 13 rfl rfl)
theorem dX1_company_14 : decode cX1_company 14 = .ok (.invokestatic 143, 3) := dk_184 0 143 (dk_at dksX1_company_0 14 rfl rfl)
theorem dX1_company_17 : decode cX1_company 17 = .ok (.ifCond .eq 7, 3) := dk_153 0 7 (dk_at dksX1_company_0 17 rfl rfl)
theorem dX1_company_20 : decode cX1_company 20 = .ok (.iconst 1, 1) := dk_4 (dk_at dksX1_company_0 20 rfl rfl)
theorem dX1_company_21 : decode cX1_company 21 = .ok (.goto 4, 3) := dk_167 0 4 (dk_at dksX1_company_0 21 rfl rfl)
theorem dX1_company_24 : decode cX1_company 24 = .ok (.iconst 0, 1) := dk_3 (dk_at dksX1_company_1 0 rfl rfl)
theorem dX1_company_25 : decode cX1_company 25 = .ok (.ldc 110, 2) := dk_18 110 (dk_at dksX1_company_1 1 rfl rfl)
theorem dX1_company_27 : decode cX1_company 27 = .ok (.invokestatic 147, 3) := dk_184 0 147 (dk_at dksX1_company_1 3 rfl rfl)
theorem dX1_company_30 : decode cX1_company 30 = .ok (.aload_n 0, 1) := dk_42 (dk_at dksX1_company_1 6 rfl rfl)
theorem dX1_company_31 : decode cX1_company 31 = .ok (.getfield 25, 3) := dk_180 0 25 (dk_at dksX1_company_1 7 rfl rfl)
theorem dX1_company_34 : decode cX1_company 34 = .ok (.invokevirtual 94, 3) := dk_182 0 94 (dk_at dksX1_company_1 10 rfl rfl)
theorem dX1_company_37 : decode cX1_company 37 = .ok (.iconst 4, 1) := dk_7 (dk_at dksX1_company_1 13 rfl rfl)
theorem dX1_company_38 : decode cX1_company 38 = .ok (.if_icmp .ge 7, 3) := dk_162 0 7 (dk_at dksX1_company_1 14 rfl rfl)
theorem dX1_company_41 : decode cX1_company 41 = .ok (.iconst 1, 1) := dk_4 (dk_at dksX1_company_1 17 rfl rfl)
theorem dX1_company_42 : decode cX1_company 42 = .ok (.goto 4, 3) := dk_167 0 4 (dk_at dksX1_company_1 18 rfl rfl)
theorem dX1_company_45 : decode cX1_company 45 = .ok (.iconst 0, 1) := dk_3 (dk_at dksX1_company_1 21 rfl rfl)
theorem dX1_company_46 : decode cX1_company 46 = .ok (.ldc 151, 2) := dk_18 151 (dk_at dksX1_company_1 22 rfl rfl)
theorem dX1_company_48 : decode cX1_company 48 = .ok (.invokestatic 153, 3) := dk_184 0 153 (dk_at dksX1_company_2 0 rfl rfl)
theorem dX1_company_51 : decode cX1_company 51 = .ok (.aload_n 0, 1) := dk_42 (dk_at dksX1_company_2 3 rfl rfl)
theorem dX1_company_52 : decode cX1_company 52 = .ok (.getfield 25, 3) := dk_180 0 25 (dk_at dksX1_company_2 4 rfl rfl)
theorem dX1_company_55 : decode cX1_company 55 = .ok (.new 112, 3) := dk_187 0 112 (dk_at dksX1_company_2 7 rfl rfl)
theorem dX1_company_58 : decode cX1_company 58 = .ok (.dup, 1) := dk_89 (dk_at dksX1_company_2 10 rfl rfl)
theorem dX1_company_59 : decode cX1_company 59 = .ok (.aload_n 0, 1) := dk_42 (dk_at dksX1_company_2 11 rfl rfl)
theorem dX1_company_60 : decode cX1_company 60 = .ok (.getfield 25, 3) := dk_180 0 25 (dk_at dksX1_company_2 12 rfl rfl)
theorem dX1_company_63 : decode cX1_company 63 = .ok (.invokevirtual 94, 3) := dk_182 0 94 (dk_at dksX1_company_2 15 rfl rfl)
theorem dX1_company_66 : decode cX1_company 66 = .ok (.iload_n 1, 1) := dk_27 (dk_at dksX1_company_2 18 rfl rfl)
theorem dX1_company_67 : decode cX1_company 67 = .ok (.iload_n 2, 1) := dk_28 (dk_at dksX1_company_2 19 rfl rfl)
theorem dX1_company_68 : decode cX1_company 68 = .ok (.invokespecial 227, 3) := dk_183 0 227 (dk_at dksX1_company_2 20 rfl rfl)
theorem dX1_company_71 : decode cX1_company 71 = .ok (.invokevirtual 166, 3) := dk_182 0 166 (dk_at dksX1_company_3 0 rfl rfl)
theorem dX1_company_74 : decode cX1_company 74 = .ok (.pop, 1) := dk_87 (dk_at dksX1_company_3 3 rfl rfl)
theorem dX1_company_75 : decode cX1_company 75 = .ok (.aload_n 0, 1) := dk_42 (dk_at dksX1_company_3 4 rfl rfl)
theorem dX1_company_76 : decode cX1_company 76 = .ok (.getfield 25, 3) := dk_180 0 25 (dk_at dksX1_company_3 5 rfl rfl)
theorem dX1_company_79 : decode cX1_company 79 = .ok (.invokevirtual 94, 3) := dk_182 0 94 (dk_at dksX1_company_3 8 rfl rfl)
theorem dX1_company_82 : decode cX1_company 82 = .ok (.iconst 1, 1) := dk_4 (dk_at dksX1_company_3 11 rfl rfl)
theorem dX1_company_83 : decode cX1_company 83 = .ok (.isub, 1) := dk_100 (dk_at dksX1_company_3 12 rfl rfl)
theorem dX1_company_84 : decode cX1_company 84 = .ok (.ireturn, 1) := dk_172 (dk_at dksX1_company_3 13 rfl rfl)
abbrev cX1_join : ByteArray := prog_1_method_24_code
def yX1_join : MethodName := ⟨RX1, "join", "(II)I"⟩
def dkwX1_join_3 : List UInt8 := [45, 180, 0, 236, 182, 0, 94, 4, 100, 172]
abbrev dktX1_join_3 : List UInt8 := dkwX1_join_3 ++ []
def dkwX1_join_2 : List UInt8 := [89, 28, 183, 0, 241, 182, 0, 166, 87, 42, 180, 0, 40, 45, 180, 0, 242, 7, 28, 104, 182, 0, 182, 87]
abbrev dktX1_join_2 : List UInt8 := dkwX1_join_2 ++ dktX1_join_3
def dkwX1_join_1 : List UInt8 := [182, 0, 94, 8, 162, 0, 7, 4, 167, 0, 4, 3, 18, 151, 184, 0, 153, 45, 180, 0, 236, 187, 0, 239]
abbrev dktX1_join_1 : List UInt8 := dkwX1_join_1 ++ dktX1_join_2
def dkwX1_join_0 : List UInt8 := [42, 27, 182, 0, 230, 78, 28, 4, 16, 99, 184, 0, 143, 18, 234, 184, 0, 147, 45, 180, 0, 236]
abbrev dktX1_join_0 : List UInt8 := dkwX1_join_0 ++ dktX1_join_1
theorem dksX1_join_0 : cX1_join.data.toList.drop 0 = dktX1_join_0 := by decide +kernel
theorem dksX1_join_1 : cX1_join.data.toList.drop 22 = dktX1_join_1 := dk_seg dksX1_join_0 22 rfl rfl
theorem dksX1_join_2 : cX1_join.data.toList.drop 46 = dktX1_join_2 := dk_seg dksX1_join_1 24 rfl rfl
theorem dksX1_join_3 : cX1_join.data.toList.drop 70 = dktX1_join_3 := dk_seg dksX1_join_2 24 rfl rfl
theorem dX1_join_0 : decode cX1_join 0 = .ok (.aload_n 0, 1) := dk_42 (dk_at dksX1_join_0 0 rfl rfl)
theorem dX1_join_1 : decode cX1_join 1 = .ok (.iload_n 1, 1) := dk_27 (dk_at dksX1_join_0 1 rfl rfl)
theorem dX1_join_2 : decode cX1_join 2 = .ok (.invokevirtual 230, 3) := dk_182 0 230 (dk_at dksX1_join_0 2 rfl rfl)
theorem dX1_join_5 : decode cX1_join 5 = .ok (.astore_n 3, 1) := dk_78 (dk_at dksX1_join_0 5 rfl rfl)
theorem dX1_join_6 : decode cX1_join 6 = .ok (.iload_n 2, 1) := dk_28 (dk_at dksX1_join_0 6 rfl rfl)
theorem dX1_join_7 : decode cX1_join 7 = .ok (.iconst 1, 1) := dk_4 (dk_at dksX1_join_0 7 rfl rfl)
theorem dX1_join_8 : decode cX1_join 8 = .ok (.bipush 99, 2) := dk_16 99 (dk_at dksX1_join_0 8 rfl rfl)
theorem dX1_join_10 : decode cX1_join 10 = .ok (.invokestatic 143, 3) := dk_184 0 143 (dk_at dksX1_join_0 10 rfl rfl)
theorem dX1_join_13 : decode cX1_join 13 = .ok (.ldc 234, 2) := dk_18 234 (dk_at dksX1_join_0 13 rfl rfl)
theorem dX1_join_15 : decode cX1_join 15 = .ok (.invokestatic 147, 3) := dk_184 0 147 (dk_at dksX1_join_0 15 rfl rfl)
theorem dX1_join_18 : decode cX1_join 18 = .ok (.aload_n 3, 1) := dk_45 (dk_at dksX1_join_0 18 rfl rfl)
theorem dX1_join_19 : decode cX1_join 19 = .ok (.getfield 236, 3) := dk_180 0 236 (dk_at dksX1_join_0 19 rfl rfl)
theorem dX1_join_22 : decode cX1_join 22 = .ok (.invokevirtual 94, 3) := dk_182 0 94 (dk_at dksX1_join_1 0 rfl rfl)
theorem dX1_join_25 : decode cX1_join 25 = .ok (.iconst 5, 1) := dk_8 (dk_at dksX1_join_1 3 rfl rfl)
theorem dX1_join_26 : decode cX1_join 26 = .ok (.if_icmp .ge 7, 3) := dk_162 0 7 (dk_at dksX1_join_1 4 rfl rfl)
theorem dX1_join_29 : decode cX1_join 29 = .ok (.iconst 1, 1) := dk_4 (dk_at dksX1_join_1 7 rfl rfl)
theorem dX1_join_30 : decode cX1_join 30 = .ok (.goto 4, 3) := dk_167 0 4 (dk_at dksX1_join_1 8 rfl rfl)
theorem dX1_join_33 : decode cX1_join 33 = .ok (.iconst 0, 1) := dk_3 (dk_at dksX1_join_1 11 rfl rfl)
theorem dX1_join_34 : decode cX1_join 34 = .ok (.ldc 151, 2) := dk_18 151 (dk_at dksX1_join_1 12 rfl rfl)
theorem dX1_join_36 : decode cX1_join 36 = .ok (.invokestatic 153, 3) := dk_184 0 153 (dk_at dksX1_join_1 14 rfl rfl)
theorem dX1_join_39 : decode cX1_join 39 = .ok (.aload_n 3, 1) := dk_45 (dk_at dksX1_join_1 17 rfl rfl)
theorem dX1_join_40 : decode cX1_join 40 = .ok (.getfield 236, 3) := dk_180 0 236 (dk_at dksX1_join_1 18 rfl rfl)
theorem dX1_join_43 : decode cX1_join 43 = .ok (.new 239, 3) := dk_187 0 239 (dk_at dksX1_join_1 21 rfl rfl)
theorem dX1_join_46 : decode cX1_join 46 = .ok (.dup, 1) := dk_89 (dk_at dksX1_join_2 0 rfl rfl)
theorem dX1_join_47 : decode cX1_join 47 = .ok (.iload_n 2, 1) := dk_28 (dk_at dksX1_join_2 1 rfl rfl)
theorem dX1_join_48 : decode cX1_join 48 = .ok (.invokespecial 241, 3) := dk_183 0 241 (dk_at dksX1_join_2 2 rfl rfl)
theorem dX1_join_51 : decode cX1_join 51 = .ok (.invokevirtual 166, 3) := dk_182 0 166 (dk_at dksX1_join_2 5 rfl rfl)
theorem dX1_join_54 : decode cX1_join 54 = .ok (.pop, 1) := dk_87 (dk_at dksX1_join_2 8 rfl rfl)
theorem dX1_join_55 : decode cX1_join 55 = .ok (.aload_n 0, 1) := dk_42 (dk_at dksX1_join_2 9 rfl rfl)
theorem dX1_join_56 : decode cX1_join 56 = .ok (.getfield 40, 3) := dk_180 0 40 (dk_at dksX1_join_2 10 rfl rfl)
theorem dX1_join_59 : decode cX1_join 59 = .ok (.aload_n 3, 1) := dk_45 (dk_at dksX1_join_2 13 rfl rfl)
theorem dX1_join_60 : decode cX1_join 60 = .ok (.getfield 242, 3) := dk_180 0 242 (dk_at dksX1_join_2 14 rfl rfl)
theorem dX1_join_63 : decode cX1_join 63 = .ok (.iconst 4, 1) := dk_7 (dk_at dksX1_join_2 17 rfl rfl)
theorem dX1_join_64 : decode cX1_join 64 = .ok (.iload_n 2, 1) := dk_28 (dk_at dksX1_join_2 18 rfl rfl)
theorem dX1_join_65 : decode cX1_join 65 = .ok (.imul, 1) := dk_104 (dk_at dksX1_join_2 19 rfl rfl)
theorem dX1_join_66 : decode cX1_join 66 = .ok (.invokevirtual 182, 3) := dk_182 0 182 (dk_at dksX1_join_2 20 rfl rfl)
theorem dX1_join_69 : decode cX1_join 69 = .ok (.pop, 1) := dk_87 (dk_at dksX1_join_2 23 rfl rfl)
theorem dX1_join_70 : decode cX1_join 70 = .ok (.aload_n 3, 1) := dk_45 (dk_at dksX1_join_3 0 rfl rfl)
theorem dX1_join_71 : decode cX1_join 71 = .ok (.getfield 236, 3) := dk_180 0 236 (dk_at dksX1_join_3 1 rfl rfl)
theorem dX1_join_74 : decode cX1_join 74 = .ok (.invokevirtual 94, 3) := dk_182 0 94 (dk_at dksX1_join_3 4 rfl rfl)
theorem dX1_join_77 : decode cX1_join 77 = .ok (.iconst 1, 1) := dk_4 (dk_at dksX1_join_3 7 rfl rfl)
theorem dX1_join_78 : decode cX1_join 78 = .ok (.isub, 1) := dk_100 (dk_at dksX1_join_3 8 rfl rfl)
theorem dX1_join_79 : decode cX1_join 79 = .ok (.ireturn, 1) := dk_172 (dk_at dksX1_join_3 9 rfl rfl)
abbrev cX1_companyOf : ByteArray := prog_1_method_9_code
def yX1_companyOf : MethodName := ⟨RX1, "companyOf", "(I)LPublicanry$Company;"⟩
def dkwX1_companyOf_0 : List UInt8 := [42, 180, 0, 25, 27, 42, 180, 0, 25, 182, 0, 94, 18, 110, 184, 0, 100, 182, 0, 104, 192, 0, 112, 176]
abbrev dktX1_companyOf_0 : List UInt8 := dkwX1_companyOf_0 ++ []
theorem dksX1_companyOf_0 : cX1_companyOf.data.toList.drop 0 = dktX1_companyOf_0 := by decide +kernel
theorem dX1_companyOf_0 : decode cX1_companyOf 0 = .ok (.aload_n 0, 1) := dk_42 (dk_at dksX1_companyOf_0 0 rfl rfl)
theorem dX1_companyOf_1 : decode cX1_companyOf 1 = .ok (.getfield 25, 3) := dk_180 0 25 (dk_at dksX1_companyOf_0 1 rfl rfl)
theorem dX1_companyOf_4 : decode cX1_companyOf 4 = .ok (.iload_n 1, 1) := dk_27 (dk_at dksX1_companyOf_0 4 rfl rfl)
theorem dX1_companyOf_5 : decode cX1_companyOf 5 = .ok (.aload_n 0, 1) := dk_42 (dk_at dksX1_companyOf_0 5 rfl rfl)
theorem dX1_companyOf_6 : decode cX1_companyOf 6 = .ok (.getfield 25, 3) := dk_180 0 25 (dk_at dksX1_companyOf_0 6 rfl rfl)
theorem dX1_companyOf_9 : decode cX1_companyOf 9 = .ok (.invokevirtual 94, 3) := dk_182 0 94 (dk_at dksX1_companyOf_0 9 rfl rfl)
theorem dX1_companyOf_12 : decode cX1_companyOf 12 = .ok (.ldc 110, 2) := dk_18 110 (dk_at dksX1_companyOf_0 12 rfl rfl)
theorem dX1_companyOf_14 : decode cX1_companyOf 14 = .ok (.invokestatic 100, 3) := dk_184 0 100 (dk_at dksX1_companyOf_0 14 rfl rfl)
theorem dX1_companyOf_17 : decode cX1_companyOf 17 = .ok (.invokevirtual 104, 3) := dk_182 0 104 (dk_at dksX1_companyOf_0 17 rfl rfl)
theorem dX1_companyOf_20 : decode cX1_companyOf 20 = .ok (.checkcast 112, 3) := dk_192 0 112 (dk_at dksX1_companyOf_0 20 rfl rfl)
theorem dX1_companyOf_23 : decode cX1_companyOf 23 = .ok (.areturn, 1) := dk_176 (dk_at dksX1_companyOf_0 23 rfl rfl)
abbrev cX1_shareOut : ByteArray := prog_1_method_25_code
def yX1_shareOut : MethodName := ⟨RX1, "shareOut", "(II)I"⟩
def dkwX1_shareOut_3 : List UInt8 := [45, 180, 0, 242, 182, 1, 1, 172]
abbrev dktX1_shareOut_3 : List UInt8 := dkwX1_shareOut_3 ++ []
def dkwX1_shareOut_2 : List UInt8 := [3, 18, 253, 184, 0, 153, 45, 180, 0, 242, 42, 180, 0, 40, 28, 182, 0, 182, 87, 45, 28, 182, 0, 254]
abbrev dktX1_shareOut_2 : List UInt8 := dkwX1_shareOut_2 ++ dktX1_shareOut_3
def dkwX1_shareOut_1 : List UInt8 := [180, 0, 236, 182, 0, 247, 154, 0, 18, 45, 180, 0, 242, 28, 182, 0, 250, 153, 0, 7, 4, 167, 0, 4]
abbrev dktX1_shareOut_1 : List UInt8 := dkwX1_shareOut_1 ++ dktX1_shareOut_2
def dkwX1_shareOut_0 : List UInt8 := [42, 27, 182, 0, 230, 78, 28, 4, 161, 0, 7, 4, 167, 0, 4, 3, 18, 245, 184, 0, 147, 45]
abbrev dktX1_shareOut_0 : List UInt8 := dkwX1_shareOut_0 ++ dktX1_shareOut_1
theorem dksX1_shareOut_0 : cX1_shareOut.data.toList.drop 0 = dktX1_shareOut_0 := by decide +kernel
theorem dksX1_shareOut_1 : cX1_shareOut.data.toList.drop 22 = dktX1_shareOut_1 := dk_seg dksX1_shareOut_0 22 rfl rfl
theorem dksX1_shareOut_2 : cX1_shareOut.data.toList.drop 46 = dktX1_shareOut_2 := dk_seg dksX1_shareOut_1 24 rfl rfl
theorem dksX1_shareOut_3 : cX1_shareOut.data.toList.drop 70 = dktX1_shareOut_3 := dk_seg dksX1_shareOut_2 24 rfl rfl
theorem dX1_shareOut_0 : decode cX1_shareOut 0 = .ok (.aload_n 0, 1) := dk_42 (dk_at dksX1_shareOut_0 0 rfl rfl)
theorem dX1_shareOut_1 : decode cX1_shareOut 1 = .ok (.iload_n 1, 1) := dk_27 (dk_at dksX1_shareOut_0 1 rfl rfl)
theorem dX1_shareOut_2 : decode cX1_shareOut 2 = .ok (.invokevirtual 230, 3) := dk_182 0 230 (dk_at dksX1_shareOut_0 2 rfl rfl)
theorem dX1_shareOut_5 : decode cX1_shareOut 5 = .ok (.astore_n 3, 1) := dk_78 (dk_at dksX1_shareOut_0 5 rfl rfl)
theorem dX1_shareOut_6 : decode cX1_shareOut 6 = .ok (.iload_n 2, 1) := dk_28 (dk_at dksX1_shareOut_0 6 rfl rfl)
theorem dX1_shareOut_7 : decode cX1_shareOut 7 = .ok (.iconst 1, 1) := dk_4 (dk_at dksX1_shareOut_0 7 rfl rfl)
theorem dX1_shareOut_8 : decode cX1_shareOut 8 = .ok (.if_icmp .lt 7, 3) := dk_161 0 7 (dk_at dksX1_shareOut_0 8 rfl rfl)
theorem dX1_shareOut_11 : decode cX1_shareOut 11 = .ok (.iconst 1, 1) := dk_4 (dk_at dksX1_shareOut_0 11 rfl rfl)
theorem dX1_shareOut_12 : decode cX1_shareOut 12 = .ok (.goto 4, 3) := dk_167 0 4 (dk_at dksX1_shareOut_0 12 rfl rfl)
theorem dX1_shareOut_15 : decode cX1_shareOut 15 = .ok (.iconst 0, 1) := dk_3 (dk_at dksX1_shareOut_0 15 rfl rfl)
theorem dX1_shareOut_16 : decode cX1_shareOut 16 = .ok (.ldc 245, 2) := dk_18 245 (dk_at dksX1_shareOut_0 16 rfl rfl)
theorem dX1_shareOut_18 : decode cX1_shareOut 18 = .ok (.invokestatic 147, 3) := dk_184 0 147 (dk_at dksX1_shareOut_0 18 rfl rfl)
theorem dX1_shareOut_21 : decode cX1_shareOut 21 = .ok (.aload_n 3, 1) := dk_45 (dk_at dksX1_shareOut_0 21 rfl rfl)
theorem dX1_shareOut_22 : decode cX1_shareOut 22 = .ok (.getfield 236, 3) := dk_180 0 236 (dk_at dksX1_shareOut_1 0 rfl rfl)
theorem dX1_shareOut_25 : decode cX1_shareOut 25 = .ok (.invokevirtual 247, 3) := dk_182 0 247 (dk_at dksX1_shareOut_1 3 rfl rfl)
theorem dX1_shareOut_28 : decode cX1_shareOut 28 = .ok (.ifCond .ne 18, 3) := dk_154 0 18 (dk_at dksX1_shareOut_1 6 rfl rfl)
theorem dX1_shareOut_31 : decode cX1_shareOut 31 = .ok (.aload_n 3, 1) := dk_45 (dk_at dksX1_shareOut_1 9 rfl rfl)
theorem dX1_shareOut_32 : decode cX1_shareOut 32 = .ok (.getfield 242, 3) := dk_180 0 242 (dk_at dksX1_shareOut_1 10 rfl rfl)
theorem dX1_shareOut_35 : decode cX1_shareOut 35 = .ok (.iload_n 2, 1) := dk_28 (dk_at dksX1_shareOut_1 13 rfl rfl)
theorem dX1_shareOut_36 : decode cX1_shareOut 36 = .ok (.invokevirtual 250, 3) := dk_182 0 250 (dk_at dksX1_shareOut_1 14 rfl rfl)
theorem dX1_shareOut_39 : decode cX1_shareOut 39 = .ok (.ifCond .eq 7, 3) := dk_153 0 7 (dk_at dksX1_shareOut_1 17 rfl rfl)
theorem dX1_shareOut_42 : decode cX1_shareOut 42 = .ok (.iconst 1, 1) := dk_4 (dk_at dksX1_shareOut_1 20 rfl rfl)
theorem dX1_shareOut_43 : decode cX1_shareOut 43 = .ok (.goto 4, 3) := dk_167 0 4 (dk_at dksX1_shareOut_1 21 rfl rfl)
theorem dX1_shareOut_46 : decode cX1_shareOut 46 = .ok (.iconst 0, 1) := dk_3 (dk_at dksX1_shareOut_2 0 rfl rfl)
theorem dX1_shareOut_47 : decode cX1_shareOut 47 = .ok (.ldc 253, 2) := dk_18 253 (dk_at dksX1_shareOut_2 1 rfl rfl)
theorem dX1_shareOut_49 : decode cX1_shareOut 49 = .ok (.invokestatic 153, 3) := dk_184 0 153 (dk_at dksX1_shareOut_2 3 rfl rfl)
theorem dX1_shareOut_52 : decode cX1_shareOut 52 = .ok (.aload_n 3, 1) := dk_45 (dk_at dksX1_shareOut_2 6 rfl rfl)
theorem dX1_shareOut_53 : decode cX1_shareOut 53 = .ok (.getfield 242, 3) := dk_180 0 242 (dk_at dksX1_shareOut_2 7 rfl rfl)
theorem dX1_shareOut_56 : decode cX1_shareOut 56 = .ok (.aload_n 0, 1) := dk_42 (dk_at dksX1_shareOut_2 10 rfl rfl)
theorem dX1_shareOut_57 : decode cX1_shareOut 57 = .ok (.getfield 40, 3) := dk_180 0 40 (dk_at dksX1_shareOut_2 11 rfl rfl)
theorem dX1_shareOut_60 : decode cX1_shareOut 60 = .ok (.iload_n 2, 1) := dk_28 (dk_at dksX1_shareOut_2 14 rfl rfl)
theorem dX1_shareOut_61 : decode cX1_shareOut 61 = .ok (.invokevirtual 182, 3) := dk_182 0 182 (dk_at dksX1_shareOut_2 15 rfl rfl)
theorem dX1_shareOut_64 : decode cX1_shareOut 64 = .ok (.pop, 1) := dk_87 (dk_at dksX1_shareOut_2 18 rfl rfl)
theorem dX1_shareOut_65 : decode cX1_shareOut 65 = .ok (.aload_n 3, 1) := dk_45 (dk_at dksX1_shareOut_2 19 rfl rfl)
theorem dX1_shareOut_66 : decode cX1_shareOut 66 = .ok (.iload_n 2, 1) := dk_28 (dk_at dksX1_shareOut_2 20 rfl rfl)
theorem dX1_shareOut_67 : decode cX1_shareOut 67 = .ok (.invokevirtual 254, 3) := dk_182 0 254 (dk_at dksX1_shareOut_2 21 rfl rfl)
theorem dX1_shareOut_70 : decode cX1_shareOut 70 = .ok (.aload_n 3, 1) := dk_45 (dk_at dksX1_shareOut_3 0 rfl rfl)
theorem dX1_shareOut_71 : decode cX1_shareOut 71 = .ok (.getfield 242, 3) := dk_180 0 242 (dk_at dksX1_shareOut_3 1 rfl rfl)
theorem dX1_shareOut_74 : decode cX1_shareOut 74 = .ok (.invokevirtual 257, 3) := dk_182 1 1 (dk_at dksX1_shareOut_3 4 rfl rfl)
theorem dX1_shareOut_77 : decode cX1_shareOut 77 = .ok (.ireturn, 1) := dk_172 (dk_at dksX1_shareOut_3 7 rfl rfl)
abbrev cX1_ring : ByteArray := prog_1_method_26_code
def yX1_ring : MethodName := ⟨RX1, "ring", "(II)I"⟩
def dkwX1_ring_1 : List UInt8 := [45, 28, 181, 1, 6, 21, 4, 172]
abbrev dktX1_ring_1 : List UInt8 := dkwX1_ring_1 ++ []
def dkwX1_ring_0 : List UInt8 := [42, 27, 182, 0, 230, 78, 28, 3, 6, 184, 0, 143, 19, 1, 4, 184, 0, 147, 45, 180, 1, 6, 54, 4]
abbrev dktX1_ring_0 : List UInt8 := dkwX1_ring_0 ++ dktX1_ring_1
theorem dksX1_ring_0 : cX1_ring.data.toList.drop 0 = dktX1_ring_0 := by decide +kernel
theorem dksX1_ring_1 : cX1_ring.data.toList.drop 24 = dktX1_ring_1 := dk_seg dksX1_ring_0 24 rfl rfl
theorem dX1_ring_0 : decode cX1_ring 0 = .ok (.aload_n 0, 1) := dk_42 (dk_at dksX1_ring_0 0 rfl rfl)
theorem dX1_ring_1 : decode cX1_ring 1 = .ok (.iload_n 1, 1) := dk_27 (dk_at dksX1_ring_0 1 rfl rfl)
theorem dX1_ring_2 : decode cX1_ring 2 = .ok (.invokevirtual 230, 3) := dk_182 0 230 (dk_at dksX1_ring_0 2 rfl rfl)
theorem dX1_ring_5 : decode cX1_ring 5 = .ok (.astore_n 3, 1) := dk_78 (dk_at dksX1_ring_0 5 rfl rfl)
theorem dX1_ring_6 : decode cX1_ring 6 = .ok (.iload_n 2, 1) := dk_28 (dk_at dksX1_ring_0 6 rfl rfl)
theorem dX1_ring_7 : decode cX1_ring 7 = .ok (.iconst 0, 1) := dk_3 (dk_at dksX1_ring_0 7 rfl rfl)
theorem dX1_ring_8 : decode cX1_ring 8 = .ok (.iconst 3, 1) := dk_6 (dk_at dksX1_ring_0 8 rfl rfl)
theorem dX1_ring_9 : decode cX1_ring 9 = .ok (.invokestatic 143, 3) := dk_184 0 143 (dk_at dksX1_ring_0 9 rfl rfl)
theorem dX1_ring_12 : decode cX1_ring 12 = .ok (.ldc_w 260, 3) := dk_19 1 4 (dk_at dksX1_ring_0 12 rfl rfl)
theorem dX1_ring_15 : decode cX1_ring 15 = .ok (.invokestatic 147, 3) := dk_184 0 147 (dk_at dksX1_ring_0 15 rfl rfl)
theorem dX1_ring_18 : decode cX1_ring 18 = .ok (.aload_n 3, 1) := dk_45 (dk_at dksX1_ring_0 18 rfl rfl)
theorem dX1_ring_19 : decode cX1_ring 19 = .ok (.getfield 262, 3) := dk_180 1 6 (dk_at dksX1_ring_0 19 rfl rfl)
theorem dX1_ring_22 : decode cX1_ring 22 = .ok (.istore 4, 2) := dk_54 4 (dk_at dksX1_ring_0 22 rfl rfl)
theorem dX1_ring_24 : decode cX1_ring 24 = .ok (.aload_n 3, 1) := dk_45 (dk_at dksX1_ring_1 0 rfl rfl)
theorem dX1_ring_25 : decode cX1_ring 25 = .ok (.iload_n 2, 1) := dk_28 (dk_at dksX1_ring_1 1 rfl rfl)
theorem dX1_ring_26 : decode cX1_ring 26 = .ok (.putfield 262, 3) := dk_181 1 6 (dk_at dksX1_ring_1 2 rfl rfl)
theorem dX1_ring_29 : decode cX1_ring 29 = .ok (.iload 4, 2) := dk_21 4 (dk_at dksX1_ring_1 5 rfl rfl)
theorem dX1_ring_31 : decode cX1_ring 31 = .ok (.ireturn, 1) := dk_172 (dk_at dksX1_ring_1 7 rfl rfl)
abbrev cX1_lot : ByteArray := prog_1_method_27_code
def yX1_lot : MethodName := ⟨RX1, "lot", "(IIII)I"⟩
def dkwX1_lot_5 : List UInt8 := [25, 6, 180, 1, 15, 172]
abbrev dktX1_lot_5 : List UInt8 := dkwX1_lot_5 ++ []
def dkwX1_lot_4 : List UInt8 := [154, 0, 7, 4, 167, 0, 4, 3, 18, 114, 184, 0, 153, 42, 180, 0, 28, 25, 6, 182, 0, 166, 87]
abbrev dktX1_lot_4 : List UInt8 := dkwX1_lot_4 ++ dktX1_lot_5
def dkwX1_lot_3 : List UInt8 := [183, 1, 8, 58, 6, 42, 180, 0, 28, 182, 0, 94, 16, 8, 162, 0, 16, 42, 25, 6, 182, 1, 11]
abbrev dktX1_lot_3 : List UInt8 := dkwX1_lot_3 ++ dktX1_lot_4
def dkwX1_lot_2 : List UInt8 := [18, 114, 184, 0, 147, 187, 0, 116, 89, 42, 180, 0, 28, 182, 0, 94, 25, 5, 28, 29, 21, 4]
abbrev dktX1_lot_2 : List UInt8 := dkwX1_lot_2 ++ dktX1_lot_3
def dkwX1_lot_1 : List UInt8 := [184, 0, 143, 153, 0, 19, 21, 4, 3, 17, 19, 136, 184, 0, 143, 153, 0, 7, 4, 167, 0, 4, 3]
abbrev dktX1_lot_1 : List UInt8 := dkwX1_lot_1 ++ dktX1_lot_2
def dkwX1_lot_0 : List UInt8 := [27, 184, 0, 213, 58, 5, 28, 4, 161, 0, 36, 42, 28, 182, 0, 186, 153, 0, 28, 29, 4, 8]
abbrev dktX1_lot_0 : List UInt8 := dkwX1_lot_0 ++ dktX1_lot_1
theorem dksX1_lot_0 : cX1_lot.data.toList.drop 0 = dktX1_lot_0 := by decide +kernel
theorem dksX1_lot_1 : cX1_lot.data.toList.drop 22 = dktX1_lot_1 := dk_seg dksX1_lot_0 22 rfl rfl
theorem dksX1_lot_2 : cX1_lot.data.toList.drop 45 = dktX1_lot_2 := dk_seg dksX1_lot_1 23 rfl rfl
theorem dksX1_lot_3 : cX1_lot.data.toList.drop 67 = dktX1_lot_3 := dk_seg dksX1_lot_2 22 rfl rfl
theorem dksX1_lot_4 : cX1_lot.data.toList.drop 90 = dktX1_lot_4 := dk_seg dksX1_lot_3 23 rfl rfl
theorem dksX1_lot_5 : cX1_lot.data.toList.drop 113 = dktX1_lot_5 := dk_seg dksX1_lot_4 23 rfl rfl
theorem dX1_lot_0 : decode cX1_lot 0 = .ok (.iload_n 1, 1) := dk_27 (dk_at dksX1_lot_0 0 rfl rfl)
theorem dX1_lot_1 : decode cX1_lot 1 = .ok (.invokestatic 213, 3) := dk_184 0 213 (dk_at dksX1_lot_0 1 rfl rfl)
theorem dX1_lot_4 : decode cX1_lot 4 = .ok (.astore 5, 2) := dk_58 5 (dk_at dksX1_lot_0 4 rfl rfl)
theorem dX1_lot_6 : decode cX1_lot 6 = .ok (.iload_n 2, 1) := dk_28 (dk_at dksX1_lot_0 6 rfl rfl)
theorem dX1_lot_7 : decode cX1_lot 7 = .ok (.iconst 1, 1) := dk_4 (dk_at dksX1_lot_0 7 rfl rfl)
theorem dX1_lot_8 : decode cX1_lot 8 = .ok (.if_icmp .lt 36, 3) := dk_161 0 36 (dk_at dksX1_lot_0 8 rfl rfl)
theorem dX1_lot_11 : decode cX1_lot 11 = .ok (.aload_n 0, 1) := dk_42 (dk_at dksX1_lot_0 11 rfl rfl)
theorem dX1_lot_12 : decode cX1_lot 12 = .ok (.iload_n 2, 1) := dk_28 (dk_at dksX1_lot_0 12 rfl rfl)
theorem dX1_lot_13 : decode cX1_lot 13 = .ok (.invokevirtual 186, 3) := dk_182 0 186 (dk_at dksX1_lot_0 13 rfl rfl)
theorem dX1_lot_16 : decode cX1_lot 16 = .ok (.ifCond .eq 28, 3) := dk_153 0 28 (dk_at dksX1_lot_0 16 rfl rfl)
theorem dX1_lot_19 : decode cX1_lot 19 = .ok (.iload_n 3, 1) := dk_29 (dk_at dksX1_lot_0 19 rfl rfl)
theorem dX1_lot_20 : decode cX1_lot 20 = .ok (.iconst 1, 1) := dk_4 (dk_at dksX1_lot_0 20 rfl rfl)
theorem dX1_lot_21 : decode cX1_lot 21 = .ok (.iconst 5, 1) := dk_8 (dk_at dksX1_lot_0 21 rfl rfl)
theorem dX1_lot_22 : decode cX1_lot 22 = .ok (.invokestatic 143, 3) := dk_184 0 143 (dk_at dksX1_lot_1 0 rfl rfl)
theorem dX1_lot_25 : decode cX1_lot 25 = .ok (.ifCond .eq 19, 3) := dk_153 0 19 (dk_at dksX1_lot_1 3 rfl rfl)
theorem dX1_lot_28 : decode cX1_lot 28 = .ok (.iload 4, 2) := dk_21 4 (dk_at dksX1_lot_1 6 rfl rfl)
theorem dX1_lot_30 : decode cX1_lot 30 = .ok (.iconst 0, 1) := dk_3 (dk_at dksX1_lot_1 8 rfl rfl)
theorem dX1_lot_31 : decode cX1_lot 31 = .ok (.sipush 5000, 3) := dk_17 19 136 (dk_at dksX1_lot_1 9 rfl rfl)
theorem dX1_lot_34 : decode cX1_lot 34 = .ok (.invokestatic 143, 3) := dk_184 0 143 (dk_at dksX1_lot_1 12 rfl rfl)
theorem dX1_lot_37 : decode cX1_lot 37 = .ok (.ifCond .eq 7, 3) := dk_153 0 7 (dk_at dksX1_lot_1 15 rfl rfl)
theorem dX1_lot_40 : decode cX1_lot 40 = .ok (.iconst 1, 1) := dk_4 (dk_at dksX1_lot_1 18 rfl rfl)
theorem dX1_lot_41 : decode cX1_lot 41 = .ok (.goto 4, 3) := dk_167 0 4 (dk_at dksX1_lot_1 19 rfl rfl)
theorem dX1_lot_44 : decode cX1_lot 44 = .ok (.iconst 0, 1) := dk_3 (dk_at dksX1_lot_1 22 rfl rfl)
theorem dX1_lot_45 : decode cX1_lot 45 = .ok (.ldc 114, 2) := dk_18 114 (dk_at dksX1_lot_2 0 rfl rfl)
theorem dX1_lot_47 : decode cX1_lot 47 = .ok (.invokestatic 147, 3) := dk_184 0 147 (dk_at dksX1_lot_2 2 rfl rfl)
theorem dX1_lot_50 : decode cX1_lot 50 = .ok (.new 116, 3) := dk_187 0 116 (dk_at dksX1_lot_2 5 rfl rfl)
theorem dX1_lot_53 : decode cX1_lot 53 = .ok (.dup, 1) := dk_89 (dk_at dksX1_lot_2 8 rfl rfl)
theorem dX1_lot_54 : decode cX1_lot 54 = .ok (.aload_n 0, 1) := dk_42 (dk_at dksX1_lot_2 9 rfl rfl)
theorem dX1_lot_55 : decode cX1_lot 55 = .ok (.getfield 28, 3) := dk_180 0 28 (dk_at dksX1_lot_2 10 rfl rfl)
theorem dX1_lot_58 : decode cX1_lot 58 = .ok (.invokevirtual 94, 3) := dk_182 0 94 (dk_at dksX1_lot_2 13 rfl rfl)
theorem dX1_lot_61 : decode cX1_lot 61 = .ok (.aload 5, 2) := dk_25 5 (dk_at dksX1_lot_2 16 rfl rfl)
theorem dX1_lot_63 : decode cX1_lot 63 = .ok (.iload_n 2, 1) := dk_28 (dk_at dksX1_lot_2 18 rfl rfl)
theorem dX1_lot_64 : decode cX1_lot 64 = .ok (.iload_n 3, 1) := dk_29 (dk_at dksX1_lot_2 19 rfl rfl)
theorem dX1_lot_65 : decode cX1_lot 65 = .ok (.iload 4, 2) := dk_21 4 (dk_at dksX1_lot_2 20 rfl rfl)
theorem dX1_lot_67 : decode cX1_lot 67 = .ok (.invokespecial 264, 3) := dk_183 1 8 (dk_at dksX1_lot_3 0 rfl rfl)
theorem dX1_lot_70 : decode cX1_lot 70 = .ok (.astore 6, 2) := dk_58 6 (dk_at dksX1_lot_3 3 rfl rfl)
theorem dX1_lot_72 : decode cX1_lot 72 = .ok (.aload_n 0, 1) := dk_42 (dk_at dksX1_lot_3 5 rfl rfl)
theorem dX1_lot_73 : decode cX1_lot 73 = .ok (.getfield 28, 3) := dk_180 0 28 (dk_at dksX1_lot_3 6 rfl rfl)
theorem dX1_lot_76 : decode cX1_lot 76 = .ok (.invokevirtual 94, 3) := dk_182 0 94 (dk_at dksX1_lot_3 9 rfl rfl)
theorem dX1_lot_79 : decode cX1_lot 79 = .ok (.bipush 8, 2) := dk_16 8 (dk_at dksX1_lot_3 12 rfl rfl)
theorem dX1_lot_81 : decode cX1_lot 81 = .ok (.if_icmp .ge 16, 3) := dk_162 0 16 (dk_at dksX1_lot_3 14 rfl rfl)
theorem dX1_lot_84 : decode cX1_lot 84 = .ok (.aload_n 0, 1) := dk_42 (dk_at dksX1_lot_3 17 rfl rfl)
theorem dX1_lot_85 : decode cX1_lot 85 = .ok (.aload 6, 2) := dk_25 6 (dk_at dksX1_lot_3 18 rfl rfl)
theorem dX1_lot_87 : decode cX1_lot 87 = .ok (.invokevirtual 267, 3) := dk_182 1 11 (dk_at dksX1_lot_3 20 rfl rfl)
theorem dX1_lot_90 : decode cX1_lot 90 = .ok (.ifCond .ne 7, 3) := dk_154 0 7 (dk_at dksX1_lot_4 0 rfl rfl)
theorem dX1_lot_93 : decode cX1_lot 93 = .ok (.iconst 1, 1) := dk_4 (dk_at dksX1_lot_4 3 rfl rfl)
theorem dX1_lot_94 : decode cX1_lot 94 = .ok (.goto 4, 3) := dk_167 0 4 (dk_at dksX1_lot_4 4 rfl rfl)
theorem dX1_lot_97 : decode cX1_lot 97 = .ok (.iconst 0, 1) := dk_3 (dk_at dksX1_lot_4 7 rfl rfl)
theorem dX1_lot_98 : decode cX1_lot 98 = .ok (.ldc 114, 2) := dk_18 114 (dk_at dksX1_lot_4 8 rfl rfl)
theorem dX1_lot_100 : decode cX1_lot 100 = .ok (.invokestatic 153, 3) := dk_184 0 153 (dk_at dksX1_lot_4 10 rfl rfl)
theorem dX1_lot_103 : decode cX1_lot 103 = .ok (.aload_n 0, 1) := dk_42 (dk_at dksX1_lot_4 13 rfl rfl)
theorem dX1_lot_104 : decode cX1_lot 104 = .ok (.getfield 28, 3) := dk_180 0 28 (dk_at dksX1_lot_4 14 rfl rfl)
theorem dX1_lot_107 : decode cX1_lot 107 = .ok (.aload 6, 2) := dk_25 6 (dk_at dksX1_lot_4 17 rfl rfl)
theorem dX1_lot_109 : decode cX1_lot 109 = .ok (.invokevirtual 166, 3) := dk_182 0 166 (dk_at dksX1_lot_4 19 rfl rfl)
theorem dX1_lot_112 : decode cX1_lot 112 = .ok (.pop, 1) := dk_87 (dk_at dksX1_lot_4 22 rfl rfl)
theorem dX1_lot_113 : decode cX1_lot 113 = .ok (.aload 6, 2) := dk_25 6 (dk_at dksX1_lot_5 0 rfl rfl)
theorem dX1_lot_115 : decode cX1_lot 115 = .ok (.getfield 271, 3) := dk_180 1 15 (dk_at dksX1_lot_5 2 rfl rfl)
theorem dX1_lot_118 : decode cX1_lot 118 = .ok (.ireturn, 1) := dk_172 (dk_at dksX1_lot_5 5 rfl rfl)
abbrev cX1_bid : ByteArray := prog_1_method_29_code
def yX1_bid : MethodName := ⟨RX1, "bid", "(III)I"⟩
def dkwX1_bid_3 : List UInt8 := [29, 79, 25, 5, 182, 1, 42, 172]
abbrev dktX1_bid_3 : List UInt8 := dkwX1_bid_3 ++ []
def dkwX1_bid_2 : List UInt8 := [29, 182, 1, 33, 153, 0, 7, 4, 167, 0, 4, 3, 19, 1, 36, 184, 0, 153, 25, 5, 180, 1, 38, 27]
abbrev dktX1_bid_2 : List UInt8 := dkwX1_bid_2 ++ dktX1_bid_3
def dkwX1_bid_1 : List UInt8 := [184, 0, 147, 25, 5, 180, 1, 21, 178, 1, 25, 166, 0, 24, 25, 4, 180, 1, 30, 154, 0, 16, 25, 4]
abbrev dktX1_bid_1 : List UInt8 := dkwX1_bid_1 ++ dktX1_bid_2
def dkwX1_bid_0 : List UInt8 := [42, 27, 182, 0, 230, 58, 4, 42, 28, 182, 1, 17, 58, 5, 29, 4, 17, 35, 40, 184, 0, 143, 18, 245]
abbrev dktX1_bid_0 : List UInt8 := dkwX1_bid_0 ++ dktX1_bid_1
theorem dksX1_bid_0 : cX1_bid.data.toList.drop 0 = dktX1_bid_0 := by decide +kernel
theorem dksX1_bid_1 : cX1_bid.data.toList.drop 24 = dktX1_bid_1 := dk_seg dksX1_bid_0 24 rfl rfl
theorem dksX1_bid_2 : cX1_bid.data.toList.drop 48 = dktX1_bid_2 := dk_seg dksX1_bid_1 24 rfl rfl
theorem dksX1_bid_3 : cX1_bid.data.toList.drop 72 = dktX1_bid_3 := dk_seg dksX1_bid_2 24 rfl rfl
theorem dX1_bid_0 : decode cX1_bid 0 = .ok (.aload_n 0, 1) := dk_42 (dk_at dksX1_bid_0 0 rfl rfl)
theorem dX1_bid_1 : decode cX1_bid 1 = .ok (.iload_n 1, 1) := dk_27 (dk_at dksX1_bid_0 1 rfl rfl)
theorem dX1_bid_2 : decode cX1_bid 2 = .ok (.invokevirtual 230, 3) := dk_182 0 230 (dk_at dksX1_bid_0 2 rfl rfl)
theorem dX1_bid_5 : decode cX1_bid 5 = .ok (.astore 4, 2) := dk_58 4 (dk_at dksX1_bid_0 5 rfl rfl)
theorem dX1_bid_7 : decode cX1_bid 7 = .ok (.aload_n 0, 1) := dk_42 (dk_at dksX1_bid_0 7 rfl rfl)
theorem dX1_bid_8 : decode cX1_bid 8 = .ok (.iload_n 2, 1) := dk_28 (dk_at dksX1_bid_0 8 rfl rfl)
theorem dX1_bid_9 : decode cX1_bid 9 = .ok (.invokevirtual 273, 3) := dk_182 1 17 (dk_at dksX1_bid_0 9 rfl rfl)
theorem dX1_bid_12 : decode cX1_bid 12 = .ok (.astore 5, 2) := dk_58 5 (dk_at dksX1_bid_0 12 rfl rfl)
theorem dX1_bid_14 : decode cX1_bid 14 = .ok (.iload_n 3, 1) := dk_29 (dk_at dksX1_bid_0 14 rfl rfl)
theorem dX1_bid_15 : decode cX1_bid 15 = .ok (.iconst 1, 1) := dk_4 (dk_at dksX1_bid_0 15 rfl rfl)
theorem dX1_bid_16 : decode cX1_bid 16 = .ok (.sipush 9000, 3) := dk_17 35 40 (dk_at dksX1_bid_0 16 rfl rfl)
theorem dX1_bid_19 : decode cX1_bid 19 = .ok (.invokestatic 143, 3) := dk_184 0 143 (dk_at dksX1_bid_0 19 rfl rfl)
theorem dX1_bid_22 : decode cX1_bid 22 = .ok (.ldc 245, 2) := dk_18 245 (dk_at dksX1_bid_0 22 rfl rfl)
theorem dX1_bid_24 : decode cX1_bid 24 = .ok (.invokestatic 147, 3) := dk_184 0 147 (dk_at dksX1_bid_1 0 rfl rfl)
theorem dX1_bid_27 : decode cX1_bid 27 = .ok (.aload 5, 2) := dk_25 5 (dk_at dksX1_bid_1 3 rfl rfl)
theorem dX1_bid_29 : decode cX1_bid 29 = .ok (.getfield 277, 3) := dk_180 1 21 (dk_at dksX1_bid_1 5 rfl rfl)
theorem dX1_bid_32 : decode cX1_bid 32 = .ok (.getstatic 281, 3) := dk_178 1 25 (dk_at dksX1_bid_1 8 rfl rfl)
theorem dX1_bid_35 : decode cX1_bid 35 = .ok (.if_acmp .ne 24, 3) := dk_166 0 24 (dk_at dksX1_bid_1 11 rfl rfl)
theorem dX1_bid_38 : decode cX1_bid 38 = .ok (.aload 4, 2) := dk_25 4 (dk_at dksX1_bid_1 14 rfl rfl)
theorem dX1_bid_40 : decode cX1_bid 40 = .ok (.getfield 286, 3) := dk_180 1 30 (dk_at dksX1_bid_1 16 rfl rfl)
theorem dX1_bid_43 : decode cX1_bid 43 = .ok (.ifCond .ne 16, 3) := dk_154 0 16 (dk_at dksX1_bid_1 19 rfl rfl)
theorem dX1_bid_46 : decode cX1_bid 46 = .ok (.aload 4, 2) := dk_25 4 (dk_at dksX1_bid_1 22 rfl rfl)
theorem dX1_bid_48 : decode cX1_bid 48 = .ok (.iload_n 3, 1) := dk_29 (dk_at dksX1_bid_2 0 rfl rfl)
theorem dX1_bid_49 : decode cX1_bid 49 = .ok (.invokevirtual 289, 3) := dk_182 1 33 (dk_at dksX1_bid_2 1 rfl rfl)
theorem dX1_bid_52 : decode cX1_bid 52 = .ok (.ifCond .eq 7, 3) := dk_153 0 7 (dk_at dksX1_bid_2 4 rfl rfl)
theorem dX1_bid_55 : decode cX1_bid 55 = .ok (.iconst 1, 1) := dk_4 (dk_at dksX1_bid_2 7 rfl rfl)
theorem dX1_bid_56 : decode cX1_bid 56 = .ok (.goto 4, 3) := dk_167 0 4 (dk_at dksX1_bid_2 8 rfl rfl)
theorem dX1_bid_59 : decode cX1_bid 59 = .ok (.iconst 0, 1) := dk_3 (dk_at dksX1_bid_2 11 rfl rfl)
theorem dX1_bid_60 : decode cX1_bid 60 = .ok (.ldc_w 292, 3) := dk_19 1 36 (dk_at dksX1_bid_2 12 rfl rfl)
theorem dX1_bid_63 : decode cX1_bid 63 = .ok (.invokestatic 153, 3) := dk_184 0 153 (dk_at dksX1_bid_2 15 rfl rfl)
theorem dX1_bid_66 : decode cX1_bid 66 = .ok (.aload 5, 2) := dk_25 5 (dk_at dksX1_bid_2 18 rfl rfl)
theorem dX1_bid_68 : decode cX1_bid 68 = .ok (.getfield 294, 3) := dk_180 1 38 (dk_at dksX1_bid_2 20 rfl rfl)
theorem dX1_bid_71 : decode cX1_bid 71 = .ok (.iload_n 1, 1) := dk_27 (dk_at dksX1_bid_2 23 rfl rfl)
theorem dX1_bid_72 : decode cX1_bid 72 = .ok (.iload_n 3, 1) := dk_29 (dk_at dksX1_bid_3 0 rfl rfl)
theorem dX1_bid_73 : decode cX1_bid 73 = .ok (.iastore, 1) := dk_79 (dk_at dksX1_bid_3 1 rfl rfl)
theorem dX1_bid_74 : decode cX1_bid 74 = .ok (.aload 5, 2) := dk_25 5 (dk_at dksX1_bid_3 2 rfl rfl)
theorem dX1_bid_76 : decode cX1_bid 76 = .ok (.invokevirtual 298, 3) := dk_182 1 42 (dk_at dksX1_bid_3 4 rfl rfl)
theorem dX1_bid_79 : decode cX1_bid 79 = .ok (.ireturn, 1) := dk_172 (dk_at dksX1_bid_3 7 rfl rfl)
abbrev cX1_lotOf : ByteArray := prog_1_method_10_code
def yX1_lotOf : MethodName := ⟨RX1, "lotOf", "(I)LPublicanry$Lot;"⟩
def dkwX1_lotOf_0 : List UInt8 := [42, 180, 0, 28, 27, 42, 180, 0, 28, 182, 0, 94, 18, 114, 184, 0, 100, 182, 0, 104, 192, 0, 116, 176]
abbrev dktX1_lotOf_0 : List UInt8 := dkwX1_lotOf_0 ++ []
theorem dksX1_lotOf_0 : cX1_lotOf.data.toList.drop 0 = dktX1_lotOf_0 := by decide +kernel
theorem dX1_lotOf_0 : decode cX1_lotOf 0 = .ok (.aload_n 0, 1) := dk_42 (dk_at dksX1_lotOf_0 0 rfl rfl)
theorem dX1_lotOf_1 : decode cX1_lotOf 1 = .ok (.getfield 28, 3) := dk_180 0 28 (dk_at dksX1_lotOf_0 1 rfl rfl)
theorem dX1_lotOf_4 : decode cX1_lotOf 4 = .ok (.iload_n 1, 1) := dk_27 (dk_at dksX1_lotOf_0 4 rfl rfl)
theorem dX1_lotOf_5 : decode cX1_lotOf 5 = .ok (.aload_n 0, 1) := dk_42 (dk_at dksX1_lotOf_0 5 rfl rfl)
theorem dX1_lotOf_6 : decode cX1_lotOf 6 = .ok (.getfield 28, 3) := dk_180 0 28 (dk_at dksX1_lotOf_0 6 rfl rfl)
theorem dX1_lotOf_9 : decode cX1_lotOf 9 = .ok (.invokevirtual 94, 3) := dk_182 0 94 (dk_at dksX1_lotOf_0 9 rfl rfl)
theorem dX1_lotOf_12 : decode cX1_lotOf 12 = .ok (.ldc 114, 2) := dk_18 114 (dk_at dksX1_lotOf_0 12 rfl rfl)
theorem dX1_lotOf_14 : decode cX1_lotOf 14 = .ok (.invokestatic 100, 3) := dk_184 0 100 (dk_at dksX1_lotOf_0 14 rfl rfl)
theorem dX1_lotOf_17 : decode cX1_lotOf 17 = .ok (.invokevirtual 104, 3) := dk_182 0 104 (dk_at dksX1_lotOf_0 17 rfl rfl)
theorem dX1_lotOf_20 : decode cX1_lotOf 20 = .ok (.checkcast 116, 3) := dk_192 0 116 (dk_at dksX1_lotOf_0 20 rfl rfl)
theorem dX1_lotOf_23 : decode cX1_lotOf 23 = .ok (.areturn, 1) := dk_176 (dk_at dksX1_lotOf_0 23 rfl rfl)
abbrev cX1_award : ByteArray := prog_1_method_31_code
def yX1_award : MethodName := ⟨RX1, "award", "(I)I"⟩
def dkwX1_award_5 : List UInt8 := [182, 1, 99, 45, 180, 1, 103, 172]
abbrev dktX1_award_5 : List UInt8 := dkwX1_award_5 ++ []
def dkwX1_award_4 : List UInt8 := [182, 1, 90, 181, 1, 93, 45, 89, 180, 1, 96, 44, 180, 1, 79, 7, 108, 96, 181, 1, 96, 42, 44]
abbrev dktX1_award_4 : List UInt8 := dkwX1_award_4 ++ dktX1_award_5
def dkwX1_award_3 : List UInt8 := [182, 1, 75, 181, 1, 79, 44, 178, 1, 81, 181, 1, 21, 44, 44, 180, 1, 84, 181, 1, 87, 44, 42]
abbrev dktX1_award_3 : List UInt8 := dkwX1_award_3 ++ dktX1_award_4
def dkwX1_award_2 : List UInt8 := [178, 1, 70, 181, 1, 21, 2, 172, 44, 180, 1, 65, 182, 1, 73, 192, 0, 112, 78, 44, 42, 44, 45]
abbrev dktX1_award_2 : List UInt8 := dkwX1_award_2 ++ dktX1_award_3
def dkwX1_award_1 : List UInt8 := [184, 0, 153, 44, 42, 44, 182, 1, 61, 181, 1, 65, 44, 180, 1, 65, 182, 1, 69, 153, 0, 12, 44]
abbrev dktX1_award_1 : List UInt8 := dkwX1_award_1 ++ dktX1_award_2
def dkwX1_award_0 : List UInt8 := [42, 27, 182, 1, 17, 77, 44, 180, 1, 21, 178, 1, 25, 166, 0, 7, 4, 167, 0, 4, 3, 19, 1, 59]
abbrev dktX1_award_0 : List UInt8 := dkwX1_award_0 ++ dktX1_award_1
theorem dksX1_award_0 : cX1_award.data.toList.drop 0 = dktX1_award_0 := by decide +kernel
theorem dksX1_award_1 : cX1_award.data.toList.drop 24 = dktX1_award_1 := dk_seg dksX1_award_0 24 rfl rfl
theorem dksX1_award_2 : cX1_award.data.toList.drop 47 = dktX1_award_2 := dk_seg dksX1_award_1 23 rfl rfl
theorem dksX1_award_3 : cX1_award.data.toList.drop 70 = dktX1_award_3 := dk_seg dksX1_award_2 23 rfl rfl
theorem dksX1_award_4 : cX1_award.data.toList.drop 93 = dktX1_award_4 := dk_seg dksX1_award_3 23 rfl rfl
theorem dksX1_award_5 : cX1_award.data.toList.drop 116 = dktX1_award_5 := dk_seg dksX1_award_4 23 rfl rfl
theorem dX1_award_0 : decode cX1_award 0 = .ok (.aload_n 0, 1) := dk_42 (dk_at dksX1_award_0 0 rfl rfl)
theorem dX1_award_1 : decode cX1_award 1 = .ok (.iload_n 1, 1) := dk_27 (dk_at dksX1_award_0 1 rfl rfl)
theorem dX1_award_2 : decode cX1_award 2 = .ok (.invokevirtual 273, 3) := dk_182 1 17 (dk_at dksX1_award_0 2 rfl rfl)
theorem dX1_award_5 : decode cX1_award 5 = .ok (.astore_n 2, 1) := dk_77 (dk_at dksX1_award_0 5 rfl rfl)
theorem dX1_award_6 : decode cX1_award 6 = .ok (.aload_n 2, 1) := dk_44 (dk_at dksX1_award_0 6 rfl rfl)
theorem dX1_award_7 : decode cX1_award 7 = .ok (.getfield 277, 3) := dk_180 1 21 (dk_at dksX1_award_0 7 rfl rfl)
theorem dX1_award_10 : decode cX1_award 10 = .ok (.getstatic 281, 3) := dk_178 1 25 (dk_at dksX1_award_0 10 rfl rfl)
theorem dX1_award_13 : decode cX1_award 13 = .ok (.if_acmp .ne 7, 3) := dk_166 0 7 (dk_at dksX1_award_0 13 rfl rfl)
theorem dX1_award_16 : decode cX1_award 16 = .ok (.iconst 1, 1) := dk_4 (dk_at dksX1_award_0 16 rfl rfl)
theorem dX1_award_17 : decode cX1_award 17 = .ok (.goto 4, 3) := dk_167 0 4 (dk_at dksX1_award_0 17 rfl rfl)
theorem dX1_award_20 : decode cX1_award 20 = .ok (.iconst 0, 1) := dk_3 (dk_at dksX1_award_0 20 rfl rfl)
theorem dX1_award_21 : decode cX1_award 21 = .ok (.ldc_w 315, 3) := dk_19 1 59 (dk_at dksX1_award_0 21 rfl rfl)
theorem dX1_award_24 : decode cX1_award 24 = .ok (.invokestatic 153, 3) := dk_184 0 153 (dk_at dksX1_award_1 0 rfl rfl)
theorem dX1_award_27 : decode cX1_award 27 = .ok (.aload_n 2, 1) := dk_44 (dk_at dksX1_award_1 3 rfl rfl)
theorem dX1_award_28 : decode cX1_award 28 = .ok (.aload_n 0, 1) := dk_42 (dk_at dksX1_award_1 4 rfl rfl)
theorem dX1_award_29 : decode cX1_award 29 = .ok (.aload_n 2, 1) := dk_44 (dk_at dksX1_award_1 5 rfl rfl)
theorem dX1_award_30 : decode cX1_award 30 = .ok (.invokevirtual 317, 3) := dk_182 1 61 (dk_at dksX1_award_1 6 rfl rfl)
theorem dX1_award_33 : decode cX1_award 33 = .ok (.putfield 321, 3) := dk_181 1 65 (dk_at dksX1_award_1 9 rfl rfl)
theorem dX1_award_36 : decode cX1_award 36 = .ok (.aload_n 2, 1) := dk_44 (dk_at dksX1_award_1 12 rfl rfl)
theorem dX1_award_37 : decode cX1_award 37 = .ok (.getfield 321, 3) := dk_180 1 65 (dk_at dksX1_award_1 13 rfl rfl)
theorem dX1_award_40 : decode cX1_award 40 = .ok (.invokevirtual 325, 3) := dk_182 1 69 (dk_at dksX1_award_1 16 rfl rfl)
theorem dX1_award_43 : decode cX1_award 43 = .ok (.ifCond .eq 12, 3) := dk_153 0 12 (dk_at dksX1_award_1 19 rfl rfl)
theorem dX1_award_46 : decode cX1_award 46 = .ok (.aload_n 2, 1) := dk_44 (dk_at dksX1_award_1 22 rfl rfl)
theorem dX1_award_47 : decode cX1_award 47 = .ok (.getstatic 326, 3) := dk_178 1 70 (dk_at dksX1_award_2 0 rfl rfl)
theorem dX1_award_50 : decode cX1_award 50 = .ok (.putfield 277, 3) := dk_181 1 21 (dk_at dksX1_award_2 3 rfl rfl)
theorem dX1_award_53 : decode cX1_award 53 = .ok (.iconst (-1), 1) := dk_2 (dk_at dksX1_award_2 6 rfl rfl)
theorem dX1_award_54 : decode cX1_award 54 = .ok (.ireturn, 1) := dk_172 (dk_at dksX1_award_2 7 rfl rfl)
theorem dX1_award_55 : decode cX1_award 55 = .ok (.aload_n 2, 1) := dk_44 (dk_at dksX1_award_2 8 rfl rfl)
theorem dX1_award_56 : decode cX1_award 56 = .ok (.getfield 321, 3) := dk_180 1 65 (dk_at dksX1_award_2 9 rfl rfl)
theorem dX1_award_59 : decode cX1_award 59 = .ok (.invokevirtual 329, 3) := dk_182 1 73 (dk_at dksX1_award_2 12 rfl rfl)
theorem dX1_award_62 : decode cX1_award 62 = .ok (.checkcast 112, 3) := dk_192 0 112 (dk_at dksX1_award_2 15 rfl rfl)
theorem dX1_award_65 : decode cX1_award 65 = .ok (.astore_n 3, 1) := dk_78 (dk_at dksX1_award_2 18 rfl rfl)
theorem dX1_award_66 : decode cX1_award 66 = .ok (.aload_n 2, 1) := dk_44 (dk_at dksX1_award_2 19 rfl rfl)
theorem dX1_award_67 : decode cX1_award 67 = .ok (.aload_n 0, 1) := dk_42 (dk_at dksX1_award_2 20 rfl rfl)
theorem dX1_award_68 : decode cX1_award 68 = .ok (.aload_n 2, 1) := dk_44 (dk_at dksX1_award_2 21 rfl rfl)
theorem dX1_award_69 : decode cX1_award 69 = .ok (.aload_n 3, 1) := dk_45 (dk_at dksX1_award_2 22 rfl rfl)
theorem dX1_award_70 : decode cX1_award 70 = .ok (.invokevirtual 331, 3) := dk_182 1 75 (dk_at dksX1_award_3 0 rfl rfl)
theorem dX1_award_73 : decode cX1_award 73 = .ok (.putfield 335, 3) := dk_181 1 79 (dk_at dksX1_award_3 3 rfl rfl)
theorem dX1_award_76 : decode cX1_award 76 = .ok (.aload_n 2, 1) := dk_44 (dk_at dksX1_award_3 6 rfl rfl)
theorem dX1_award_77 : decode cX1_award 77 = .ok (.getstatic 337, 3) := dk_178 1 81 (dk_at dksX1_award_3 7 rfl rfl)
theorem dX1_award_80 : decode cX1_award 80 = .ok (.putfield 277, 3) := dk_181 1 21 (dk_at dksX1_award_3 10 rfl rfl)
theorem dX1_award_83 : decode cX1_award 83 = .ok (.aload_n 2, 1) := dk_44 (dk_at dksX1_award_3 13 rfl rfl)
theorem dX1_award_84 : decode cX1_award 84 = .ok (.aload_n 2, 1) := dk_44 (dk_at dksX1_award_3 14 rfl rfl)
theorem dX1_award_85 : decode cX1_award 85 = .ok (.getfield 340, 3) := dk_180 1 84 (dk_at dksX1_award_3 15 rfl rfl)
theorem dX1_award_88 : decode cX1_award 88 = .ok (.putfield 343, 3) := dk_181 1 87 (dk_at dksX1_award_3 18 rfl rfl)
theorem dX1_award_91 : decode cX1_award 91 = .ok (.aload_n 2, 1) := dk_44 (dk_at dksX1_award_3 21 rfl rfl)
theorem dX1_award_92 : decode cX1_award 92 = .ok (.aload_n 0, 1) := dk_42 (dk_at dksX1_award_3 22 rfl rfl)
theorem dX1_award_93 : decode cX1_award 93 = .ok (.invokevirtual 346, 3) := dk_182 1 90 (dk_at dksX1_award_4 0 rfl rfl)
theorem dX1_award_96 : decode cX1_award 96 = .ok (.putfield 349, 3) := dk_181 1 93 (dk_at dksX1_award_4 3 rfl rfl)
theorem dX1_award_99 : decode cX1_award 99 = .ok (.aload_n 3, 1) := dk_45 (dk_at dksX1_award_4 6 rfl rfl)
theorem dX1_award_100 : decode cX1_award 100 = .ok (.dup, 1) := dk_89 (dk_at dksX1_award_4 7 rfl rfl)
theorem dX1_award_101 : decode cX1_award 101 = .ok (.getfield 352, 3) := dk_180 1 96 (dk_at dksX1_award_4 8 rfl rfl)
theorem dX1_award_104 : decode cX1_award 104 = .ok (.aload_n 2, 1) := dk_44 (dk_at dksX1_award_4 11 rfl rfl)
theorem dX1_award_105 : decode cX1_award 105 = .ok (.getfield 335, 3) := dk_180 1 79 (dk_at dksX1_award_4 12 rfl rfl)
theorem dX1_award_108 : decode cX1_award 108 = .ok (.iconst 4, 1) := dk_7 (dk_at dksX1_award_4 15 rfl rfl)
theorem dX1_award_109 : decode cX1_award 109 = .ok (.idiv, 1) := dk_108 (dk_at dksX1_award_4 16 rfl rfl)
theorem dX1_award_110 : decode cX1_award 110 = .ok (.iadd, 1) := dk_96 (dk_at dksX1_award_4 17 rfl rfl)
theorem dX1_award_111 : decode cX1_award 111 = .ok (.putfield 352, 3) := dk_181 1 96 (dk_at dksX1_award_4 18 rfl rfl)
theorem dX1_award_114 : decode cX1_award 114 = .ok (.aload_n 0, 1) := dk_42 (dk_at dksX1_award_4 21 rfl rfl)
theorem dX1_award_115 : decode cX1_award 115 = .ok (.aload_n 2, 1) := dk_44 (dk_at dksX1_award_4 22 rfl rfl)
theorem dX1_award_116 : decode cX1_award 116 = .ok (.invokevirtual 355, 3) := dk_182 1 99 (dk_at dksX1_award_5 0 rfl rfl)
theorem dX1_award_119 : decode cX1_award 119 = .ok (.aload_n 3, 1) := dk_45 (dk_at dksX1_award_5 3 rfl rfl)
theorem dX1_award_120 : decode cX1_award 120 = .ok (.getfield 359, 3) := dk_180 1 103 (dk_at dksX1_award_5 4 rfl rfl)
theorem dX1_award_123 : decode cX1_award 123 = .ok (.ireturn, 1) := dk_172 (dk_at dksX1_award_5 7 rfl rfl)
abbrev cX1_winner : ByteArray := prog_1_method_30_code
def yX1_winner : MethodName := ⟨RX1, "winner", "(LPublicanry$Lot;)Ljava/util/Optional;"⟩
def dkwX1_winner_1 : List UInt8 := [180, 0, 25, 28, 182, 0, 104, 192, 0, 112, 184, 1, 55, 176]
abbrev dktX1_winner_1 : List UInt8 := dkwX1_winner_1 ++ []
def dkwX1_winner_0 : List UInt8 := [43, 42, 180, 0, 25, 2, 182, 1, 45, 61, 28, 2, 160, 0, 9, 184, 1, 49, 167, 0, 17, 42]
abbrev dktX1_winner_0 : List UInt8 := dkwX1_winner_0 ++ dktX1_winner_1
theorem dksX1_winner_0 : cX1_winner.data.toList.drop 0 = dktX1_winner_0 := by decide +kernel
theorem dksX1_winner_1 : cX1_winner.data.toList.drop 22 = dktX1_winner_1 := dk_seg dksX1_winner_0 22 rfl rfl
theorem dX1_winner_0 : decode cX1_winner 0 = .ok (.aload_n 1, 1) := dk_43 (dk_at dksX1_winner_0 0 rfl rfl)
theorem dX1_winner_1 : decode cX1_winner 1 = .ok (.aload_n 0, 1) := dk_42 (dk_at dksX1_winner_0 1 rfl rfl)
theorem dX1_winner_2 : decode cX1_winner 2 = .ok (.getfield 25, 3) := dk_180 0 25 (dk_at dksX1_winner_0 2 rfl rfl)
theorem dX1_winner_5 : decode cX1_winner 5 = .ok (.iconst (-1), 1) := dk_2 (dk_at dksX1_winner_0 5 rfl rfl)
theorem dX1_winner_6 : decode cX1_winner 6 = .ok (.invokevirtual 301, 3) := dk_182 1 45 (dk_at dksX1_winner_0 6 rfl rfl)
theorem dX1_winner_9 : decode cX1_winner 9 = .ok (.istore_n 2, 1) := dk_61 (dk_at dksX1_winner_0 9 rfl rfl)
theorem dX1_winner_10 : decode cX1_winner 10 = .ok (.iload_n 2, 1) := dk_28 (dk_at dksX1_winner_0 10 rfl rfl)
theorem dX1_winner_11 : decode cX1_winner 11 = .ok (.iconst (-1), 1) := dk_2 (dk_at dksX1_winner_0 11 rfl rfl)
theorem dX1_winner_12 : decode cX1_winner 12 = .ok (.if_icmp .ne 9, 3) := dk_160 0 9 (dk_at dksX1_winner_0 12 rfl rfl)
theorem dX1_winner_15 : decode cX1_winner 15 = .ok (.invokestatic 305, 3) := dk_184 1 49 (dk_at dksX1_winner_0 15 rfl rfl)
theorem dX1_winner_18 : decode cX1_winner 18 = .ok (.goto 17, 3) := dk_167 0 17 (dk_at dksX1_winner_0 18 rfl rfl)
theorem dX1_winner_21 : decode cX1_winner 21 = .ok (.aload_n 0, 1) := dk_42 (dk_at dksX1_winner_0 21 rfl rfl)
theorem dX1_winner_22 : decode cX1_winner 22 = .ok (.getfield 25, 3) := dk_180 0 25 (dk_at dksX1_winner_1 0 rfl rfl)
theorem dX1_winner_25 : decode cX1_winner 25 = .ok (.iload_n 2, 1) := dk_28 (dk_at dksX1_winner_1 3 rfl rfl)
theorem dX1_winner_26 : decode cX1_winner 26 = .ok (.invokevirtual 104, 3) := dk_182 0 104 (dk_at dksX1_winner_1 4 rfl rfl)
theorem dX1_winner_29 : decode cX1_winner 29 = .ok (.checkcast 112, 3) := dk_192 0 112 (dk_at dksX1_winner_1 7 rfl rfl)
theorem dX1_winner_32 : decode cX1_winner 32 = .ok (.invokestatic 311, 3) := dk_184 1 55 (dk_at dksX1_winner_1 10 rfl rfl)
theorem dX1_winner_35 : decode cX1_winner 35 = .ok (.areturn, 1) := dk_176 (dk_at dksX1_winner_1 13 rfl rfl)
abbrev cX1_price : ByteArray := prog_1_method_32_code
def yX1_price : MethodName := ⟨RX1, "price", "(LPublicanry$Lot;LPublicanry$Company;)I"⟩
def dkwX1_price_6 : List UInt8 := [167, 255, 184, 43, 180, 1, 108, 172]
abbrev dktX1_price_6 : List UInt8 := dkwX1_price_6 ++ []
def dkwX1_price_5 : List UInt8 := [44, 180, 0, 242, 25, 6, 180, 0, 242, 21, 4, 43, 180, 1, 108, 100, 16, 10, 108, 182, 0, 182, 87]
abbrev dktX1_price_5 : List UInt8 := dkwX1_price_5 ++ dktX1_price_6
def dkwX1_price_4 : List UInt8 := [165, 0, 47, 25, 6, 180, 1, 6, 44, 180, 1, 6, 160, 0, 35, 43, 25, 6, 182, 1, 104, 153, 0, 26]
abbrev dktX1_price_4 : List UInt8 := dkwX1_price_4 ++ dktX1_price_5
def dkwX1_price_3 : List UInt8 := [185, 0, 195, 1, 0, 153, 0, 68, 25, 5, 185, 0, 201, 1, 0, 192, 0, 112, 58, 6, 25, 6, 44]
abbrev dktX1_price_3 : List UInt8 := dkwX1_price_3 ++ dktX1_price_4
def dkwX1_price_2 : List UInt8 := [180, 1, 6, 44, 180, 1, 6, 159, 0, 6, 21, 4, 172, 42, 180, 0, 25, 182, 0, 191, 58, 5, 25, 5]
abbrev dktX1_price_2 : List UInt8 := dkwX1_price_2 ++ dktX1_price_3
def dkwX1_price_1 : List UInt8 := [29, 2, 159, 0, 31, 44, 180, 1, 6, 153, 0, 24, 42, 180, 0, 25, 29, 182, 0, 104, 192, 0, 112]
abbrev dktX1_price_1 : List UInt8 := dkwX1_price_1 ++ dktX1_price_2
def dkwX1_price_0 : List UInt8 := [43, 42, 180, 0, 25, 44, 180, 1, 103, 182, 1, 45, 62, 43, 180, 1, 38, 44, 180, 1, 103, 46, 54, 4]
abbrev dktX1_price_0 : List UInt8 := dkwX1_price_0 ++ dktX1_price_1
theorem dksX1_price_0 : cX1_price.data.toList.drop 0 = dktX1_price_0 := by decide +kernel
theorem dksX1_price_1 : cX1_price.data.toList.drop 24 = dktX1_price_1 := dk_seg dksX1_price_0 24 rfl rfl
theorem dksX1_price_2 : cX1_price.data.toList.drop 47 = dktX1_price_2 := dk_seg dksX1_price_1 23 rfl rfl
theorem dksX1_price_3 : cX1_price.data.toList.drop 71 = dktX1_price_3 := dk_seg dksX1_price_2 24 rfl rfl
theorem dksX1_price_4 : cX1_price.data.toList.drop 94 = dktX1_price_4 := dk_seg dksX1_price_3 23 rfl rfl
theorem dksX1_price_5 : cX1_price.data.toList.drop 118 = dktX1_price_5 := dk_seg dksX1_price_4 24 rfl rfl
theorem dksX1_price_6 : cX1_price.data.toList.drop 141 = dktX1_price_6 := dk_seg dksX1_price_5 23 rfl rfl
theorem dX1_price_0 : decode cX1_price 0 = .ok (.aload_n 1, 1) := dk_43 (dk_at dksX1_price_0 0 rfl rfl)
theorem dX1_price_1 : decode cX1_price 1 = .ok (.aload_n 0, 1) := dk_42 (dk_at dksX1_price_0 1 rfl rfl)
theorem dX1_price_2 : decode cX1_price 2 = .ok (.getfield 25, 3) := dk_180 0 25 (dk_at dksX1_price_0 2 rfl rfl)
theorem dX1_price_5 : decode cX1_price 5 = .ok (.aload_n 2, 1) := dk_44 (dk_at dksX1_price_0 5 rfl rfl)
theorem dX1_price_6 : decode cX1_price 6 = .ok (.getfield 359, 3) := dk_180 1 103 (dk_at dksX1_price_0 6 rfl rfl)
theorem dX1_price_9 : decode cX1_price 9 = .ok (.invokevirtual 301, 3) := dk_182 1 45 (dk_at dksX1_price_0 9 rfl rfl)
theorem dX1_price_12 : decode cX1_price 12 = .ok (.istore_n 3, 1) := dk_62 (dk_at dksX1_price_0 12 rfl rfl)
theorem dX1_price_13 : decode cX1_price 13 = .ok (.aload_n 1, 1) := dk_43 (dk_at dksX1_price_0 13 rfl rfl)
theorem dX1_price_14 : decode cX1_price 14 = .ok (.getfield 294, 3) := dk_180 1 38 (dk_at dksX1_price_0 14 rfl rfl)
theorem dX1_price_17 : decode cX1_price 17 = .ok (.aload_n 2, 1) := dk_44 (dk_at dksX1_price_0 17 rfl rfl)
theorem dX1_price_18 : decode cX1_price 18 = .ok (.getfield 359, 3) := dk_180 1 103 (dk_at dksX1_price_0 18 rfl rfl)
theorem dX1_price_21 : decode cX1_price 21 = .ok (.iaload, 1) := dk_46 (dk_at dksX1_price_0 21 rfl rfl)
theorem dX1_price_22 : decode cX1_price 22 = .ok (.istore 4, 2) := dk_54 4 (dk_at dksX1_price_0 22 rfl rfl)
theorem dX1_price_24 : decode cX1_price 24 = .ok (.iload_n 3, 1) := dk_29 (dk_at dksX1_price_1 0 rfl rfl)
theorem dX1_price_25 : decode cX1_price 25 = .ok (.iconst (-1), 1) := dk_2 (dk_at dksX1_price_1 1 rfl rfl)
theorem dX1_price_26 : decode cX1_price 26 = .ok (.if_icmp .eq 31, 3) := dk_159 0 31 (dk_at dksX1_price_1 2 rfl rfl)
theorem dX1_price_29 : decode cX1_price 29 = .ok (.aload_n 2, 1) := dk_44 (dk_at dksX1_price_1 5 rfl rfl)
theorem dX1_price_30 : decode cX1_price 30 = .ok (.getfield 262, 3) := dk_180 1 6 (dk_at dksX1_price_1 6 rfl rfl)
theorem dX1_price_33 : decode cX1_price 33 = .ok (.ifCond .eq 24, 3) := dk_153 0 24 (dk_at dksX1_price_1 9 rfl rfl)
theorem dX1_price_36 : decode cX1_price 36 = .ok (.aload_n 0, 1) := dk_42 (dk_at dksX1_price_1 12 rfl rfl)
theorem dX1_price_37 : decode cX1_price 37 = .ok (.getfield 25, 3) := dk_180 0 25 (dk_at dksX1_price_1 13 rfl rfl)
theorem dX1_price_40 : decode cX1_price 40 = .ok (.iload_n 3, 1) := dk_29 (dk_at dksX1_price_1 16 rfl rfl)
theorem dX1_price_41 : decode cX1_price 41 = .ok (.invokevirtual 104, 3) := dk_182 0 104 (dk_at dksX1_price_1 17 rfl rfl)
theorem dX1_price_44 : decode cX1_price 44 = .ok (.checkcast 112, 3) := dk_192 0 112 (dk_at dksX1_price_1 20 rfl rfl)
theorem dX1_price_47 : decode cX1_price 47 = .ok (.getfield 262, 3) := dk_180 1 6 (dk_at dksX1_price_2 0 rfl rfl)
theorem dX1_price_50 : decode cX1_price 50 = .ok (.aload_n 2, 1) := dk_44 (dk_at dksX1_price_2 3 rfl rfl)
theorem dX1_price_51 : decode cX1_price 51 = .ok (.getfield 262, 3) := dk_180 1 6 (dk_at dksX1_price_2 4 rfl rfl)
theorem dX1_price_54 : decode cX1_price 54 = .ok (.if_icmp .eq 6, 3) := dk_159 0 6 (dk_at dksX1_price_2 7 rfl rfl)
theorem dX1_price_57 : decode cX1_price 57 = .ok (.iload 4, 2) := dk_21 4 (dk_at dksX1_price_2 10 rfl rfl)
theorem dX1_price_59 : decode cX1_price 59 = .ok (.ireturn, 1) := dk_172 (dk_at dksX1_price_2 12 rfl rfl)
theorem dX1_price_60 : decode cX1_price 60 = .ok (.aload_n 0, 1) := dk_42 (dk_at dksX1_price_2 13 rfl rfl)
theorem dX1_price_61 : decode cX1_price 61 = .ok (.getfield 25, 3) := dk_180 0 25 (dk_at dksX1_price_2 14 rfl rfl)
theorem dX1_price_64 : decode cX1_price 64 = .ok (.invokevirtual 191, 3) := dk_182 0 191 (dk_at dksX1_price_2 17 rfl rfl)
theorem dX1_price_67 : decode cX1_price 67 = .ok (.astore 5, 2) := dk_58 5 (dk_at dksX1_price_2 20 rfl rfl)
theorem dX1_price_69 : decode cX1_price 69 = .ok (.aload 5, 2) := dk_25 5 (dk_at dksX1_price_2 22 rfl rfl)
theorem dX1_price_71 : decode cX1_price 71 = .ok (.invokeinterface 195 1, 5) := by decide +kernel
theorem dX1_price_76 : decode cX1_price 76 = .ok (.ifCond .eq 68, 3) := dk_153 0 68 (dk_at dksX1_price_3 5 rfl rfl)
theorem dX1_price_79 : decode cX1_price 79 = .ok (.aload 5, 2) := dk_25 5 (dk_at dksX1_price_3 8 rfl rfl)
theorem dX1_price_81 : decode cX1_price 81 = .ok (.invokeinterface 201 1, 5) := by decide +kernel
theorem dX1_price_86 : decode cX1_price 86 = .ok (.checkcast 112, 3) := dk_192 0 112 (dk_at dksX1_price_3 15 rfl rfl)
theorem dX1_price_89 : decode cX1_price 89 = .ok (.astore 6, 2) := dk_58 6 (dk_at dksX1_price_3 18 rfl rfl)
theorem dX1_price_91 : decode cX1_price 91 = .ok (.aload 6, 2) := dk_25 6 (dk_at dksX1_price_3 20 rfl rfl)
theorem dX1_price_93 : decode cX1_price 93 = .ok (.aload_n 2, 1) := dk_44 (dk_at dksX1_price_3 22 rfl rfl)
theorem dX1_price_94 : decode cX1_price 94 = .ok (.if_acmp .eq 47, 3) := dk_165 0 47 (dk_at dksX1_price_4 0 rfl rfl)
theorem dX1_price_97 : decode cX1_price 97 = .ok (.aload 6, 2) := dk_25 6 (dk_at dksX1_price_4 3 rfl rfl)
theorem dX1_price_99 : decode cX1_price 99 = .ok (.getfield 262, 3) := dk_180 1 6 (dk_at dksX1_price_4 5 rfl rfl)
theorem dX1_price_102 : decode cX1_price 102 = .ok (.aload_n 2, 1) := dk_44 (dk_at dksX1_price_4 8 rfl rfl)
theorem dX1_price_103 : decode cX1_price 103 = .ok (.getfield 262, 3) := dk_180 1 6 (dk_at dksX1_price_4 9 rfl rfl)
theorem dX1_price_106 : decode cX1_price 106 = .ok (.if_icmp .ne 35, 3) := dk_160 0 35 (dk_at dksX1_price_4 12 rfl rfl)
theorem dX1_price_109 : decode cX1_price 109 = .ok (.aload_n 1, 1) := dk_43 (dk_at dksX1_price_4 15 rfl rfl)
theorem dX1_price_110 : decode cX1_price 110 = .ok (.aload 6, 2) := dk_25 6 (dk_at dksX1_price_4 16 rfl rfl)
theorem dX1_price_112 : decode cX1_price 112 = .ok (.invokevirtual 360, 3) := dk_182 1 104 (dk_at dksX1_price_4 18 rfl rfl)
theorem dX1_price_115 : decode cX1_price 115 = .ok (.ifCond .eq 26, 3) := dk_153 0 26 (dk_at dksX1_price_4 21 rfl rfl)
theorem dX1_price_118 : decode cX1_price 118 = .ok (.aload_n 2, 1) := dk_44 (dk_at dksX1_price_5 0 rfl rfl)
theorem dX1_price_119 : decode cX1_price 119 = .ok (.getfield 242, 3) := dk_180 0 242 (dk_at dksX1_price_5 1 rfl rfl)
theorem dX1_price_122 : decode cX1_price 122 = .ok (.aload 6, 2) := dk_25 6 (dk_at dksX1_price_5 4 rfl rfl)
theorem dX1_price_124 : decode cX1_price 124 = .ok (.getfield 242, 3) := dk_180 0 242 (dk_at dksX1_price_5 6 rfl rfl)
theorem dX1_price_127 : decode cX1_price 127 = .ok (.iload 4, 2) := dk_21 4 (dk_at dksX1_price_5 9 rfl rfl)
theorem dX1_price_129 : decode cX1_price 129 = .ok (.aload_n 1, 1) := dk_43 (dk_at dksX1_price_5 11 rfl rfl)
theorem dX1_price_130 : decode cX1_price 130 = .ok (.getfield 364, 3) := dk_180 1 108 (dk_at dksX1_price_5 12 rfl rfl)
theorem dX1_price_133 : decode cX1_price 133 = .ok (.isub, 1) := dk_100 (dk_at dksX1_price_5 15 rfl rfl)
theorem dX1_price_134 : decode cX1_price 134 = .ok (.bipush 10, 2) := dk_16 10 (dk_at dksX1_price_5 16 rfl rfl)
theorem dX1_price_136 : decode cX1_price 136 = .ok (.idiv, 1) := dk_108 (dk_at dksX1_price_5 18 rfl rfl)
theorem dX1_price_137 : decode cX1_price 137 = .ok (.invokevirtual 182, 3) := dk_182 0 182 (dk_at dksX1_price_5 19 rfl rfl)
theorem dX1_price_140 : decode cX1_price 140 = .ok (.pop, 1) := dk_87 (dk_at dksX1_price_5 22 rfl rfl)
theorem dX1_price_141 : decode cX1_price 141 = .ok (.goto (-72), 3) := dk_167 255 184 (dk_at dksX1_price_6 0 rfl rfl)
theorem dX1_price_144 : decode cX1_price 144 = .ok (.aload_n 1, 1) := dk_43 (dk_at dksX1_price_6 3 rfl rfl)
theorem dX1_price_145 : decode cX1_price 145 = .ok (.getfield 364, 3) := dk_180 1 108 (dk_at dksX1_price_6 4 rfl rfl)
theorem dX1_price_148 : decode cX1_price 148 = .ok (.ireturn, 1) := dk_172 (dk_at dksX1_price_6 7 rfl rfl)
abbrev cX1_fallDue : ByteArray := prog_1_method_36_code
def yX1_fallDue : MethodName := ⟨RX1, "fallDue", "(LPublicanry$Lot;)V"⟩
def dkwX1_fallDue_9 : List UInt8 := [25, 8, 182, 1, 151, 167, 255, 206, 44, 4, 181, 1, 30, 177]
abbrev dktX1_fallDue_9 : List UInt8 := dkwX1_fallDue_9 ++ []
def dkwX1_fallDue_8 : List UInt8 := [25, 8, 180, 1, 65, 182, 1, 148, 153, 0, 20, 25, 8, 180, 1, 65, 182, 1, 73, 44, 166, 0, 8]
abbrev dktX1_fallDue_8 : List UInt8 := dkwX1_fallDue_8 ++ dktX1_fallDue_9
def dkwX1_fallDue_7 : List UInt8 := [58, 7, 25, 7, 185, 0, 195, 1, 0, 153, 0, 46, 25, 7, 185, 0, 201, 1, 0, 192, 0, 116, 58, 8]
abbrev dktX1_fallDue_7 : List UInt8 := dkwX1_fallDue_7 ++ dktX1_fallDue_8
def dkwX1_fallDue_6 : List UInt8 := [181, 1, 145, 42, 180, 0, 40, 42, 180, 0, 47, 21, 6, 182, 0, 182, 87, 42, 180, 0, 28, 182, 0, 191]
abbrev dktX1_fallDue_6 : List UInt8 := dkwX1_fallDue_6 ++ dktX1_fallDue_7
def dkwX1_fallDue_5 : List UInt8 := [180, 1, 79, 7, 108, 29, 21, 5, 100, 184, 0, 1, 54, 6, 44, 89, 180, 1, 145, 21, 6, 100]
abbrev dktX1_fallDue_5 : List UInt8 := dkwX1_fallDue_5 ++ dktX1_fallDue_6
def dkwX1_fallDue_4 : List UInt8 := [182, 0, 182, 54, 5, 44, 89, 180, 1, 142, 21, 5, 96, 181, 1, 142, 21, 5, 29, 160, 0, 4, 177, 43]
abbrev dktX1_fallDue_4 : List UInt8 := dkwX1_fallDue_4 ++ dktX1_fallDue_5
def dkwX1_fallDue_3 : List UInt8 := [180, 1, 129, 21, 4, 100, 181, 1, 129, 29, 21, 4, 100, 62, 44, 180, 0, 242, 42, 180, 0, 47, 29]
abbrev dktX1_fallDue_3 : List UInt8 := dkwX1_fallDue_3 ++ dktX1_fallDue_4
def dkwX1_fallDue_2 : List UInt8 := [21, 4, 100, 181, 1, 139, 29, 21, 4, 100, 62, 44, 180, 1, 129, 29, 184, 0, 1, 54, 4, 44, 89]
abbrev dktX1_fallDue_2 : List UInt8 := dkwX1_fallDue_2 ++ dktX1_fallDue_3
def dkwX1_fallDue_1 : List UInt8 := [180, 1, 132, 4, 96, 181, 1, 132, 43, 180, 1, 139, 29, 184, 0, 1, 54, 4, 43, 89, 180, 1, 139]
abbrev dktX1_fallDue_1 : List UInt8 := dkwX1_fallDue_1 ++ dktX1_fallDue_2
def dkwX1_fallDue_0 : List UInt8 := [43, 180, 1, 65, 182, 1, 73, 192, 0, 112, 77, 43, 43, 180, 1, 132, 182, 1, 135, 62, 43, 89]
abbrev dktX1_fallDue_0 : List UInt8 := dkwX1_fallDue_0 ++ dktX1_fallDue_1
theorem dksX1_fallDue_0 : cX1_fallDue.data.toList.drop 0 = dktX1_fallDue_0 := by decide +kernel
theorem dksX1_fallDue_1 : cX1_fallDue.data.toList.drop 22 = dktX1_fallDue_1 := dk_seg dksX1_fallDue_0 22 rfl rfl
theorem dksX1_fallDue_2 : cX1_fallDue.data.toList.drop 45 = dktX1_fallDue_2 := dk_seg dksX1_fallDue_1 23 rfl rfl
theorem dksX1_fallDue_3 : cX1_fallDue.data.toList.drop 68 = dktX1_fallDue_3 := dk_seg dksX1_fallDue_2 23 rfl rfl
theorem dksX1_fallDue_4 : cX1_fallDue.data.toList.drop 91 = dktX1_fallDue_4 := dk_seg dksX1_fallDue_3 23 rfl rfl
theorem dksX1_fallDue_5 : cX1_fallDue.data.toList.drop 115 = dktX1_fallDue_5 := dk_seg dksX1_fallDue_4 24 rfl rfl
theorem dksX1_fallDue_6 : cX1_fallDue.data.toList.drop 137 = dktX1_fallDue_6 := dk_seg dksX1_fallDue_5 22 rfl rfl
theorem dksX1_fallDue_7 : cX1_fallDue.data.toList.drop 161 = dktX1_fallDue_7 := dk_seg dksX1_fallDue_6 24 rfl rfl
theorem dksX1_fallDue_8 : cX1_fallDue.data.toList.drop 185 = dktX1_fallDue_8 := dk_seg dksX1_fallDue_7 24 rfl rfl
theorem dksX1_fallDue_9 : cX1_fallDue.data.toList.drop 208 = dktX1_fallDue_9 := dk_seg dksX1_fallDue_8 23 rfl rfl
theorem dX1_fallDue_0 : decode cX1_fallDue 0 = .ok (.aload_n 1, 1) := dk_43 (dk_at dksX1_fallDue_0 0 rfl rfl)
theorem dX1_fallDue_1 : decode cX1_fallDue 1 = .ok (.getfield 321, 3) := dk_180 1 65 (dk_at dksX1_fallDue_0 1 rfl rfl)
theorem dX1_fallDue_4 : decode cX1_fallDue 4 = .ok (.invokevirtual 329, 3) := dk_182 1 73 (dk_at dksX1_fallDue_0 4 rfl rfl)
theorem dX1_fallDue_7 : decode cX1_fallDue 7 = .ok (.checkcast 112, 3) := dk_192 0 112 (dk_at dksX1_fallDue_0 7 rfl rfl)
theorem dX1_fallDue_10 : decode cX1_fallDue 10 = .ok (.astore_n 2, 1) := dk_77 (dk_at dksX1_fallDue_0 10 rfl rfl)
theorem dX1_fallDue_11 : decode cX1_fallDue 11 = .ok (.aload_n 1, 1) := dk_43 (dk_at dksX1_fallDue_0 11 rfl rfl)
theorem dX1_fallDue_12 : decode cX1_fallDue 12 = .ok (.aload_n 1, 1) := dk_43 (dk_at dksX1_fallDue_0 12 rfl rfl)
theorem dX1_fallDue_13 : decode cX1_fallDue 13 = .ok (.getfield 388, 3) := dk_180 1 132 (dk_at dksX1_fallDue_0 13 rfl rfl)
theorem dX1_fallDue_16 : decode cX1_fallDue 16 = .ok (.invokevirtual 391, 3) := dk_182 1 135 (dk_at dksX1_fallDue_0 16 rfl rfl)
theorem dX1_fallDue_19 : decode cX1_fallDue 19 = .ok (.istore_n 3, 1) := dk_62 (dk_at dksX1_fallDue_0 19 rfl rfl)
theorem dX1_fallDue_20 : decode cX1_fallDue 20 = .ok (.aload_n 1, 1) := dk_43 (dk_at dksX1_fallDue_0 20 rfl rfl)
theorem dX1_fallDue_21 : decode cX1_fallDue 21 = .ok (.dup, 1) := dk_89 (dk_at dksX1_fallDue_0 21 rfl rfl)
theorem dX1_fallDue_22 : decode cX1_fallDue 22 = .ok (.getfield 388, 3) := dk_180 1 132 (dk_at dksX1_fallDue_1 0 rfl rfl)
theorem dX1_fallDue_25 : decode cX1_fallDue 25 = .ok (.iconst 1, 1) := dk_4 (dk_at dksX1_fallDue_1 3 rfl rfl)
theorem dX1_fallDue_26 : decode cX1_fallDue 26 = .ok (.iadd, 1) := dk_96 (dk_at dksX1_fallDue_1 4 rfl rfl)
theorem dX1_fallDue_27 : decode cX1_fallDue 27 = .ok (.putfield 388, 3) := dk_181 1 132 (dk_at dksX1_fallDue_1 5 rfl rfl)
theorem dX1_fallDue_30 : decode cX1_fallDue 30 = .ok (.aload_n 1, 1) := dk_43 (dk_at dksX1_fallDue_1 8 rfl rfl)
theorem dX1_fallDue_31 : decode cX1_fallDue 31 = .ok (.getfield 395, 3) := dk_180 1 139 (dk_at dksX1_fallDue_1 9 rfl rfl)
theorem dX1_fallDue_34 : decode cX1_fallDue 34 = .ok (.iload_n 3, 1) := dk_29 (dk_at dksX1_fallDue_1 12 rfl rfl)
theorem dX1_fallDue_35 : decode cX1_fallDue 35 = .ok (.invokestatic 1, 3) := dk_184 0 1 (dk_at dksX1_fallDue_1 13 rfl rfl)
theorem dX1_fallDue_38 : decode cX1_fallDue 38 = .ok (.istore 4, 2) := dk_54 4 (dk_at dksX1_fallDue_1 16 rfl rfl)
theorem dX1_fallDue_40 : decode cX1_fallDue 40 = .ok (.aload_n 1, 1) := dk_43 (dk_at dksX1_fallDue_1 18 rfl rfl)
theorem dX1_fallDue_41 : decode cX1_fallDue 41 = .ok (.dup, 1) := dk_89 (dk_at dksX1_fallDue_1 19 rfl rfl)
theorem dX1_fallDue_42 : decode cX1_fallDue 42 = .ok (.getfield 395, 3) := dk_180 1 139 (dk_at dksX1_fallDue_1 20 rfl rfl)
theorem dX1_fallDue_45 : decode cX1_fallDue 45 = .ok (.iload 4, 2) := dk_21 4 (dk_at dksX1_fallDue_2 0 rfl rfl)
theorem dX1_fallDue_47 : decode cX1_fallDue 47 = .ok (.isub, 1) := dk_100 (dk_at dksX1_fallDue_2 2 rfl rfl)
theorem dX1_fallDue_48 : decode cX1_fallDue 48 = .ok (.putfield 395, 3) := dk_181 1 139 (dk_at dksX1_fallDue_2 3 rfl rfl)
theorem dX1_fallDue_51 : decode cX1_fallDue 51 = .ok (.iload_n 3, 1) := dk_29 (dk_at dksX1_fallDue_2 6 rfl rfl)
theorem dX1_fallDue_52 : decode cX1_fallDue 52 = .ok (.iload 4, 2) := dk_21 4 (dk_at dksX1_fallDue_2 7 rfl rfl)
theorem dX1_fallDue_54 : decode cX1_fallDue 54 = .ok (.isub, 1) := dk_100 (dk_at dksX1_fallDue_2 9 rfl rfl)
theorem dX1_fallDue_55 : decode cX1_fallDue 55 = .ok (.istore_n 3, 1) := dk_62 (dk_at dksX1_fallDue_2 10 rfl rfl)
theorem dX1_fallDue_56 : decode cX1_fallDue 56 = .ok (.aload_n 2, 1) := dk_44 (dk_at dksX1_fallDue_2 11 rfl rfl)
theorem dX1_fallDue_57 : decode cX1_fallDue 57 = .ok (.getfield 385, 3) := dk_180 1 129 (dk_at dksX1_fallDue_2 12 rfl rfl)
theorem dX1_fallDue_60 : decode cX1_fallDue 60 = .ok (.iload_n 3, 1) := dk_29 (dk_at dksX1_fallDue_2 15 rfl rfl)
theorem dX1_fallDue_61 : decode cX1_fallDue 61 = .ok (.invokestatic 1, 3) := dk_184 0 1 (dk_at dksX1_fallDue_2 16 rfl rfl)
theorem dX1_fallDue_64 : decode cX1_fallDue 64 = .ok (.istore 4, 2) := dk_54 4 (dk_at dksX1_fallDue_2 19 rfl rfl)
theorem dX1_fallDue_66 : decode cX1_fallDue 66 = .ok (.aload_n 2, 1) := dk_44 (dk_at dksX1_fallDue_2 21 rfl rfl)
theorem dX1_fallDue_67 : decode cX1_fallDue 67 = .ok (.dup, 1) := dk_89 (dk_at dksX1_fallDue_2 22 rfl rfl)
theorem dX1_fallDue_68 : decode cX1_fallDue 68 = .ok (.getfield 385, 3) := dk_180 1 129 (dk_at dksX1_fallDue_3 0 rfl rfl)
theorem dX1_fallDue_71 : decode cX1_fallDue 71 = .ok (.iload 4, 2) := dk_21 4 (dk_at dksX1_fallDue_3 3 rfl rfl)
theorem dX1_fallDue_73 : decode cX1_fallDue 73 = .ok (.isub, 1) := dk_100 (dk_at dksX1_fallDue_3 5 rfl rfl)
theorem dX1_fallDue_74 : decode cX1_fallDue 74 = .ok (.putfield 385, 3) := dk_181 1 129 (dk_at dksX1_fallDue_3 6 rfl rfl)
theorem dX1_fallDue_77 : decode cX1_fallDue 77 = .ok (.iload_n 3, 1) := dk_29 (dk_at dksX1_fallDue_3 9 rfl rfl)
theorem dX1_fallDue_78 : decode cX1_fallDue 78 = .ok (.iload 4, 2) := dk_21 4 (dk_at dksX1_fallDue_3 10 rfl rfl)
theorem dX1_fallDue_80 : decode cX1_fallDue 80 = .ok (.isub, 1) := dk_100 (dk_at dksX1_fallDue_3 12 rfl rfl)
theorem dX1_fallDue_81 : decode cX1_fallDue 81 = .ok (.istore_n 3, 1) := dk_62 (dk_at dksX1_fallDue_3 13 rfl rfl)
theorem dX1_fallDue_82 : decode cX1_fallDue 82 = .ok (.aload_n 2, 1) := dk_44 (dk_at dksX1_fallDue_3 14 rfl rfl)
theorem dX1_fallDue_83 : decode cX1_fallDue 83 = .ok (.getfield 242, 3) := dk_180 0 242 (dk_at dksX1_fallDue_3 15 rfl rfl)
theorem dX1_fallDue_86 : decode cX1_fallDue 86 = .ok (.aload_n 0, 1) := dk_42 (dk_at dksX1_fallDue_3 18 rfl rfl)
theorem dX1_fallDue_87 : decode cX1_fallDue 87 = .ok (.getfield 47, 3) := dk_180 0 47 (dk_at dksX1_fallDue_3 19 rfl rfl)
theorem dX1_fallDue_90 : decode cX1_fallDue 90 = .ok (.iload_n 3, 1) := dk_29 (dk_at dksX1_fallDue_3 22 rfl rfl)
theorem dX1_fallDue_91 : decode cX1_fallDue 91 = .ok (.invokevirtual 182, 3) := dk_182 0 182 (dk_at dksX1_fallDue_4 0 rfl rfl)
theorem dX1_fallDue_94 : decode cX1_fallDue 94 = .ok (.istore 5, 2) := dk_54 5 (dk_at dksX1_fallDue_4 3 rfl rfl)
theorem dX1_fallDue_96 : decode cX1_fallDue 96 = .ok (.aload_n 2, 1) := dk_44 (dk_at dksX1_fallDue_4 5 rfl rfl)
theorem dX1_fallDue_97 : decode cX1_fallDue 97 = .ok (.dup, 1) := dk_89 (dk_at dksX1_fallDue_4 6 rfl rfl)
theorem dX1_fallDue_98 : decode cX1_fallDue 98 = .ok (.getfield 398, 3) := dk_180 1 142 (dk_at dksX1_fallDue_4 7 rfl rfl)
theorem dX1_fallDue_101 : decode cX1_fallDue 101 = .ok (.iload 5, 2) := dk_21 5 (dk_at dksX1_fallDue_4 10 rfl rfl)
theorem dX1_fallDue_103 : decode cX1_fallDue 103 = .ok (.iadd, 1) := dk_96 (dk_at dksX1_fallDue_4 12 rfl rfl)
theorem dX1_fallDue_104 : decode cX1_fallDue 104 = .ok (.putfield 398, 3) := dk_181 1 142 (dk_at dksX1_fallDue_4 13 rfl rfl)
theorem dX1_fallDue_107 : decode cX1_fallDue 107 = .ok (.iload 5, 2) := dk_21 5 (dk_at dksX1_fallDue_4 16 rfl rfl)
theorem dX1_fallDue_109 : decode cX1_fallDue 109 = .ok (.iload_n 3, 1) := dk_29 (dk_at dksX1_fallDue_4 18 rfl rfl)
theorem dX1_fallDue_110 : decode cX1_fallDue 110 = .ok (.if_icmp .ne 4, 3) := dk_160 0 4 (dk_at dksX1_fallDue_4 19 rfl rfl)
theorem dX1_fallDue_113 : decode cX1_fallDue 113 = .ok (.return_, 1) := dk_177 (dk_at dksX1_fallDue_4 22 rfl rfl)
theorem dX1_fallDue_114 : decode cX1_fallDue 114 = .ok (.aload_n 1, 1) := dk_43 (dk_at dksX1_fallDue_4 23 rfl rfl)
theorem dX1_fallDue_115 : decode cX1_fallDue 115 = .ok (.getfield 335, 3) := dk_180 1 79 (dk_at dksX1_fallDue_5 0 rfl rfl)
theorem dX1_fallDue_118 : decode cX1_fallDue 118 = .ok (.iconst 4, 1) := dk_7 (dk_at dksX1_fallDue_5 3 rfl rfl)
theorem dX1_fallDue_119 : decode cX1_fallDue 119 = .ok (.idiv, 1) := dk_108 (dk_at dksX1_fallDue_5 4 rfl rfl)
theorem dX1_fallDue_120 : decode cX1_fallDue 120 = .ok (.iload_n 3, 1) := dk_29 (dk_at dksX1_fallDue_5 5 rfl rfl)
theorem dX1_fallDue_121 : decode cX1_fallDue 121 = .ok (.iload 5, 2) := dk_21 5 (dk_at dksX1_fallDue_5 6 rfl rfl)
theorem dX1_fallDue_123 : decode cX1_fallDue 123 = .ok (.isub, 1) := dk_100 (dk_at dksX1_fallDue_5 8 rfl rfl)
theorem dX1_fallDue_124 : decode cX1_fallDue 124 = .ok (.invokestatic 1, 3) := dk_184 0 1 (dk_at dksX1_fallDue_5 9 rfl rfl)
theorem dX1_fallDue_127 : decode cX1_fallDue 127 = .ok (.istore 6, 2) := dk_54 6 (dk_at dksX1_fallDue_5 12 rfl rfl)
theorem dX1_fallDue_129 : decode cX1_fallDue 129 = .ok (.aload_n 2, 1) := dk_44 (dk_at dksX1_fallDue_5 14 rfl rfl)
theorem dX1_fallDue_130 : decode cX1_fallDue 130 = .ok (.dup, 1) := dk_89 (dk_at dksX1_fallDue_5 15 rfl rfl)
theorem dX1_fallDue_131 : decode cX1_fallDue 131 = .ok (.getfield 401, 3) := dk_180 1 145 (dk_at dksX1_fallDue_5 16 rfl rfl)
theorem dX1_fallDue_134 : decode cX1_fallDue 134 = .ok (.iload 6, 2) := dk_21 6 (dk_at dksX1_fallDue_5 19 rfl rfl)
theorem dX1_fallDue_136 : decode cX1_fallDue 136 = .ok (.isub, 1) := dk_100 (dk_at dksX1_fallDue_5 21 rfl rfl)
theorem dX1_fallDue_137 : decode cX1_fallDue 137 = .ok (.putfield 401, 3) := dk_181 1 145 (dk_at dksX1_fallDue_6 0 rfl rfl)
theorem dX1_fallDue_140 : decode cX1_fallDue 140 = .ok (.aload_n 0, 1) := dk_42 (dk_at dksX1_fallDue_6 3 rfl rfl)
theorem dX1_fallDue_141 : decode cX1_fallDue 141 = .ok (.getfield 40, 3) := dk_180 0 40 (dk_at dksX1_fallDue_6 4 rfl rfl)
theorem dX1_fallDue_144 : decode cX1_fallDue 144 = .ok (.aload_n 0, 1) := dk_42 (dk_at dksX1_fallDue_6 7 rfl rfl)
theorem dX1_fallDue_145 : decode cX1_fallDue 145 = .ok (.getfield 47, 3) := dk_180 0 47 (dk_at dksX1_fallDue_6 8 rfl rfl)
theorem dX1_fallDue_148 : decode cX1_fallDue 148 = .ok (.iload 6, 2) := dk_21 6 (dk_at dksX1_fallDue_6 11 rfl rfl)
theorem dX1_fallDue_150 : decode cX1_fallDue 150 = .ok (.invokevirtual 182, 3) := dk_182 0 182 (dk_at dksX1_fallDue_6 13 rfl rfl)
theorem dX1_fallDue_153 : decode cX1_fallDue 153 = .ok (.pop, 1) := dk_87 (dk_at dksX1_fallDue_6 16 rfl rfl)
theorem dX1_fallDue_154 : decode cX1_fallDue 154 = .ok (.aload_n 0, 1) := dk_42 (dk_at dksX1_fallDue_6 17 rfl rfl)
theorem dX1_fallDue_155 : decode cX1_fallDue 155 = .ok (.getfield 28, 3) := dk_180 0 28 (dk_at dksX1_fallDue_6 18 rfl rfl)
theorem dX1_fallDue_158 : decode cX1_fallDue 158 = .ok (.invokevirtual 191, 3) := dk_182 0 191 (dk_at dksX1_fallDue_6 21 rfl rfl)
theorem dX1_fallDue_161 : decode cX1_fallDue 161 = .ok (.astore 7, 2) := dk_58 7 (dk_at dksX1_fallDue_7 0 rfl rfl)
theorem dX1_fallDue_163 : decode cX1_fallDue 163 = .ok (.aload 7, 2) := dk_25 7 (dk_at dksX1_fallDue_7 2 rfl rfl)
theorem dX1_fallDue_165 : decode cX1_fallDue 165 = .ok (.invokeinterface 195 1, 5) := by decide +kernel
theorem dX1_fallDue_170 : decode cX1_fallDue 170 = .ok (.ifCond .eq 46, 3) := dk_153 0 46 (dk_at dksX1_fallDue_7 9 rfl rfl)
theorem dX1_fallDue_173 : decode cX1_fallDue 173 = .ok (.aload 7, 2) := dk_25 7 (dk_at dksX1_fallDue_7 12 rfl rfl)
theorem dX1_fallDue_175 : decode cX1_fallDue 175 = .ok (.invokeinterface 201 1, 5) := by decide +kernel
theorem dX1_fallDue_180 : decode cX1_fallDue 180 = .ok (.checkcast 116, 3) := dk_192 0 116 (dk_at dksX1_fallDue_7 19 rfl rfl)
theorem dX1_fallDue_183 : decode cX1_fallDue 183 = .ok (.astore 8, 2) := dk_58 8 (dk_at dksX1_fallDue_7 22 rfl rfl)
theorem dX1_fallDue_185 : decode cX1_fallDue 185 = .ok (.aload 8, 2) := dk_25 8 (dk_at dksX1_fallDue_8 0 rfl rfl)
theorem dX1_fallDue_187 : decode cX1_fallDue 187 = .ok (.getfield 321, 3) := dk_180 1 65 (dk_at dksX1_fallDue_8 2 rfl rfl)
theorem dX1_fallDue_190 : decode cX1_fallDue 190 = .ok (.invokevirtual 404, 3) := dk_182 1 148 (dk_at dksX1_fallDue_8 5 rfl rfl)
theorem dX1_fallDue_193 : decode cX1_fallDue 193 = .ok (.ifCond .eq 20, 3) := dk_153 0 20 (dk_at dksX1_fallDue_8 8 rfl rfl)
theorem dX1_fallDue_196 : decode cX1_fallDue 196 = .ok (.aload 8, 2) := dk_25 8 (dk_at dksX1_fallDue_8 11 rfl rfl)
theorem dX1_fallDue_198 : decode cX1_fallDue 198 = .ok (.getfield 321, 3) := dk_180 1 65 (dk_at dksX1_fallDue_8 13 rfl rfl)
theorem dX1_fallDue_201 : decode cX1_fallDue 201 = .ok (.invokevirtual 329, 3) := dk_182 1 73 (dk_at dksX1_fallDue_8 16 rfl rfl)
theorem dX1_fallDue_204 : decode cX1_fallDue 204 = .ok (.aload_n 2, 1) := dk_44 (dk_at dksX1_fallDue_8 19 rfl rfl)
theorem dX1_fallDue_205 : decode cX1_fallDue 205 = .ok (.if_acmp .ne 8, 3) := dk_166 0 8 (dk_at dksX1_fallDue_8 20 rfl rfl)
theorem dX1_fallDue_208 : decode cX1_fallDue 208 = .ok (.aload 8, 2) := dk_25 8 (dk_at dksX1_fallDue_9 0 rfl rfl)
theorem dX1_fallDue_210 : decode cX1_fallDue 210 = .ok (.invokevirtual 407, 3) := dk_182 1 151 (dk_at dksX1_fallDue_9 2 rfl rfl)
theorem dX1_fallDue_213 : decode cX1_fallDue 213 = .ok (.goto (-50), 3) := dk_167 255 206 (dk_at dksX1_fallDue_9 5 rfl rfl)
theorem dX1_fallDue_216 : decode cX1_fallDue 216 = .ok (.aload_n 2, 1) := dk_44 (dk_at dksX1_fallDue_9 8 rfl rfl)
theorem dX1_fallDue_217 : decode cX1_fallDue 217 = .ok (.iconst 1, 1) := dk_4 (dk_at dksX1_fallDue_9 9 rfl rfl)
theorem dX1_fallDue_218 : decode cX1_fallDue 218 = .ok (.putfield 286, 3) := dk_181 1 30 (dk_at dksX1_fallDue_9 10 rfl rfl)
theorem dX1_fallDue_221 : decode cX1_fallDue 221 = .ok (.return_, 1) := dk_177 (dk_at dksX1_fallDue_9 13 rfl rfl)
abbrev cX1_force : ByteArray := prog_1_method_33_code
def yX1_force : MethodName := ⟨RX1, "force", "(II)I"⟩
def dkwX1_force_1 : List UInt8 := [45, 28, 181, 1, 113, 21, 4, 172]
abbrev dktX1_force_1 : List UInt8 := dkwX1_force_1 ++ []
def dkwX1_force_0 : List UInt8 := [42, 27, 182, 0, 230, 78, 28, 3, 6, 184, 0, 143, 19, 1, 111, 184, 0, 147, 45, 180, 1, 113, 54, 4]
abbrev dktX1_force_0 : List UInt8 := dkwX1_force_0 ++ dktX1_force_1
theorem dksX1_force_0 : cX1_force.data.toList.drop 0 = dktX1_force_0 := by decide +kernel
theorem dksX1_force_1 : cX1_force.data.toList.drop 24 = dktX1_force_1 := dk_seg dksX1_force_0 24 rfl rfl
theorem dX1_force_0 : decode cX1_force 0 = .ok (.aload_n 0, 1) := dk_42 (dk_at dksX1_force_0 0 rfl rfl)
theorem dX1_force_1 : decode cX1_force 1 = .ok (.iload_n 1, 1) := dk_27 (dk_at dksX1_force_0 1 rfl rfl)
theorem dX1_force_2 : decode cX1_force 2 = .ok (.invokevirtual 230, 3) := dk_182 0 230 (dk_at dksX1_force_0 2 rfl rfl)
theorem dX1_force_5 : decode cX1_force 5 = .ok (.astore_n 3, 1) := dk_78 (dk_at dksX1_force_0 5 rfl rfl)
theorem dX1_force_6 : decode cX1_force 6 = .ok (.iload_n 2, 1) := dk_28 (dk_at dksX1_force_0 6 rfl rfl)
theorem dX1_force_7 : decode cX1_force 7 = .ok (.iconst 0, 1) := dk_3 (dk_at dksX1_force_0 7 rfl rfl)
theorem dX1_force_8 : decode cX1_force 8 = .ok (.iconst 3, 1) := dk_6 (dk_at dksX1_force_0 8 rfl rfl)
theorem dX1_force_9 : decode cX1_force 9 = .ok (.invokestatic 143, 3) := dk_184 0 143 (dk_at dksX1_force_0 9 rfl rfl)
theorem dX1_force_12 : decode cX1_force 12 = .ok (.ldc_w 367, 3) := dk_19 1 111 (dk_at dksX1_force_0 12 rfl rfl)
theorem dX1_force_15 : decode cX1_force 15 = .ok (.invokestatic 147, 3) := dk_184 0 147 (dk_at dksX1_force_0 15 rfl rfl)
theorem dX1_force_18 : decode cX1_force 18 = .ok (.aload_n 3, 1) := dk_45 (dk_at dksX1_force_0 18 rfl rfl)
theorem dX1_force_19 : decode cX1_force 19 = .ok (.getfield 369, 3) := dk_180 1 113 (dk_at dksX1_force_0 19 rfl rfl)
theorem dX1_force_22 : decode cX1_force 22 = .ok (.istore 4, 2) := dk_54 4 (dk_at dksX1_force_0 22 rfl rfl)
theorem dX1_force_24 : decode cX1_force 24 = .ok (.aload_n 3, 1) := dk_45 (dk_at dksX1_force_1 0 rfl rfl)
theorem dX1_force_25 : decode cX1_force 25 = .ok (.iload_n 2, 1) := dk_28 (dk_at dksX1_force_1 1 rfl rfl)
theorem dX1_force_26 : decode cX1_force 26 = .ok (.putfield 369, 3) := dk_181 1 113 (dk_at dksX1_force_1 2 rfl rfl)
theorem dX1_force_29 : decode cX1_force 29 = .ok (.iload 4, 2) := dk_21 4 (dk_at dksX1_force_1 5 rfl rfl)
theorem dX1_force_31 : decode cX1_force 31 = .ok (.ireturn, 1) := dk_172 (dk_at dksX1_force_1 7 rfl rfl)
abbrev cX1_letOn : ByteArray := prog_1_method_34_code
def yX1_letOn : MethodName := ⟨RX1, "letOn", "(III)I"⟩
def dkwX1_letOn_3 : List UInt8 := [180, 1, 121, 28, 29, 79, 25, 4, 182, 1, 124, 172]
abbrev dktX1_letOn_3 : List UInt8 := dkwX1_letOn_3 ++ []
def dkwX1_letOn_2 : List UInt8 := [25, 4, 180, 1, 121, 28, 46, 154, 0, 7, 4, 167, 0, 4, 3, 18, 98, 184, 0, 153, 25, 4]
abbrev dktX1_letOn_2 : List UInt8 := dkwX1_letOn_2 ++ dktX1_letOn_3
def dkwX1_letOn_1 : List UInt8 := [184, 0, 147, 25, 4, 182, 1, 116, 153, 0, 29, 25, 4, 180, 1, 119, 28, 184, 0, 132, 153, 0, 17]
abbrev dktX1_letOn_1 : List UInt8 := dkwX1_letOn_1 ++ dktX1_letOn_2
def dkwX1_letOn_0 : List UInt8 := [42, 27, 182, 1, 17, 58, 4, 42, 28, 182, 0, 170, 87, 29, 4, 17, 3, 231, 184, 0, 143, 19, 1, 115]
abbrev dktX1_letOn_0 : List UInt8 := dkwX1_letOn_0 ++ dktX1_letOn_1
theorem dksX1_letOn_0 : cX1_letOn.data.toList.drop 0 = dktX1_letOn_0 := by decide +kernel
theorem dksX1_letOn_1 : cX1_letOn.data.toList.drop 24 = dktX1_letOn_1 := dk_seg dksX1_letOn_0 24 rfl rfl
theorem dksX1_letOn_2 : cX1_letOn.data.toList.drop 47 = dktX1_letOn_2 := dk_seg dksX1_letOn_1 23 rfl rfl
theorem dksX1_letOn_3 : cX1_letOn.data.toList.drop 69 = dktX1_letOn_3 := dk_seg dksX1_letOn_2 22 rfl rfl
theorem dX1_letOn_0 : decode cX1_letOn 0 = .ok (.aload_n 0, 1) := dk_42 (dk_at dksX1_letOn_0 0 rfl rfl)
theorem dX1_letOn_1 : decode cX1_letOn 1 = .ok (.iload_n 1, 1) := dk_27 (dk_at dksX1_letOn_0 1 rfl rfl)
theorem dX1_letOn_2 : decode cX1_letOn 2 = .ok (.invokevirtual 273, 3) := dk_182 1 17 (dk_at dksX1_letOn_0 2 rfl rfl)
theorem dX1_letOn_5 : decode cX1_letOn 5 = .ok (.astore 4, 2) := dk_58 4 (dk_at dksX1_letOn_0 5 rfl rfl)
theorem dX1_letOn_7 : decode cX1_letOn 7 = .ok (.aload_n 0, 1) := dk_42 (dk_at dksX1_letOn_0 7 rfl rfl)
theorem dX1_letOn_8 : decode cX1_letOn 8 = .ok (.iload_n 2, 1) := dk_28 (dk_at dksX1_letOn_0 8 rfl rfl)
theorem dX1_letOn_9 : decode cX1_letOn 9 = .ok (.invokevirtual 170, 3) := dk_182 0 170 (dk_at dksX1_letOn_0 9 rfl rfl)
theorem dX1_letOn_12 : decode cX1_letOn 12 = .ok (.pop, 1) := dk_87 (dk_at dksX1_letOn_0 12 rfl rfl)
theorem dX1_letOn_13 : decode cX1_letOn 13 = .ok (.iload_n 3, 1) := dk_29 (dk_at dksX1_letOn_0 13 rfl rfl)
theorem dX1_letOn_14 : decode cX1_letOn 14 = .ok (.iconst 1, 1) := dk_4 (dk_at dksX1_letOn_0 14 rfl rfl)
theorem dX1_letOn_15 : decode cX1_letOn 15 = .ok (.sipush 999, 3) := dk_17 3 231 (dk_at dksX1_letOn_0 15 rfl rfl)
theorem dX1_letOn_18 : decode cX1_letOn 18 = .ok (.invokestatic 143, 3) := dk_184 0 143 (dk_at dksX1_letOn_0 18 rfl rfl)
theorem dX1_letOn_21 : decode cX1_letOn 21 = .ok (.ldc_w 371, 3) := dk_19 1 115 (dk_at dksX1_letOn_0 21 rfl rfl)
theorem dX1_letOn_24 : decode cX1_letOn 24 = .ok (.invokestatic 147, 3) := dk_184 0 147 (dk_at dksX1_letOn_1 0 rfl rfl)
theorem dX1_letOn_27 : decode cX1_letOn 27 = .ok (.aload 4, 2) := dk_25 4 (dk_at dksX1_letOn_1 3 rfl rfl)
theorem dX1_letOn_29 : decode cX1_letOn 29 = .ok (.invokevirtual 372, 3) := dk_182 1 116 (dk_at dksX1_letOn_1 5 rfl rfl)
theorem dX1_letOn_32 : decode cX1_letOn 32 = .ok (.ifCond .eq 29, 3) := dk_153 0 29 (dk_at dksX1_letOn_1 8 rfl rfl)
theorem dX1_letOn_35 : decode cX1_letOn 35 = .ok (.aload 4, 2) := dk_25 4 (dk_at dksX1_letOn_1 11 rfl rfl)
theorem dX1_letOn_37 : decode cX1_letOn 37 = .ok (.getfield 375, 3) := dk_180 1 119 (dk_at dksX1_letOn_1 13 rfl rfl)
theorem dX1_letOn_40 : decode cX1_letOn 40 = .ok (.iload_n 2, 1) := dk_28 (dk_at dksX1_letOn_1 16 rfl rfl)
theorem dX1_letOn_41 : decode cX1_letOn 41 = .ok (.invokestatic 132, 3) := dk_184 0 132 (dk_at dksX1_letOn_1 17 rfl rfl)
theorem dX1_letOn_44 : decode cX1_letOn 44 = .ok (.ifCond .eq 17, 3) := dk_153 0 17 (dk_at dksX1_letOn_1 20 rfl rfl)
theorem dX1_letOn_47 : decode cX1_letOn 47 = .ok (.aload 4, 2) := dk_25 4 (dk_at dksX1_letOn_2 0 rfl rfl)
theorem dX1_letOn_49 : decode cX1_letOn 49 = .ok (.getfield 377, 3) := dk_180 1 121 (dk_at dksX1_letOn_2 2 rfl rfl)
theorem dX1_letOn_52 : decode cX1_letOn 52 = .ok (.iload_n 2, 1) := dk_28 (dk_at dksX1_letOn_2 5 rfl rfl)
theorem dX1_letOn_53 : decode cX1_letOn 53 = .ok (.iaload, 1) := dk_46 (dk_at dksX1_letOn_2 6 rfl rfl)
theorem dX1_letOn_54 : decode cX1_letOn 54 = .ok (.ifCond .ne 7, 3) := dk_154 0 7 (dk_at dksX1_letOn_2 7 rfl rfl)
theorem dX1_letOn_57 : decode cX1_letOn 57 = .ok (.iconst 1, 1) := dk_4 (dk_at dksX1_letOn_2 10 rfl rfl)
theorem dX1_letOn_58 : decode cX1_letOn 58 = .ok (.goto 4, 3) := dk_167 0 4 (dk_at dksX1_letOn_2 11 rfl rfl)
theorem dX1_letOn_61 : decode cX1_letOn 61 = .ok (.iconst 0, 1) := dk_3 (dk_at dksX1_letOn_2 14 rfl rfl)
theorem dX1_letOn_62 : decode cX1_letOn 62 = .ok (.ldc 98, 2) := dk_18 98 (dk_at dksX1_letOn_2 15 rfl rfl)
theorem dX1_letOn_64 : decode cX1_letOn 64 = .ok (.invokestatic 153, 3) := dk_184 0 153 (dk_at dksX1_letOn_2 17 rfl rfl)
theorem dX1_letOn_67 : decode cX1_letOn 67 = .ok (.aload 4, 2) := dk_25 4 (dk_at dksX1_letOn_2 20 rfl rfl)
theorem dX1_letOn_69 : decode cX1_letOn 69 = .ok (.getfield 377, 3) := dk_180 1 121 (dk_at dksX1_letOn_3 0 rfl rfl)
theorem dX1_letOn_72 : decode cX1_letOn 72 = .ok (.iload_n 2, 1) := dk_28 (dk_at dksX1_letOn_3 3 rfl rfl)
theorem dX1_letOn_73 : decode cX1_letOn 73 = .ok (.iload_n 3, 1) := dk_29 (dk_at dksX1_letOn_3 4 rfl rfl)
theorem dX1_letOn_74 : decode cX1_letOn 74 = .ok (.iastore, 1) := dk_79 (dk_at dksX1_letOn_3 5 rfl rfl)
theorem dX1_letOn_75 : decode cX1_letOn 75 = .ok (.aload 4, 2) := dk_25 4 (dk_at dksX1_letOn_3 6 rfl rfl)
theorem dX1_letOn_77 : decode cX1_letOn 77 = .ok (.invokevirtual 380, 3) := dk_182 1 124 (dk_at dksX1_letOn_3 8 rfl rfl)
theorem dX1_letOn_80 : decode cX1_letOn 80 = .ok (.ireturn, 1) := dk_172 (dk_at dksX1_letOn_3 11 rfl rfl)
abbrev cX1_deliver : ByteArray := prog_1_method_35_code
def yX1_deliver : MethodName := ⟨RX1, "deliver", "(II)I"⟩
def dkwX1_deliver_2 : List UInt8 := [182, 0, 182, 87, 45, 89, 180, 1, 129, 6, 28, 104, 96, 181, 1, 129, 45, 180, 1, 129, 172]
abbrev dktX1_deliver_2 : List UInt8 := dkwX1_deliver_2 ++ []
def dkwX1_deliver_1 : List UInt8 := [5, 28, 104, 182, 0, 250, 18, 253, 184, 0, 153, 45, 180, 0, 242, 42, 180, 0, 40, 5, 28, 104]
abbrev dktX1_deliver_1 : List UInt8 := dkwX1_deliver_1 ++ dktX1_deliver_2
def dkwX1_deliver_0 : List UInt8 := [42, 27, 182, 0, 230, 78, 28, 4, 17, 1, 244, 184, 0, 143, 19, 1, 127, 184, 0, 147, 45, 180, 0, 242]
abbrev dktX1_deliver_0 : List UInt8 := dkwX1_deliver_0 ++ dktX1_deliver_1
theorem dksX1_deliver_0 : cX1_deliver.data.toList.drop 0 = dktX1_deliver_0 := by decide +kernel
theorem dksX1_deliver_1 : cX1_deliver.data.toList.drop 24 = dktX1_deliver_1 := dk_seg dksX1_deliver_0 24 rfl rfl
theorem dksX1_deliver_2 : cX1_deliver.data.toList.drop 46 = dktX1_deliver_2 := dk_seg dksX1_deliver_1 22 rfl rfl
theorem dX1_deliver_0 : decode cX1_deliver 0 = .ok (.aload_n 0, 1) := dk_42 (dk_at dksX1_deliver_0 0 rfl rfl)
theorem dX1_deliver_1 : decode cX1_deliver 1 = .ok (.iload_n 1, 1) := dk_27 (dk_at dksX1_deliver_0 1 rfl rfl)
theorem dX1_deliver_2 : decode cX1_deliver 2 = .ok (.invokevirtual 230, 3) := dk_182 0 230 (dk_at dksX1_deliver_0 2 rfl rfl)
theorem dX1_deliver_5 : decode cX1_deliver 5 = .ok (.astore_n 3, 1) := dk_78 (dk_at dksX1_deliver_0 5 rfl rfl)
theorem dX1_deliver_6 : decode cX1_deliver 6 = .ok (.iload_n 2, 1) := dk_28 (dk_at dksX1_deliver_0 6 rfl rfl)
theorem dX1_deliver_7 : decode cX1_deliver 7 = .ok (.iconst 1, 1) := dk_4 (dk_at dksX1_deliver_0 7 rfl rfl)
theorem dX1_deliver_8 : decode cX1_deliver 8 = .ok (.sipush 500, 3) := dk_17 1 244 (dk_at dksX1_deliver_0 8 rfl rfl)
theorem dX1_deliver_11 : decode cX1_deliver 11 = .ok (.invokestatic 143, 3) := dk_184 0 143 (dk_at dksX1_deliver_0 11 rfl rfl)
theorem dX1_deliver_14 : decode cX1_deliver 14 = .ok (.ldc_w 383, 3) := dk_19 1 127 (dk_at dksX1_deliver_0 14 rfl rfl)
theorem dX1_deliver_17 : decode cX1_deliver 17 = .ok (.invokestatic 147, 3) := dk_184 0 147 (dk_at dksX1_deliver_0 17 rfl rfl)
theorem dX1_deliver_20 : decode cX1_deliver 20 = .ok (.aload_n 3, 1) := dk_45 (dk_at dksX1_deliver_0 20 rfl rfl)
theorem dX1_deliver_21 : decode cX1_deliver 21 = .ok (.getfield 242, 3) := dk_180 0 242 (dk_at dksX1_deliver_0 21 rfl rfl)
theorem dX1_deliver_24 : decode cX1_deliver 24 = .ok (.iconst 2, 1) := dk_5 (dk_at dksX1_deliver_1 0 rfl rfl)
theorem dX1_deliver_25 : decode cX1_deliver 25 = .ok (.iload_n 2, 1) := dk_28 (dk_at dksX1_deliver_1 1 rfl rfl)
theorem dX1_deliver_26 : decode cX1_deliver 26 = .ok (.imul, 1) := dk_104 (dk_at dksX1_deliver_1 2 rfl rfl)
theorem dX1_deliver_27 : decode cX1_deliver 27 = .ok (.invokevirtual 250, 3) := dk_182 0 250 (dk_at dksX1_deliver_1 3 rfl rfl)
theorem dX1_deliver_30 : decode cX1_deliver 30 = .ok (.ldc 253, 2) := dk_18 253 (dk_at dksX1_deliver_1 6 rfl rfl)
theorem dX1_deliver_32 : decode cX1_deliver 32 = .ok (.invokestatic 153, 3) := dk_184 0 153 (dk_at dksX1_deliver_1 8 rfl rfl)
theorem dX1_deliver_35 : decode cX1_deliver 35 = .ok (.aload_n 3, 1) := dk_45 (dk_at dksX1_deliver_1 11 rfl rfl)
theorem dX1_deliver_36 : decode cX1_deliver 36 = .ok (.getfield 242, 3) := dk_180 0 242 (dk_at dksX1_deliver_1 12 rfl rfl)
theorem dX1_deliver_39 : decode cX1_deliver 39 = .ok (.aload_n 0, 1) := dk_42 (dk_at dksX1_deliver_1 15 rfl rfl)
theorem dX1_deliver_40 : decode cX1_deliver 40 = .ok (.getfield 40, 3) := dk_180 0 40 (dk_at dksX1_deliver_1 16 rfl rfl)
theorem dX1_deliver_43 : decode cX1_deliver 43 = .ok (.iconst 2, 1) := dk_5 (dk_at dksX1_deliver_1 19 rfl rfl)
theorem dX1_deliver_44 : decode cX1_deliver 44 = .ok (.iload_n 2, 1) := dk_28 (dk_at dksX1_deliver_1 20 rfl rfl)
theorem dX1_deliver_45 : decode cX1_deliver 45 = .ok (.imul, 1) := dk_104 (dk_at dksX1_deliver_1 21 rfl rfl)
theorem dX1_deliver_46 : decode cX1_deliver 46 = .ok (.invokevirtual 182, 3) := dk_182 0 182 (dk_at dksX1_deliver_2 0 rfl rfl)
theorem dX1_deliver_49 : decode cX1_deliver 49 = .ok (.pop, 1) := dk_87 (dk_at dksX1_deliver_2 3 rfl rfl)
theorem dX1_deliver_50 : decode cX1_deliver 50 = .ok (.aload_n 3, 1) := dk_45 (dk_at dksX1_deliver_2 4 rfl rfl)
theorem dX1_deliver_51 : decode cX1_deliver 51 = .ok (.dup, 1) := dk_89 (dk_at dksX1_deliver_2 5 rfl rfl)
theorem dX1_deliver_52 : decode cX1_deliver 52 = .ok (.getfield 385, 3) := dk_180 1 129 (dk_at dksX1_deliver_2 6 rfl rfl)
theorem dX1_deliver_55 : decode cX1_deliver 55 = .ok (.iconst 3, 1) := dk_6 (dk_at dksX1_deliver_2 9 rfl rfl)
theorem dX1_deliver_56 : decode cX1_deliver 56 = .ok (.iload_n 2, 1) := dk_28 (dk_at dksX1_deliver_2 10 rfl rfl)
theorem dX1_deliver_57 : decode cX1_deliver 57 = .ok (.imul, 1) := dk_104 (dk_at dksX1_deliver_2 11 rfl rfl)
theorem dX1_deliver_58 : decode cX1_deliver 58 = .ok (.iadd, 1) := dk_96 (dk_at dksX1_deliver_2 12 rfl rfl)
theorem dX1_deliver_59 : decode cX1_deliver 59 = .ok (.putfield 385, 3) := dk_181 1 129 (dk_at dksX1_deliver_2 13 rfl rfl)
theorem dX1_deliver_62 : decode cX1_deliver 62 = .ok (.aload_n 3, 1) := dk_45 (dk_at dksX1_deliver_2 16 rfl rfl)
theorem dX1_deliver_63 : decode cX1_deliver 63 = .ok (.getfield 385, 3) := dk_180 1 129 (dk_at dksX1_deliver_2 17 rfl rfl)
theorem dX1_deliver_66 : decode cX1_deliver 66 = .ok (.ireturn, 1) := dk_172 (dk_at dksX1_deliver_2 20 rfl rfl)
abbrev cX1_sue : ByteArray := prog_1_method_39_code
def yX1_sue : MethodName := ⟨RX1, "sue", "(II)I"⟩
def dkwX1_sue_8 : List UInt8 := [16, 254, 182, 1, 182, 4, 172]
abbrev dktX1_sue_8 : List UInt8 := dkwX1_sue_8 ++ []
def dkwX1_sue_7 : List UInt8 := [180, 0, 242, 45, 180, 1, 197, 5, 25, 4, 25, 5, 182, 1, 170, 182, 1, 198, 104, 182, 0, 182, 87, 45]
abbrev dktX1_sue_7 : List UInt8 := dkwX1_sue_7 ++ dktX1_sue_8
def dkwX1_sue_6 : List UInt8 := [180, 1, 191, 4, 96, 181, 1, 191, 5, 172, 42, 89, 180, 1, 194, 4, 96, 181, 1, 194, 25, 6]
abbrev dktX1_sue_6 : List UInt8 := dkwX1_sue_6 ++ dktX1_sue_7
def dkwX1_sue_5 : List UInt8 := [182, 1, 73, 192, 0, 112, 58, 6, 42, 180, 0, 53, 25, 6, 16, 50, 182, 1, 187, 153, 0, 15, 42, 89]
abbrev dktX1_sue_5 : List UInt8 := dkwX1_sue_5 ++ dktX1_sue_6
def dkwX1_sue_4 : List UInt8 := [182, 1, 182, 3, 172, 42, 180, 0, 28, 25, 5, 180, 1, 185, 182, 0, 104, 192, 0, 116, 180, 1, 65]
abbrev dktX1_sue_4 : List UInt8 := dkwX1_sue_4 ++ dktX1_sue_5
def dkwX1_sue_3 : List UInt8 := [180, 0, 68, 184, 1, 175, 7, 162, 0, 20, 42, 89, 180, 1, 179, 4, 96, 181, 1, 179, 45, 4]
abbrev dktX1_sue_3 : List UInt8 := dkwX1_sue_3 ++ dktX1_sue_4
def dkwX1_sue_2 : List UInt8 := [192, 1, 154, 58, 5, 25, 5, 4, 181, 1, 158, 25, 5, 182, 1, 170, 25, 5, 180, 1, 173, 42]
abbrev dktX1_sue_2 : List UInt8 := dkwX1_sue_2 ++ dktX1_sue_3
def dkwX1_sue_1 : List UInt8 := [182, 1, 164, 19, 1, 168, 184, 0, 153, 45, 180, 1, 161, 28, 182, 0, 104, 192, 1, 50, 182, 1, 73]
abbrev dktX1_sue_1 : List UInt8 := dkwX1_sue_1 ++ dktX1_sue_2
def dkwX1_sue_0 : List UInt8 := [42, 27, 182, 0, 170, 78, 28, 184, 0, 213, 58, 4, 42, 45, 180, 1, 161, 28, 182, 0, 104, 192, 1, 50]
abbrev dktX1_sue_0 : List UInt8 := dkwX1_sue_0 ++ dktX1_sue_1
theorem dksX1_sue_0 : cX1_sue.data.toList.drop 0 = dktX1_sue_0 := by decide +kernel
theorem dksX1_sue_1 : cX1_sue.data.toList.drop 24 = dktX1_sue_1 := dk_seg dksX1_sue_0 24 rfl rfl
theorem dksX1_sue_2 : cX1_sue.data.toList.drop 47 = dktX1_sue_2 := dk_seg dksX1_sue_1 23 rfl rfl
theorem dksX1_sue_3 : cX1_sue.data.toList.drop 69 = dktX1_sue_3 := dk_seg dksX1_sue_2 22 rfl rfl
theorem dksX1_sue_4 : cX1_sue.data.toList.drop 91 = dktX1_sue_4 := dk_seg dksX1_sue_3 22 rfl rfl
theorem dksX1_sue_5 : cX1_sue.data.toList.drop 114 = dktX1_sue_5 := dk_seg dksX1_sue_4 23 rfl rfl
theorem dksX1_sue_6 : cX1_sue.data.toList.drop 138 = dktX1_sue_6 := dk_seg dksX1_sue_5 24 rfl rfl
theorem dksX1_sue_7 : cX1_sue.data.toList.drop 160 = dktX1_sue_7 := dk_seg dksX1_sue_6 22 rfl rfl
theorem dksX1_sue_8 : cX1_sue.data.toList.drop 184 = dktX1_sue_8 := dk_seg dksX1_sue_7 24 rfl rfl
theorem dX1_sue_0 : decode cX1_sue 0 = .ok (.aload_n 0, 1) := dk_42 (dk_at dksX1_sue_0 0 rfl rfl)
theorem dX1_sue_1 : decode cX1_sue 1 = .ok (.iload_n 1, 1) := dk_27 (dk_at dksX1_sue_0 1 rfl rfl)
theorem dX1_sue_2 : decode cX1_sue 2 = .ok (.invokevirtual 170, 3) := dk_182 0 170 (dk_at dksX1_sue_0 2 rfl rfl)
theorem dX1_sue_5 : decode cX1_sue 5 = .ok (.astore_n 3, 1) := dk_78 (dk_at dksX1_sue_0 5 rfl rfl)
theorem dX1_sue_6 : decode cX1_sue 6 = .ok (.iload_n 2, 1) := dk_28 (dk_at dksX1_sue_0 6 rfl rfl)
theorem dX1_sue_7 : decode cX1_sue 7 = .ok (.invokestatic 213, 3) := dk_184 0 213 (dk_at dksX1_sue_0 7 rfl rfl)
theorem dX1_sue_10 : decode cX1_sue 10 = .ok (.astore 4, 2) := dk_58 4 (dk_at dksX1_sue_0 10 rfl rfl)
theorem dX1_sue_12 : decode cX1_sue 12 = .ok (.aload_n 0, 1) := dk_42 (dk_at dksX1_sue_0 12 rfl rfl)
theorem dX1_sue_13 : decode cX1_sue 13 = .ok (.aload_n 3, 1) := dk_45 (dk_at dksX1_sue_0 13 rfl rfl)
theorem dX1_sue_14 : decode cX1_sue 14 = .ok (.getfield 417, 3) := dk_180 1 161 (dk_at dksX1_sue_0 14 rfl rfl)
theorem dX1_sue_17 : decode cX1_sue 17 = .ok (.iload_n 2, 1) := dk_28 (dk_at dksX1_sue_0 17 rfl rfl)
theorem dX1_sue_18 : decode cX1_sue 18 = .ok (.invokevirtual 104, 3) := dk_182 0 104 (dk_at dksX1_sue_0 18 rfl rfl)
theorem dX1_sue_21 : decode cX1_sue 21 = .ok (.checkcast 306, 3) := dk_192 1 50 (dk_at dksX1_sue_0 21 rfl rfl)
theorem dX1_sue_24 : decode cX1_sue 24 = .ok (.invokevirtual 420, 3) := dk_182 1 164 (dk_at dksX1_sue_1 0 rfl rfl)
theorem dX1_sue_27 : decode cX1_sue 27 = .ok (.ldc_w 424, 3) := dk_19 1 168 (dk_at dksX1_sue_1 3 rfl rfl)
theorem dX1_sue_30 : decode cX1_sue 30 = .ok (.invokestatic 153, 3) := dk_184 0 153 (dk_at dksX1_sue_1 6 rfl rfl)
theorem dX1_sue_33 : decode cX1_sue 33 = .ok (.aload_n 3, 1) := dk_45 (dk_at dksX1_sue_1 9 rfl rfl)
theorem dX1_sue_34 : decode cX1_sue 34 = .ok (.getfield 417, 3) := dk_180 1 161 (dk_at dksX1_sue_1 10 rfl rfl)
theorem dX1_sue_37 : decode cX1_sue 37 = .ok (.iload_n 2, 1) := dk_28 (dk_at dksX1_sue_1 13 rfl rfl)
theorem dX1_sue_38 : decode cX1_sue 38 = .ok (.invokevirtual 104, 3) := dk_182 0 104 (dk_at dksX1_sue_1 14 rfl rfl)
theorem dX1_sue_41 : decode cX1_sue 41 = .ok (.checkcast 306, 3) := dk_192 1 50 (dk_at dksX1_sue_1 17 rfl rfl)
theorem dX1_sue_44 : decode cX1_sue 44 = .ok (.invokevirtual 329, 3) := dk_182 1 73 (dk_at dksX1_sue_1 20 rfl rfl)
theorem dX1_sue_47 : decode cX1_sue 47 = .ok (.checkcast 410, 3) := dk_192 1 154 (dk_at dksX1_sue_2 0 rfl rfl)
theorem dX1_sue_50 : decode cX1_sue 50 = .ok (.astore 5, 2) := dk_58 5 (dk_at dksX1_sue_2 3 rfl rfl)
theorem dX1_sue_52 : decode cX1_sue 52 = .ok (.aload 5, 2) := dk_25 5 (dk_at dksX1_sue_2 5 rfl rfl)
theorem dX1_sue_54 : decode cX1_sue 54 = .ok (.iconst 1, 1) := dk_4 (dk_at dksX1_sue_2 7 rfl rfl)
theorem dX1_sue_55 : decode cX1_sue 55 = .ok (.putfield 414, 3) := dk_181 1 158 (dk_at dksX1_sue_2 8 rfl rfl)
theorem dX1_sue_58 : decode cX1_sue 58 = .ok (.aload 5, 2) := dk_25 5 (dk_at dksX1_sue_2 11 rfl rfl)
theorem dX1_sue_60 : decode cX1_sue 60 = .ok (.invokevirtual 426, 3) := dk_182 1 170 (dk_at dksX1_sue_2 13 rfl rfl)
theorem dX1_sue_63 : decode cX1_sue 63 = .ok (.aload 5, 2) := dk_25 5 (dk_at dksX1_sue_2 16 rfl rfl)
theorem dX1_sue_65 : decode cX1_sue 65 = .ok (.getfield 429, 3) := dk_180 1 173 (dk_at dksX1_sue_2 18 rfl rfl)
theorem dX1_sue_68 : decode cX1_sue 68 = .ok (.aload_n 0, 1) := dk_42 (dk_at dksX1_sue_2 21 rfl rfl)
theorem dX1_sue_69 : decode cX1_sue 69 = .ok (.getfield 68, 3) := dk_180 0 68 (dk_at dksX1_sue_3 0 rfl rfl)
theorem dX1_sue_72 : decode cX1_sue 72 = .ok (.invokestatic 431, 3) := dk_184 1 175 (dk_at dksX1_sue_3 3 rfl rfl)
theorem dX1_sue_75 : decode cX1_sue 75 = .ok (.iconst 4, 1) := dk_7 (dk_at dksX1_sue_3 6 rfl rfl)
theorem dX1_sue_76 : decode cX1_sue 76 = .ok (.if_icmp .ge 20, 3) := dk_162 0 20 (dk_at dksX1_sue_3 7 rfl rfl)
theorem dX1_sue_79 : decode cX1_sue 79 = .ok (.aload_n 0, 1) := dk_42 (dk_at dksX1_sue_3 10 rfl rfl)
theorem dX1_sue_80 : decode cX1_sue 80 = .ok (.dup, 1) := dk_89 (dk_at dksX1_sue_3 11 rfl rfl)
theorem dX1_sue_81 : decode cX1_sue 81 = .ok (.getfield 435, 3) := dk_180 1 179 (dk_at dksX1_sue_3 12 rfl rfl)
theorem dX1_sue_84 : decode cX1_sue 84 = .ok (.iconst 1, 1) := dk_4 (dk_at dksX1_sue_3 15 rfl rfl)
theorem dX1_sue_85 : decode cX1_sue 85 = .ok (.iadd, 1) := dk_96 (dk_at dksX1_sue_3 16 rfl rfl)
theorem dX1_sue_86 : decode cX1_sue 86 = .ok (.putfield 435, 3) := dk_181 1 179 (dk_at dksX1_sue_3 17 rfl rfl)
theorem dX1_sue_89 : decode cX1_sue 89 = .ok (.aload_n 3, 1) := dk_45 (dk_at dksX1_sue_3 20 rfl rfl)
theorem dX1_sue_90 : decode cX1_sue 90 = .ok (.iconst 1, 1) := dk_4 (dk_at dksX1_sue_3 21 rfl rfl)
theorem dX1_sue_91 : decode cX1_sue 91 = .ok (.invokevirtual 438, 3) := dk_182 1 182 (dk_at dksX1_sue_4 0 rfl rfl)
theorem dX1_sue_94 : decode cX1_sue 94 = .ok (.iconst 0, 1) := dk_3 (dk_at dksX1_sue_4 3 rfl rfl)
theorem dX1_sue_95 : decode cX1_sue 95 = .ok (.ireturn, 1) := dk_172 (dk_at dksX1_sue_4 4 rfl rfl)
theorem dX1_sue_96 : decode cX1_sue 96 = .ok (.aload_n 0, 1) := dk_42 (dk_at dksX1_sue_4 5 rfl rfl)
theorem dX1_sue_97 : decode cX1_sue 97 = .ok (.getfield 28, 3) := dk_180 0 28 (dk_at dksX1_sue_4 6 rfl rfl)
theorem dX1_sue_100 : decode cX1_sue 100 = .ok (.aload 5, 2) := dk_25 5 (dk_at dksX1_sue_4 9 rfl rfl)
theorem dX1_sue_102 : decode cX1_sue 102 = .ok (.getfield 441, 3) := dk_180 1 185 (dk_at dksX1_sue_4 11 rfl rfl)
theorem dX1_sue_105 : decode cX1_sue 105 = .ok (.invokevirtual 104, 3) := dk_182 0 104 (dk_at dksX1_sue_4 14 rfl rfl)
theorem dX1_sue_108 : decode cX1_sue 108 = .ok (.checkcast 116, 3) := dk_192 0 116 (dk_at dksX1_sue_4 17 rfl rfl)
theorem dX1_sue_111 : decode cX1_sue 111 = .ok (.getfield 321, 3) := dk_180 1 65 (dk_at dksX1_sue_4 20 rfl rfl)
theorem dX1_sue_114 : decode cX1_sue 114 = .ok (.invokevirtual 329, 3) := dk_182 1 73 (dk_at dksX1_sue_5 0 rfl rfl)
theorem dX1_sue_117 : decode cX1_sue 117 = .ok (.checkcast 112, 3) := dk_192 0 112 (dk_at dksX1_sue_5 3 rfl rfl)
theorem dX1_sue_120 : decode cX1_sue 120 = .ok (.astore 6, 2) := dk_58 6 (dk_at dksX1_sue_5 6 rfl rfl)
theorem dX1_sue_122 : decode cX1_sue 122 = .ok (.aload_n 0, 1) := dk_42 (dk_at dksX1_sue_5 8 rfl rfl)
theorem dX1_sue_123 : decode cX1_sue 123 = .ok (.getfield 53, 3) := dk_180 0 53 (dk_at dksX1_sue_5 9 rfl rfl)
theorem dX1_sue_126 : decode cX1_sue 126 = .ok (.aload 6, 2) := dk_25 6 (dk_at dksX1_sue_5 12 rfl rfl)
theorem dX1_sue_128 : decode cX1_sue 128 = .ok (.bipush 50, 2) := dk_16 50 (dk_at dksX1_sue_5 14 rfl rfl)
theorem dX1_sue_130 : decode cX1_sue 130 = .ok (.invokevirtual 443, 3) := dk_182 1 187 (dk_at dksX1_sue_5 16 rfl rfl)
theorem dX1_sue_133 : decode cX1_sue 133 = .ok (.ifCond .eq 15, 3) := dk_153 0 15 (dk_at dksX1_sue_5 19 rfl rfl)
theorem dX1_sue_136 : decode cX1_sue 136 = .ok (.aload_n 0, 1) := dk_42 (dk_at dksX1_sue_5 22 rfl rfl)
theorem dX1_sue_137 : decode cX1_sue 137 = .ok (.dup, 1) := dk_89 (dk_at dksX1_sue_5 23 rfl rfl)
theorem dX1_sue_138 : decode cX1_sue 138 = .ok (.getfield 447, 3) := dk_180 1 191 (dk_at dksX1_sue_6 0 rfl rfl)
theorem dX1_sue_141 : decode cX1_sue 141 = .ok (.iconst 1, 1) := dk_4 (dk_at dksX1_sue_6 3 rfl rfl)
theorem dX1_sue_142 : decode cX1_sue 142 = .ok (.iadd, 1) := dk_96 (dk_at dksX1_sue_6 4 rfl rfl)
theorem dX1_sue_143 : decode cX1_sue 143 = .ok (.putfield 447, 3) := dk_181 1 191 (dk_at dksX1_sue_6 5 rfl rfl)
theorem dX1_sue_146 : decode cX1_sue 146 = .ok (.iconst 2, 1) := dk_5 (dk_at dksX1_sue_6 8 rfl rfl)
theorem dX1_sue_147 : decode cX1_sue 147 = .ok (.ireturn, 1) := dk_172 (dk_at dksX1_sue_6 9 rfl rfl)
theorem dX1_sue_148 : decode cX1_sue 148 = .ok (.aload_n 0, 1) := dk_42 (dk_at dksX1_sue_6 10 rfl rfl)
theorem dX1_sue_149 : decode cX1_sue 149 = .ok (.dup, 1) := dk_89 (dk_at dksX1_sue_6 11 rfl rfl)
theorem dX1_sue_150 : decode cX1_sue 150 = .ok (.getfield 450, 3) := dk_180 1 194 (dk_at dksX1_sue_6 12 rfl rfl)
theorem dX1_sue_153 : decode cX1_sue 153 = .ok (.iconst 1, 1) := dk_4 (dk_at dksX1_sue_6 15 rfl rfl)
theorem dX1_sue_154 : decode cX1_sue 154 = .ok (.iadd, 1) := dk_96 (dk_at dksX1_sue_6 16 rfl rfl)
theorem dX1_sue_155 : decode cX1_sue 155 = .ok (.putfield 450, 3) := dk_181 1 194 (dk_at dksX1_sue_6 17 rfl rfl)
theorem dX1_sue_158 : decode cX1_sue 158 = .ok (.aload 6, 2) := dk_25 6 (dk_at dksX1_sue_6 20 rfl rfl)
theorem dX1_sue_160 : decode cX1_sue 160 = .ok (.getfield 242, 3) := dk_180 0 242 (dk_at dksX1_sue_7 0 rfl rfl)
theorem dX1_sue_163 : decode cX1_sue 163 = .ok (.aload_n 3, 1) := dk_45 (dk_at dksX1_sue_7 3 rfl rfl)
theorem dX1_sue_164 : decode cX1_sue 164 = .ok (.getfield 453, 3) := dk_180 1 197 (dk_at dksX1_sue_7 4 rfl rfl)
theorem dX1_sue_167 : decode cX1_sue 167 = .ok (.iconst 2, 1) := dk_5 (dk_at dksX1_sue_7 7 rfl rfl)
theorem dX1_sue_168 : decode cX1_sue 168 = .ok (.aload 4, 2) := dk_25 4 (dk_at dksX1_sue_7 8 rfl rfl)
theorem dX1_sue_170 : decode cX1_sue 170 = .ok (.aload 5, 2) := dk_25 5 (dk_at dksX1_sue_7 10 rfl rfl)
theorem dX1_sue_172 : decode cX1_sue 172 = .ok (.invokevirtual 426, 3) := dk_182 1 170 (dk_at dksX1_sue_7 12 rfl rfl)
theorem dX1_sue_175 : decode cX1_sue 175 = .ok (.invokevirtual 454, 3) := dk_182 1 198 (dk_at dksX1_sue_7 15 rfl rfl)
theorem dX1_sue_178 : decode cX1_sue 178 = .ok (.imul, 1) := dk_104 (dk_at dksX1_sue_7 18 rfl rfl)
theorem dX1_sue_179 : decode cX1_sue 179 = .ok (.invokevirtual 182, 3) := dk_182 0 182 (dk_at dksX1_sue_7 19 rfl rfl)
theorem dX1_sue_182 : decode cX1_sue 182 = .ok (.pop, 1) := dk_87 (dk_at dksX1_sue_7 22 rfl rfl)
theorem dX1_sue_183 : decode cX1_sue 183 = .ok (.aload_n 3, 1) := dk_45 (dk_at dksX1_sue_7 23 rfl rfl)
theorem dX1_sue_184 : decode cX1_sue 184 = .ok (.bipush (-2), 2) := dk_16 254 (dk_at dksX1_sue_8 0 rfl rfl)
theorem dX1_sue_186 : decode cX1_sue 186 = .ok (.invokevirtual 438, 3) := dk_182 1 182 (dk_at dksX1_sue_8 2 rfl rfl)
theorem dX1_sue_189 : decode cX1_sue 189 = .ok (.iconst 1, 1) := dk_4 (dk_at dksX1_sue_8 5 rfl rfl)
theorem dX1_sue_190 : decode cX1_sue 190 = .ok (.ireturn, 1) := dk_172 (dk_at dksX1_sue_8 6 rfl rfl)
abbrev cX1_isSuable : ByteArray := prog_1_method_38_code
def yX1_isSuable : MethodName := ⟨RX1, "isSuable", "(Ljava/util/Optional;)Z"⟩
def dkwX1_isSuable_1 : List UInt8 := [43, 182, 1, 73, 192, 1, 154, 180, 1, 158, 154, 0, 7, 4, 167, 0, 4, 3, 172]
abbrev dktX1_isSuable_1 : List UInt8 := dkwX1_isSuable_1 ++ []
def dkwX1_isSuable_0 : List UInt8 := [43, 182, 1, 148, 153, 0, 37, 43, 182, 1, 73, 192, 1, 154, 180, 1, 156, 42, 182, 1, 90, 160, 0, 20]
abbrev dktX1_isSuable_0 : List UInt8 := dkwX1_isSuable_0 ++ dktX1_isSuable_1
theorem dksX1_isSuable_0 : cX1_isSuable.data.toList.drop 0 = dktX1_isSuable_0 := by decide +kernel
theorem dksX1_isSuable_1 : cX1_isSuable.data.toList.drop 24 = dktX1_isSuable_1 := dk_seg dksX1_isSuable_0 24 rfl rfl
theorem dX1_isSuable_0 : decode cX1_isSuable 0 = .ok (.aload_n 1, 1) := dk_43 (dk_at dksX1_isSuable_0 0 rfl rfl)
theorem dX1_isSuable_1 : decode cX1_isSuable 1 = .ok (.invokevirtual 404, 3) := dk_182 1 148 (dk_at dksX1_isSuable_0 1 rfl rfl)
theorem dX1_isSuable_4 : decode cX1_isSuable 4 = .ok (.ifCond .eq 37, 3) := dk_153 0 37 (dk_at dksX1_isSuable_0 4 rfl rfl)
theorem dX1_isSuable_7 : decode cX1_isSuable 7 = .ok (.aload_n 1, 1) := dk_43 (dk_at dksX1_isSuable_0 7 rfl rfl)
theorem dX1_isSuable_8 : decode cX1_isSuable 8 = .ok (.invokevirtual 329, 3) := dk_182 1 73 (dk_at dksX1_isSuable_0 8 rfl rfl)
theorem dX1_isSuable_11 : decode cX1_isSuable 11 = .ok (.checkcast 410, 3) := dk_192 1 154 (dk_at dksX1_isSuable_0 11 rfl rfl)
theorem dX1_isSuable_14 : decode cX1_isSuable 14 = .ok (.getfield 412, 3) := dk_180 1 156 (dk_at dksX1_isSuable_0 14 rfl rfl)
theorem dX1_isSuable_17 : decode cX1_isSuable 17 = .ok (.aload_n 0, 1) := dk_42 (dk_at dksX1_isSuable_0 17 rfl rfl)
theorem dX1_isSuable_18 : decode cX1_isSuable 18 = .ok (.invokevirtual 346, 3) := dk_182 1 90 (dk_at dksX1_isSuable_0 18 rfl rfl)
theorem dX1_isSuable_21 : decode cX1_isSuable 21 = .ok (.if_icmp .ne 20, 3) := dk_160 0 20 (dk_at dksX1_isSuable_0 21 rfl rfl)
theorem dX1_isSuable_24 : decode cX1_isSuable 24 = .ok (.aload_n 1, 1) := dk_43 (dk_at dksX1_isSuable_1 0 rfl rfl)
theorem dX1_isSuable_25 : decode cX1_isSuable 25 = .ok (.invokevirtual 329, 3) := dk_182 1 73 (dk_at dksX1_isSuable_1 1 rfl rfl)
theorem dX1_isSuable_28 : decode cX1_isSuable 28 = .ok (.checkcast 410, 3) := dk_192 1 154 (dk_at dksX1_isSuable_1 4 rfl rfl)
theorem dX1_isSuable_31 : decode cX1_isSuable 31 = .ok (.getfield 414, 3) := dk_180 1 158 (dk_at dksX1_isSuable_1 7 rfl rfl)
theorem dX1_isSuable_34 : decode cX1_isSuable 34 = .ok (.ifCond .ne 7, 3) := dk_154 0 7 (dk_at dksX1_isSuable_1 10 rfl rfl)
theorem dX1_isSuable_37 : decode cX1_isSuable 37 = .ok (.iconst 1, 1) := dk_4 (dk_at dksX1_isSuable_1 13 rfl rfl)
theorem dX1_isSuable_38 : decode cX1_isSuable 38 = .ok (.goto 4, 3) := dk_167 0 4 (dk_at dksX1_isSuable_1 14 rfl rfl)
theorem dX1_isSuable_41 : decode cX1_isSuable 41 = .ok (.iconst 0, 1) := dk_3 (dk_at dksX1_isSuable_1 17 rfl rfl)
theorem dX1_isSuable_42 : decode cX1_isSuable 42 = .ok (.ireturn, 1) := dk_172 (dk_at dksX1_isSuable_1 18 rfl rfl)
abbrev cX1_votes : ByteArray := prog_1_method_37_code
def yX1_votes : MethodName := ⟨RX1, "votes", "(III)I"⟩
def dkwX1_votes_1 : List UInt8 := [96, 172]
abbrev dktX1_votes_1 : List UInt8 := dkwX1_votes_1 ++ []
def dkwX1_votes_0 : List UInt8 := [26, 158, 0, 10, 16, 7, 28, 100, 167, 0, 4, 3, 26, 27, 5, 108, 164, 0, 7, 28, 167, 0, 4, 3]
abbrev dktX1_votes_0 : List UInt8 := dkwX1_votes_0 ++ dktX1_votes_1
theorem dksX1_votes_0 : cX1_votes.data.toList.drop 0 = dktX1_votes_0 := by decide +kernel
theorem dksX1_votes_1 : cX1_votes.data.toList.drop 24 = dktX1_votes_1 := dk_seg dksX1_votes_0 24 rfl rfl
theorem dX1_votes_0 : decode cX1_votes 0 = .ok (.iload_n 0, 1) := dk_26 (dk_at dksX1_votes_0 0 rfl rfl)
theorem dX1_votes_1 : decode cX1_votes 1 = .ok (.ifCond .le 10, 3) := dk_158 0 10 (dk_at dksX1_votes_0 1 rfl rfl)
theorem dX1_votes_4 : decode cX1_votes 4 = .ok (.bipush 7, 2) := dk_16 7 (dk_at dksX1_votes_0 4 rfl rfl)
theorem dX1_votes_6 : decode cX1_votes 6 = .ok (.iload_n 2, 1) := dk_28 (dk_at dksX1_votes_0 6 rfl rfl)
theorem dX1_votes_7 : decode cX1_votes 7 = .ok (.isub, 1) := dk_100 (dk_at dksX1_votes_0 7 rfl rfl)
theorem dX1_votes_8 : decode cX1_votes 8 = .ok (.goto 4, 3) := dk_167 0 4 (dk_at dksX1_votes_0 8 rfl rfl)
theorem dX1_votes_11 : decode cX1_votes 11 = .ok (.iconst 0, 1) := dk_3 (dk_at dksX1_votes_0 11 rfl rfl)
theorem dX1_votes_12 : decode cX1_votes 12 = .ok (.iload_n 0, 1) := dk_26 (dk_at dksX1_votes_0 12 rfl rfl)
theorem dX1_votes_13 : decode cX1_votes 13 = .ok (.iload_n 1, 1) := dk_27 (dk_at dksX1_votes_0 13 rfl rfl)
theorem dX1_votes_14 : decode cX1_votes 14 = .ok (.iconst 2, 1) := dk_5 (dk_at dksX1_votes_0 14 rfl rfl)
theorem dX1_votes_15 : decode cX1_votes 15 = .ok (.idiv, 1) := dk_108 (dk_at dksX1_votes_0 15 rfl rfl)
theorem dX1_votes_16 : decode cX1_votes 16 = .ok (.if_icmp .le 7, 3) := dk_164 0 7 (dk_at dksX1_votes_0 16 rfl rfl)
theorem dX1_votes_19 : decode cX1_votes 19 = .ok (.iload_n 2, 1) := dk_28 (dk_at dksX1_votes_0 19 rfl rfl)
theorem dX1_votes_20 : decode cX1_votes 20 = .ok (.goto 4, 3) := dk_167 0 4 (dk_at dksX1_votes_0 20 rfl rfl)
theorem dX1_votes_23 : decode cX1_votes 23 = .ok (.iconst 0, 1) := dk_3 (dk_at dksX1_votes_0 23 rfl rfl)
theorem dX1_votes_24 : decode cX1_votes 24 = .ok (.iadd, 1) := dk_96 (dk_at dksX1_votes_1 0 rfl rfl)
theorem dX1_votes_25 : decode cX1_votes 25 = .ok (.ireturn, 1) := dk_172 (dk_at dksX1_votes_1 1 rfl rfl)
abbrev cX1_bench : ByteArray := prog_1_method_40_code
def yX1_bench : MethodName := ⟨RX1, "bench", "(I)I"⟩
def dkwX1_bench_1 : List UInt8 := [172]
abbrev dktX1_bench_1 : List UInt8 := dkwX1_bench_1 ++ []
def dkwX1_bench_0 : List UInt8 := [27, 3, 16, 7, 184, 0, 143, 19, 1, 201, 184, 0, 147, 42, 180, 0, 68, 61, 42, 27, 181, 0, 68, 28]
abbrev dktX1_bench_0 : List UInt8 := dkwX1_bench_0 ++ dktX1_bench_1
theorem dksX1_bench_0 : cX1_bench.data.toList.drop 0 = dktX1_bench_0 := by decide +kernel
theorem dksX1_bench_1 : cX1_bench.data.toList.drop 24 = dktX1_bench_1 := dk_seg dksX1_bench_0 24 rfl rfl
theorem dX1_bench_0 : decode cX1_bench 0 = .ok (.iload_n 1, 1) := dk_27 (dk_at dksX1_bench_0 0 rfl rfl)
theorem dX1_bench_1 : decode cX1_bench 1 = .ok (.iconst 0, 1) := dk_3 (dk_at dksX1_bench_0 1 rfl rfl)
theorem dX1_bench_2 : decode cX1_bench 2 = .ok (.bipush 7, 2) := dk_16 7 (dk_at dksX1_bench_0 2 rfl rfl)
theorem dX1_bench_4 : decode cX1_bench 4 = .ok (.invokestatic 143, 3) := dk_184 0 143 (dk_at dksX1_bench_0 4 rfl rfl)
theorem dX1_bench_7 : decode cX1_bench 7 = .ok (.ldc_w 457, 3) := dk_19 1 201 (dk_at dksX1_bench_0 7 rfl rfl)
theorem dX1_bench_10 : decode cX1_bench 10 = .ok (.invokestatic 147, 3) := dk_184 0 147 (dk_at dksX1_bench_0 10 rfl rfl)
theorem dX1_bench_13 : decode cX1_bench 13 = .ok (.aload_n 0, 1) := dk_42 (dk_at dksX1_bench_0 13 rfl rfl)
theorem dX1_bench_14 : decode cX1_bench 14 = .ok (.getfield 68, 3) := dk_180 0 68 (dk_at dksX1_bench_0 14 rfl rfl)
theorem dX1_bench_17 : decode cX1_bench 17 = .ok (.istore_n 2, 1) := dk_61 (dk_at dksX1_bench_0 17 rfl rfl)
theorem dX1_bench_18 : decode cX1_bench 18 = .ok (.aload_n 0, 1) := dk_42 (dk_at dksX1_bench_0 18 rfl rfl)
theorem dX1_bench_19 : decode cX1_bench 19 = .ok (.iload_n 1, 1) := dk_27 (dk_at dksX1_bench_0 19 rfl rfl)
theorem dX1_bench_20 : decode cX1_bench 20 = .ok (.putfield 68, 3) := dk_181 0 68 (dk_at dksX1_bench_0 20 rfl rfl)
theorem dX1_bench_23 : decode cX1_bench 23 = .ok (.iload_n 2, 1) := dk_28 (dk_at dksX1_bench_0 23 rfl rfl)
theorem dX1_bench_24 : decode cX1_bench 24 = .ok (.ireturn, 1) := dk_172 (dk_at dksX1_bench_1 0 rfl rfl)
abbrev cX1_gift : ByteArray := prog_1_method_41_code
def yX1_gift : MethodName := ⟨RX1, "gift", "(II)I"⟩
def dkwX1_gift_2 : List UInt8 := [45, 89, 180, 1, 204, 28, 96, 181, 1, 204, 45, 180, 1, 204, 172]
abbrev dktX1_gift_2 : List UInt8 := dkwX1_gift_2 ++ []
def dkwX1_gift_1 : List UInt8 := [182, 0, 250, 18, 253, 184, 0, 153, 45, 180, 0, 242, 42, 180, 0, 53, 180, 1, 203, 28, 182, 0, 182, 87]
abbrev dktX1_gift_1 : List UInt8 := dkwX1_gift_1 ++ dktX1_gift_2
def dkwX1_gift_0 : List UInt8 := [42, 27, 182, 0, 230, 78, 28, 4, 17, 1, 244, 184, 0, 143, 18, 245, 184, 0, 147, 45, 180, 0, 242, 28]
abbrev dktX1_gift_0 : List UInt8 := dkwX1_gift_0 ++ dktX1_gift_1
theorem dksX1_gift_0 : cX1_gift.data.toList.drop 0 = dktX1_gift_0 := by decide +kernel
theorem dksX1_gift_1 : cX1_gift.data.toList.drop 24 = dktX1_gift_1 := dk_seg dksX1_gift_0 24 rfl rfl
theorem dksX1_gift_2 : cX1_gift.data.toList.drop 48 = dktX1_gift_2 := dk_seg dksX1_gift_1 24 rfl rfl
theorem dX1_gift_0 : decode cX1_gift 0 = .ok (.aload_n 0, 1) := dk_42 (dk_at dksX1_gift_0 0 rfl rfl)
theorem dX1_gift_1 : decode cX1_gift 1 = .ok (.iload_n 1, 1) := dk_27 (dk_at dksX1_gift_0 1 rfl rfl)
theorem dX1_gift_2 : decode cX1_gift 2 = .ok (.invokevirtual 230, 3) := dk_182 0 230 (dk_at dksX1_gift_0 2 rfl rfl)
theorem dX1_gift_5 : decode cX1_gift 5 = .ok (.astore_n 3, 1) := dk_78 (dk_at dksX1_gift_0 5 rfl rfl)
theorem dX1_gift_6 : decode cX1_gift 6 = .ok (.iload_n 2, 1) := dk_28 (dk_at dksX1_gift_0 6 rfl rfl)
theorem dX1_gift_7 : decode cX1_gift 7 = .ok (.iconst 1, 1) := dk_4 (dk_at dksX1_gift_0 7 rfl rfl)
theorem dX1_gift_8 : decode cX1_gift 8 = .ok (.sipush 500, 3) := dk_17 1 244 (dk_at dksX1_gift_0 8 rfl rfl)
theorem dX1_gift_11 : decode cX1_gift 11 = .ok (.invokestatic 143, 3) := dk_184 0 143 (dk_at dksX1_gift_0 11 rfl rfl)
theorem dX1_gift_14 : decode cX1_gift 14 = .ok (.ldc 245, 2) := dk_18 245 (dk_at dksX1_gift_0 14 rfl rfl)
theorem dX1_gift_16 : decode cX1_gift 16 = .ok (.invokestatic 147, 3) := dk_184 0 147 (dk_at dksX1_gift_0 16 rfl rfl)
theorem dX1_gift_19 : decode cX1_gift 19 = .ok (.aload_n 3, 1) := dk_45 (dk_at dksX1_gift_0 19 rfl rfl)
theorem dX1_gift_20 : decode cX1_gift 20 = .ok (.getfield 242, 3) := dk_180 0 242 (dk_at dksX1_gift_0 20 rfl rfl)
theorem dX1_gift_23 : decode cX1_gift 23 = .ok (.iload_n 2, 1) := dk_28 (dk_at dksX1_gift_0 23 rfl rfl)
theorem dX1_gift_24 : decode cX1_gift 24 = .ok (.invokevirtual 250, 3) := dk_182 0 250 (dk_at dksX1_gift_1 0 rfl rfl)
theorem dX1_gift_27 : decode cX1_gift 27 = .ok (.ldc 253, 2) := dk_18 253 (dk_at dksX1_gift_1 3 rfl rfl)
theorem dX1_gift_29 : decode cX1_gift 29 = .ok (.invokestatic 153, 3) := dk_184 0 153 (dk_at dksX1_gift_1 5 rfl rfl)
theorem dX1_gift_32 : decode cX1_gift 32 = .ok (.aload_n 3, 1) := dk_45 (dk_at dksX1_gift_1 8 rfl rfl)
theorem dX1_gift_33 : decode cX1_gift 33 = .ok (.getfield 242, 3) := dk_180 0 242 (dk_at dksX1_gift_1 9 rfl rfl)
theorem dX1_gift_36 : decode cX1_gift 36 = .ok (.aload_n 0, 1) := dk_42 (dk_at dksX1_gift_1 12 rfl rfl)
theorem dX1_gift_37 : decode cX1_gift 37 = .ok (.getfield 53, 3) := dk_180 0 53 (dk_at dksX1_gift_1 13 rfl rfl)
theorem dX1_gift_40 : decode cX1_gift 40 = .ok (.getfield 459, 3) := dk_180 1 203 (dk_at dksX1_gift_1 16 rfl rfl)
theorem dX1_gift_43 : decode cX1_gift 43 = .ok (.iload_n 2, 1) := dk_28 (dk_at dksX1_gift_1 19 rfl rfl)
theorem dX1_gift_44 : decode cX1_gift 44 = .ok (.invokevirtual 182, 3) := dk_182 0 182 (dk_at dksX1_gift_1 20 rfl rfl)
theorem dX1_gift_47 : decode cX1_gift 47 = .ok (.pop, 1) := dk_87 (dk_at dksX1_gift_1 23 rfl rfl)
theorem dX1_gift_48 : decode cX1_gift 48 = .ok (.aload_n 3, 1) := dk_45 (dk_at dksX1_gift_2 0 rfl rfl)
theorem dX1_gift_49 : decode cX1_gift 49 = .ok (.dup, 1) := dk_89 (dk_at dksX1_gift_2 1 rfl rfl)
theorem dX1_gift_50 : decode cX1_gift 50 = .ok (.getfield 460, 3) := dk_180 1 204 (dk_at dksX1_gift_2 2 rfl rfl)
theorem dX1_gift_53 : decode cX1_gift 53 = .ok (.iload_n 2, 1) := dk_28 (dk_at dksX1_gift_2 5 rfl rfl)
theorem dX1_gift_54 : decode cX1_gift 54 = .ok (.iadd, 1) := dk_96 (dk_at dksX1_gift_2 6 rfl rfl)
theorem dX1_gift_55 : decode cX1_gift 55 = .ok (.putfield 460, 3) := dk_181 1 204 (dk_at dksX1_gift_2 7 rfl rfl)
theorem dX1_gift_58 : decode cX1_gift 58 = .ok (.aload_n 3, 1) := dk_45 (dk_at dksX1_gift_2 10 rfl rfl)
theorem dX1_gift_59 : decode cX1_gift 59 = .ok (.getfield 460, 3) := dk_180 1 204 (dk_at dksX1_gift_2 11 rfl rfl)
theorem dX1_gift_62 : decode cX1_gift 62 = .ok (.ireturn, 1) := dk_172 (dk_at dksX1_gift_2 14 rfl rfl)
abbrev cX1_quarter : ByteArray := prog_1_method_42_code
def yX1_quarter : MethodName := ⟨RX1, "quarter", "(I)I"⟩
def dkwX1_quarter_1 : List UInt8 := [62, 29, 44, 180, 1, 207, 162, 0, 8, 44, 6, 182, 1, 182, 29, 172]
abbrev dktX1_quarter_1 : List UInt8 := dkwX1_quarter_1 ++ []
def dkwX1_quarter_0 : List UInt8 := [42, 27, 182, 0, 170, 77, 44, 180, 1, 197, 42, 180, 0, 53, 180, 1, 203, 44, 180, 1, 207, 182, 0, 182]
abbrev dktX1_quarter_0 : List UInt8 := dkwX1_quarter_0 ++ dktX1_quarter_1
theorem dksX1_quarter_0 : cX1_quarter.data.toList.drop 0 = dktX1_quarter_0 := by decide +kernel
theorem dksX1_quarter_1 : cX1_quarter.data.toList.drop 24 = dktX1_quarter_1 := dk_seg dksX1_quarter_0 24 rfl rfl
theorem dX1_quarter_0 : decode cX1_quarter 0 = .ok (.aload_n 0, 1) := dk_42 (dk_at dksX1_quarter_0 0 rfl rfl)
theorem dX1_quarter_1 : decode cX1_quarter 1 = .ok (.iload_n 1, 1) := dk_27 (dk_at dksX1_quarter_0 1 rfl rfl)
theorem dX1_quarter_2 : decode cX1_quarter 2 = .ok (.invokevirtual 170, 3) := dk_182 0 170 (dk_at dksX1_quarter_0 2 rfl rfl)
theorem dX1_quarter_5 : decode cX1_quarter 5 = .ok (.astore_n 2, 1) := dk_77 (dk_at dksX1_quarter_0 5 rfl rfl)
theorem dX1_quarter_6 : decode cX1_quarter 6 = .ok (.aload_n 2, 1) := dk_44 (dk_at dksX1_quarter_0 6 rfl rfl)
theorem dX1_quarter_7 : decode cX1_quarter 7 = .ok (.getfield 453, 3) := dk_180 1 197 (dk_at dksX1_quarter_0 7 rfl rfl)
theorem dX1_quarter_10 : decode cX1_quarter 10 = .ok (.aload_n 0, 1) := dk_42 (dk_at dksX1_quarter_0 10 rfl rfl)
theorem dX1_quarter_11 : decode cX1_quarter 11 = .ok (.getfield 53, 3) := dk_180 0 53 (dk_at dksX1_quarter_0 11 rfl rfl)
theorem dX1_quarter_14 : decode cX1_quarter 14 = .ok (.getfield 459, 3) := dk_180 1 203 (dk_at dksX1_quarter_0 14 rfl rfl)
theorem dX1_quarter_17 : decode cX1_quarter 17 = .ok (.aload_n 2, 1) := dk_44 (dk_at dksX1_quarter_0 17 rfl rfl)
theorem dX1_quarter_18 : decode cX1_quarter 18 = .ok (.getfield 463, 3) := dk_180 1 207 (dk_at dksX1_quarter_0 18 rfl rfl)
theorem dX1_quarter_21 : decode cX1_quarter 21 = .ok (.invokevirtual 182, 3) := dk_182 0 182 (dk_at dksX1_quarter_0 21 rfl rfl)
theorem dX1_quarter_24 : decode cX1_quarter 24 = .ok (.istore_n 3, 1) := dk_62 (dk_at dksX1_quarter_1 0 rfl rfl)
theorem dX1_quarter_25 : decode cX1_quarter 25 = .ok (.iload_n 3, 1) := dk_29 (dk_at dksX1_quarter_1 1 rfl rfl)
theorem dX1_quarter_26 : decode cX1_quarter 26 = .ok (.aload_n 2, 1) := dk_44 (dk_at dksX1_quarter_1 2 rfl rfl)
theorem dX1_quarter_27 : decode cX1_quarter 27 = .ok (.getfield 463, 3) := dk_180 1 207 (dk_at dksX1_quarter_1 3 rfl rfl)
theorem dX1_quarter_30 : decode cX1_quarter 30 = .ok (.if_icmp .ge 8, 3) := dk_162 0 8 (dk_at dksX1_quarter_1 6 rfl rfl)
theorem dX1_quarter_33 : decode cX1_quarter 33 = .ok (.aload_n 2, 1) := dk_44 (dk_at dksX1_quarter_1 9 rfl rfl)
theorem dX1_quarter_34 : decode cX1_quarter 34 = .ok (.iconst 3, 1) := dk_6 (dk_at dksX1_quarter_1 10 rfl rfl)
theorem dX1_quarter_35 : decode cX1_quarter 35 = .ok (.invokevirtual 438, 3) := dk_182 1 182 (dk_at dksX1_quarter_1 11 rfl rfl)
theorem dX1_quarter_38 : decode cX1_quarter 38 = .ok (.iload_n 3, 1) := dk_29 (dk_at dksX1_quarter_1 14 rfl rfl)
theorem dX1_quarter_39 : decode cX1_quarter 39 = .ok (.ireturn, 1) := dk_172 (dk_at dksX1_quarter_1 15 rfl rfl)
abbrev cX1_remit : ByteArray := prog_1_method_44_code
def yX1_remit : MethodName := ⟨RX1, "remit", "(I)I"⟩
def dkwX1_remit_8 : List UInt8 := [181, 1, 139, 21, 4, 172]
abbrev dktX1_remit_8 : List UInt8 := dkwX1_remit_8 ++ []
def dkwX1_remit_7 : List UInt8 := [182, 1, 187, 153, 0, 12, 21, 4, 21, 4, 5, 108, 96, 54, 4, 44, 89, 180, 1, 139, 21, 4, 96]
abbrev dktX1_remit_7 : List UInt8 := dkwX1_remit_7 ++ dktX1_remit_8
def dkwX1_remit_6 : List UInt8 := [184, 1, 228, 108, 54, 4, 42, 180, 0, 53, 44, 180, 1, 65, 182, 1, 73, 192, 0, 112, 16, 20]
abbrev dktX1_remit_6 : List UInt8 := dkwX1_remit_6 ++ dktX1_remit_7
def dkwX1_remit_5 : List UInt8 := [184, 0, 209, 96, 62, 167, 255, 200, 44, 180, 1, 79, 44, 180, 1, 84, 108, 29, 104, 44, 180, 1, 119]
abbrev dktX1_remit_5 : List UInt8 := dkwX1_remit_5 ++ dktX1_remit_6
def dkwX1_remit_4 : List UInt8 := [180, 0, 129, 184, 0, 132, 153, 0, 15, 25, 5, 184, 1, 224, 153, 0, 7, 4, 167, 0, 4, 3]
abbrev dktX1_remit_4 : List UInt8 := dkwX1_remit_4 ++ dktX1_remit_5
def dkwX1_remit_3 : List UInt8 := [153, 0, 52, 25, 4, 185, 0, 201, 1, 0, 192, 0, 108, 58, 5, 29, 44, 180, 1, 119, 25, 5]
abbrev dktX1_remit_3 : List UInt8 := dkwX1_remit_3 ++ dktX1_remit_4
def dkwX1_remit_2 : List UInt8 := [182, 1, 90, 181, 1, 219, 3, 62, 42, 180, 0, 19, 182, 0, 191, 58, 4, 25, 4, 185, 0, 195, 1, 0]
abbrev dktX1_remit_2 : List UInt8 := dkwX1_remit_2 ++ dktX1_remit_3
def dkwX1_remit_1 : List UInt8 := [180, 1, 219, 42, 182, 1, 90, 159, 0, 7, 4, 167, 0, 4, 3, 19, 1, 222, 184, 0, 153, 44, 42]
abbrev dktX1_remit_1 : List UInt8 := dkwX1_remit_1 ++ dktX1_remit_2
def dkwX1_remit_0 : List UInt8 := [42, 27, 182, 1, 17, 77, 44, 182, 1, 116, 153, 0, 26, 42, 182, 1, 216, 6, 160, 0, 18, 44]
abbrev dktX1_remit_0 : List UInt8 := dkwX1_remit_0 ++ dktX1_remit_1
theorem dksX1_remit_0 : cX1_remit.data.toList.drop 0 = dktX1_remit_0 := by decide +kernel
theorem dksX1_remit_1 : cX1_remit.data.toList.drop 22 = dktX1_remit_1 := dk_seg dksX1_remit_0 22 rfl rfl
theorem dksX1_remit_2 : cX1_remit.data.toList.drop 45 = dktX1_remit_2 := dk_seg dksX1_remit_1 23 rfl rfl
theorem dksX1_remit_3 : cX1_remit.data.toList.drop 69 = dktX1_remit_3 := dk_seg dksX1_remit_2 24 rfl rfl
theorem dksX1_remit_4 : cX1_remit.data.toList.drop 91 = dktX1_remit_4 := dk_seg dksX1_remit_3 22 rfl rfl
theorem dksX1_remit_5 : cX1_remit.data.toList.drop 113 = dktX1_remit_5 := dk_seg dksX1_remit_4 22 rfl rfl
theorem dksX1_remit_6 : cX1_remit.data.toList.drop 136 = dktX1_remit_6 := dk_seg dksX1_remit_5 23 rfl rfl
theorem dksX1_remit_7 : cX1_remit.data.toList.drop 158 = dktX1_remit_7 := dk_seg dksX1_remit_6 22 rfl rfl
theorem dksX1_remit_8 : cX1_remit.data.toList.drop 181 = dktX1_remit_8 := dk_seg dksX1_remit_7 23 rfl rfl
theorem dX1_remit_0 : decode cX1_remit 0 = .ok (.aload_n 0, 1) := dk_42 (dk_at dksX1_remit_0 0 rfl rfl)
theorem dX1_remit_1 : decode cX1_remit 1 = .ok (.iload_n 1, 1) := dk_27 (dk_at dksX1_remit_0 1 rfl rfl)
theorem dX1_remit_2 : decode cX1_remit 2 = .ok (.invokevirtual 273, 3) := dk_182 1 17 (dk_at dksX1_remit_0 2 rfl rfl)
theorem dX1_remit_5 : decode cX1_remit 5 = .ok (.astore_n 2, 1) := dk_77 (dk_at dksX1_remit_0 5 rfl rfl)
theorem dX1_remit_6 : decode cX1_remit 6 = .ok (.aload_n 2, 1) := dk_44 (dk_at dksX1_remit_0 6 rfl rfl)
theorem dX1_remit_7 : decode cX1_remit 7 = .ok (.invokevirtual 372, 3) := dk_182 1 116 (dk_at dksX1_remit_0 7 rfl rfl)
theorem dX1_remit_10 : decode cX1_remit 10 = .ok (.ifCond .eq 26, 3) := dk_153 0 26 (dk_at dksX1_remit_0 10 rfl rfl)
theorem dX1_remit_13 : decode cX1_remit 13 = .ok (.aload_n 0, 1) := dk_42 (dk_at dksX1_remit_0 13 rfl rfl)
theorem dX1_remit_14 : decode cX1_remit 14 = .ok (.invokevirtual 472, 3) := dk_182 1 216 (dk_at dksX1_remit_0 14 rfl rfl)
theorem dX1_remit_17 : decode cX1_remit 17 = .ok (.iconst 3, 1) := dk_6 (dk_at dksX1_remit_0 17 rfl rfl)
theorem dX1_remit_18 : decode cX1_remit 18 = .ok (.if_icmp .ne 18, 3) := dk_160 0 18 (dk_at dksX1_remit_0 18 rfl rfl)
theorem dX1_remit_21 : decode cX1_remit 21 = .ok (.aload_n 2, 1) := dk_44 (dk_at dksX1_remit_0 21 rfl rfl)
theorem dX1_remit_22 : decode cX1_remit 22 = .ok (.getfield 475, 3) := dk_180 1 219 (dk_at dksX1_remit_1 0 rfl rfl)
theorem dX1_remit_25 : decode cX1_remit 25 = .ok (.aload_n 0, 1) := dk_42 (dk_at dksX1_remit_1 3 rfl rfl)
theorem dX1_remit_26 : decode cX1_remit 26 = .ok (.invokevirtual 346, 3) := dk_182 1 90 (dk_at dksX1_remit_1 4 rfl rfl)
theorem dX1_remit_29 : decode cX1_remit 29 = .ok (.if_icmp .eq 7, 3) := dk_159 0 7 (dk_at dksX1_remit_1 7 rfl rfl)
theorem dX1_remit_32 : decode cX1_remit 32 = .ok (.iconst 1, 1) := dk_4 (dk_at dksX1_remit_1 10 rfl rfl)
theorem dX1_remit_33 : decode cX1_remit 33 = .ok (.goto 4, 3) := dk_167 0 4 (dk_at dksX1_remit_1 11 rfl rfl)
theorem dX1_remit_36 : decode cX1_remit 36 = .ok (.iconst 0, 1) := dk_3 (dk_at dksX1_remit_1 14 rfl rfl)
theorem dX1_remit_37 : decode cX1_remit 37 = .ok (.ldc_w 478, 3) := dk_19 1 222 (dk_at dksX1_remit_1 15 rfl rfl)
theorem dX1_remit_40 : decode cX1_remit 40 = .ok (.invokestatic 153, 3) := dk_184 0 153 (dk_at dksX1_remit_1 18 rfl rfl)
theorem dX1_remit_43 : decode cX1_remit 43 = .ok (.aload_n 2, 1) := dk_44 (dk_at dksX1_remit_1 21 rfl rfl)
theorem dX1_remit_44 : decode cX1_remit 44 = .ok (.aload_n 0, 1) := dk_42 (dk_at dksX1_remit_1 22 rfl rfl)
theorem dX1_remit_45 : decode cX1_remit 45 = .ok (.invokevirtual 346, 3) := dk_182 1 90 (dk_at dksX1_remit_2 0 rfl rfl)
theorem dX1_remit_48 : decode cX1_remit 48 = .ok (.putfield 475, 3) := dk_181 1 219 (dk_at dksX1_remit_2 3 rfl rfl)
theorem dX1_remit_51 : decode cX1_remit 51 = .ok (.iconst 0, 1) := dk_3 (dk_at dksX1_remit_2 6 rfl rfl)
theorem dX1_remit_52 : decode cX1_remit 52 = .ok (.istore_n 3, 1) := dk_62 (dk_at dksX1_remit_2 7 rfl rfl)
theorem dX1_remit_53 : decode cX1_remit 53 = .ok (.aload_n 0, 1) := dk_42 (dk_at dksX1_remit_2 8 rfl rfl)
theorem dX1_remit_54 : decode cX1_remit 54 = .ok (.getfield 19, 3) := dk_180 0 19 (dk_at dksX1_remit_2 9 rfl rfl)
theorem dX1_remit_57 : decode cX1_remit 57 = .ok (.invokevirtual 191, 3) := dk_182 0 191 (dk_at dksX1_remit_2 12 rfl rfl)
theorem dX1_remit_60 : decode cX1_remit 60 = .ok (.astore 4, 2) := dk_58 4 (dk_at dksX1_remit_2 15 rfl rfl)
theorem dX1_remit_62 : decode cX1_remit 62 = .ok (.aload 4, 2) := dk_25 4 (dk_at dksX1_remit_2 17 rfl rfl)
theorem dX1_remit_64 : decode cX1_remit 64 = .ok (.invokeinterface 195 1, 5) := by decide +kernel
theorem dX1_remit_69 : decode cX1_remit 69 = .ok (.ifCond .eq 52, 3) := dk_153 0 52 (dk_at dksX1_remit_3 0 rfl rfl)
theorem dX1_remit_72 : decode cX1_remit 72 = .ok (.aload 4, 2) := dk_25 4 (dk_at dksX1_remit_3 3 rfl rfl)
theorem dX1_remit_74 : decode cX1_remit 74 = .ok (.invokeinterface 201 1, 5) := by decide +kernel
theorem dX1_remit_79 : decode cX1_remit 79 = .ok (.checkcast 108, 3) := dk_192 0 108 (dk_at dksX1_remit_3 10 rfl rfl)
theorem dX1_remit_82 : decode cX1_remit 82 = .ok (.astore 5, 2) := dk_58 5 (dk_at dksX1_remit_3 13 rfl rfl)
theorem dX1_remit_84 : decode cX1_remit 84 = .ok (.iload_n 3, 1) := dk_29 (dk_at dksX1_remit_3 15 rfl rfl)
theorem dX1_remit_85 : decode cX1_remit 85 = .ok (.aload_n 2, 1) := dk_44 (dk_at dksX1_remit_3 16 rfl rfl)
theorem dX1_remit_86 : decode cX1_remit 86 = .ok (.getfield 375, 3) := dk_180 1 119 (dk_at dksX1_remit_3 17 rfl rfl)
theorem dX1_remit_89 : decode cX1_remit 89 = .ok (.aload 5, 2) := dk_25 5 (dk_at dksX1_remit_3 20 rfl rfl)
theorem dX1_remit_91 : decode cX1_remit 91 = .ok (.getfield 129, 3) := dk_180 0 129 (dk_at dksX1_remit_4 0 rfl rfl)
theorem dX1_remit_94 : decode cX1_remit 94 = .ok (.invokestatic 132, 3) := dk_184 0 132 (dk_at dksX1_remit_4 3 rfl rfl)
theorem dX1_remit_97 : decode cX1_remit 97 = .ok (.ifCond .eq 15, 3) := dk_153 0 15 (dk_at dksX1_remit_4 6 rfl rfl)
theorem dX1_remit_100 : decode cX1_remit 100 = .ok (.aload 5, 2) := dk_25 5 (dk_at dksX1_remit_4 9 rfl rfl)
theorem dX1_remit_102 : decode cX1_remit 102 = .ok (.invokestatic 480, 3) := dk_184 1 224 (dk_at dksX1_remit_4 11 rfl rfl)
theorem dX1_remit_105 : decode cX1_remit 105 = .ok (.ifCond .eq 7, 3) := dk_153 0 7 (dk_at dksX1_remit_4 14 rfl rfl)
theorem dX1_remit_108 : decode cX1_remit 108 = .ok (.iconst 1, 1) := dk_4 (dk_at dksX1_remit_4 17 rfl rfl)
theorem dX1_remit_109 : decode cX1_remit 109 = .ok (.goto 4, 3) := dk_167 0 4 (dk_at dksX1_remit_4 18 rfl rfl)
theorem dX1_remit_112 : decode cX1_remit 112 = .ok (.iconst 0, 1) := dk_3 (dk_at dksX1_remit_4 21 rfl rfl)
theorem dX1_remit_113 : decode cX1_remit 113 = .ok (.invokestatic 209, 3) := dk_184 0 209 (dk_at dksX1_remit_5 0 rfl rfl)
theorem dX1_remit_116 : decode cX1_remit 116 = .ok (.iadd, 1) := dk_96 (dk_at dksX1_remit_5 3 rfl rfl)
theorem dX1_remit_117 : decode cX1_remit 117 = .ok (.istore_n 3, 1) := dk_62 (dk_at dksX1_remit_5 4 rfl rfl)
theorem dX1_remit_118 : decode cX1_remit 118 = .ok (.goto (-56), 3) := dk_167 255 200 (dk_at dksX1_remit_5 5 rfl rfl)
theorem dX1_remit_121 : decode cX1_remit 121 = .ok (.aload_n 2, 1) := dk_44 (dk_at dksX1_remit_5 8 rfl rfl)
theorem dX1_remit_122 : decode cX1_remit 122 = .ok (.getfield 335, 3) := dk_180 1 79 (dk_at dksX1_remit_5 9 rfl rfl)
theorem dX1_remit_125 : decode cX1_remit 125 = .ok (.aload_n 2, 1) := dk_44 (dk_at dksX1_remit_5 12 rfl rfl)
theorem dX1_remit_126 : decode cX1_remit 126 = .ok (.getfield 340, 3) := dk_180 1 84 (dk_at dksX1_remit_5 13 rfl rfl)
theorem dX1_remit_129 : decode cX1_remit 129 = .ok (.idiv, 1) := dk_108 (dk_at dksX1_remit_5 16 rfl rfl)
theorem dX1_remit_130 : decode cX1_remit 130 = .ok (.iload_n 3, 1) := dk_29 (dk_at dksX1_remit_5 17 rfl rfl)
theorem dX1_remit_131 : decode cX1_remit 131 = .ok (.imul, 1) := dk_104 (dk_at dksX1_remit_5 18 rfl rfl)
theorem dX1_remit_132 : decode cX1_remit 132 = .ok (.aload_n 2, 1) := dk_44 (dk_at dksX1_remit_5 19 rfl rfl)
theorem dX1_remit_133 : decode cX1_remit 133 = .ok (.getfield 375, 3) := dk_180 1 119 (dk_at dksX1_remit_5 20 rfl rfl)
theorem dX1_remit_136 : decode cX1_remit 136 = .ok (.invokestatic 484, 3) := dk_184 1 228 (dk_at dksX1_remit_6 0 rfl rfl)
theorem dX1_remit_139 : decode cX1_remit 139 = .ok (.idiv, 1) := dk_108 (dk_at dksX1_remit_6 3 rfl rfl)
theorem dX1_remit_140 : decode cX1_remit 140 = .ok (.istore 4, 2) := dk_54 4 (dk_at dksX1_remit_6 4 rfl rfl)
theorem dX1_remit_142 : decode cX1_remit 142 = .ok (.aload_n 0, 1) := dk_42 (dk_at dksX1_remit_6 6 rfl rfl)
theorem dX1_remit_143 : decode cX1_remit 143 = .ok (.getfield 53, 3) := dk_180 0 53 (dk_at dksX1_remit_6 7 rfl rfl)
theorem dX1_remit_146 : decode cX1_remit 146 = .ok (.aload_n 2, 1) := dk_44 (dk_at dksX1_remit_6 10 rfl rfl)
theorem dX1_remit_147 : decode cX1_remit 147 = .ok (.getfield 321, 3) := dk_180 1 65 (dk_at dksX1_remit_6 11 rfl rfl)
theorem dX1_remit_150 : decode cX1_remit 150 = .ok (.invokevirtual 329, 3) := dk_182 1 73 (dk_at dksX1_remit_6 14 rfl rfl)
theorem dX1_remit_153 : decode cX1_remit 153 = .ok (.checkcast 112, 3) := dk_192 0 112 (dk_at dksX1_remit_6 17 rfl rfl)
theorem dX1_remit_156 : decode cX1_remit 156 = .ok (.bipush 20, 2) := dk_16 20 (dk_at dksX1_remit_6 20 rfl rfl)
theorem dX1_remit_158 : decode cX1_remit 158 = .ok (.invokevirtual 443, 3) := dk_182 1 187 (dk_at dksX1_remit_7 0 rfl rfl)
theorem dX1_remit_161 : decode cX1_remit 161 = .ok (.ifCond .eq 12, 3) := dk_153 0 12 (dk_at dksX1_remit_7 3 rfl rfl)
theorem dX1_remit_164 : decode cX1_remit 164 = .ok (.iload 4, 2) := dk_21 4 (dk_at dksX1_remit_7 6 rfl rfl)
theorem dX1_remit_166 : decode cX1_remit 166 = .ok (.iload 4, 2) := dk_21 4 (dk_at dksX1_remit_7 8 rfl rfl)
theorem dX1_remit_168 : decode cX1_remit 168 = .ok (.iconst 2, 1) := dk_5 (dk_at dksX1_remit_7 10 rfl rfl)
theorem dX1_remit_169 : decode cX1_remit 169 = .ok (.idiv, 1) := dk_108 (dk_at dksX1_remit_7 11 rfl rfl)
theorem dX1_remit_170 : decode cX1_remit 170 = .ok (.iadd, 1) := dk_96 (dk_at dksX1_remit_7 12 rfl rfl)
theorem dX1_remit_171 : decode cX1_remit 171 = .ok (.istore 4, 2) := dk_54 4 (dk_at dksX1_remit_7 13 rfl rfl)
theorem dX1_remit_173 : decode cX1_remit 173 = .ok (.aload_n 2, 1) := dk_44 (dk_at dksX1_remit_7 15 rfl rfl)
theorem dX1_remit_174 : decode cX1_remit 174 = .ok (.dup, 1) := dk_89 (dk_at dksX1_remit_7 16 rfl rfl)
theorem dX1_remit_175 : decode cX1_remit 175 = .ok (.getfield 395, 3) := dk_180 1 139 (dk_at dksX1_remit_7 17 rfl rfl)
theorem dX1_remit_178 : decode cX1_remit 178 = .ok (.iload 4, 2) := dk_21 4 (dk_at dksX1_remit_7 20 rfl rfl)
theorem dX1_remit_180 : decode cX1_remit 180 = .ok (.iadd, 1) := dk_96 (dk_at dksX1_remit_7 22 rfl rfl)
theorem dX1_remit_181 : decode cX1_remit 181 = .ok (.putfield 395, 3) := dk_181 1 139 (dk_at dksX1_remit_8 0 rfl rfl)
theorem dX1_remit_184 : decode cX1_remit 184 = .ok (.iload 4, 2) := dk_21 4 (dk_at dksX1_remit_8 3 rfl rfl)
theorem dX1_remit_186 : decode cX1_remit 186 = .ok (.ireturn, 1) := dk_172 (dk_at dksX1_remit_8 5 rfl rfl)
abbrev cX1_part : ByteArray := prog_1_method_14_code
def yX1_part : MethodName := ⟨RX1, "part", "()I"⟩
def dkwX1_part_0 : List UInt8 := [42, 180, 0, 120, 7, 112, 172]
abbrev dktX1_part_0 : List UInt8 := dkwX1_part_0 ++ []
theorem dksX1_part_0 : cX1_part.data.toList.drop 0 = dktX1_part_0 := by decide +kernel
theorem dX1_part_0 : decode cX1_part 0 = .ok (.aload_n 0, 1) := dk_42 (dk_at dksX1_part_0 0 rfl rfl)
theorem dX1_part_1 : decode cX1_part 1 = .ok (.getfield 120, 3) := dk_180 0 120 (dk_at dksX1_part_0 1 rfl rfl)
theorem dX1_part_4 : decode cX1_part 4 = .ok (.iconst 4, 1) := dk_7 (dk_at dksX1_part_0 4 rfl rfl)
theorem dX1_part_5 : decode cX1_part 5 = .ok (.irem, 1) := dk_112 (dk_at dksX1_part_0 5 rfl rfl)
theorem dX1_part_6 : decode cX1_part 6 = .ok (.ireturn, 1) := dk_172 (dk_at dksX1_part_0 6 rfl rfl)
abbrev cX1_isBad : ByteArray := prog_1_method_43_code
def yX1_isBad : MethodName := ⟨RX1, "isBad", "(LPublicanry$Village;)Z"⟩
def dkwX1_isBad_1 : List UInt8 := [167, 0, 4, 3, 172]
abbrev dktX1_isBad_1 : List UInt8 := dkwX1_isBad_1 ++ []
def dkwX1_isBad_0 : List UInt8 := [42, 180, 1, 210, 42, 180, 0, 179, 42, 180, 1, 213, 104, 16, 7, 104, 16, 120, 108, 162, 0, 7, 4]
abbrev dktX1_isBad_0 : List UInt8 := dkwX1_isBad_0 ++ dktX1_isBad_1
theorem dksX1_isBad_0 : cX1_isBad.data.toList.drop 0 = dktX1_isBad_0 := by decide +kernel
theorem dksX1_isBad_1 : cX1_isBad.data.toList.drop 23 = dktX1_isBad_1 := dk_seg dksX1_isBad_0 23 rfl rfl
theorem dX1_isBad_0 : decode cX1_isBad 0 = .ok (.aload_n 0, 1) := dk_42 (dk_at dksX1_isBad_0 0 rfl rfl)
theorem dX1_isBad_1 : decode cX1_isBad 1 = .ok (.getfield 466, 3) := dk_180 1 210 (dk_at dksX1_isBad_0 1 rfl rfl)
theorem dX1_isBad_4 : decode cX1_isBad 4 = .ok (.aload_n 0, 1) := dk_42 (dk_at dksX1_isBad_0 4 rfl rfl)
theorem dX1_isBad_5 : decode cX1_isBad 5 = .ok (.getfield 179, 3) := dk_180 0 179 (dk_at dksX1_isBad_0 5 rfl rfl)
theorem dX1_isBad_8 : decode cX1_isBad 8 = .ok (.aload_n 0, 1) := dk_42 (dk_at dksX1_isBad_0 8 rfl rfl)
theorem dX1_isBad_9 : decode cX1_isBad 9 = .ok (.getfield 469, 3) := dk_180 1 213 (dk_at dksX1_isBad_0 9 rfl rfl)
theorem dX1_isBad_12 : decode cX1_isBad 12 = .ok (.imul, 1) := dk_104 (dk_at dksX1_isBad_0 12 rfl rfl)
theorem dX1_isBad_13 : decode cX1_isBad 13 = .ok (.bipush 7, 2) := dk_16 7 (dk_at dksX1_isBad_0 13 rfl rfl)
theorem dX1_isBad_15 : decode cX1_isBad 15 = .ok (.imul, 1) := dk_104 (dk_at dksX1_isBad_0 15 rfl rfl)
theorem dX1_isBad_16 : decode cX1_isBad 16 = .ok (.bipush 120, 2) := dk_16 120 (dk_at dksX1_isBad_0 16 rfl rfl)
theorem dX1_isBad_18 : decode cX1_isBad 18 = .ok (.idiv, 1) := dk_108 (dk_at dksX1_isBad_0 18 rfl rfl)
theorem dX1_isBad_19 : decode cX1_isBad 19 = .ok (.if_icmp .ge 7, 3) := dk_162 0 7 (dk_at dksX1_isBad_0 19 rfl rfl)
theorem dX1_isBad_22 : decode cX1_isBad 22 = .ok (.iconst 1, 1) := dk_4 (dk_at dksX1_isBad_0 22 rfl rfl)
theorem dX1_isBad_23 : decode cX1_isBad 23 = .ok (.goto 4, 3) := dk_167 0 4 (dk_at dksX1_isBad_1 0 rfl rfl)
theorem dX1_isBad_26 : decode cX1_isBad 26 = .ok (.iconst 0, 1) := dk_3 (dk_at dksX1_isBad_1 3 rfl rfl)
theorem dX1_isBad_27 : decode cX1_isBad 27 = .ok (.ireturn, 1) := dk_172 (dk_at dksX1_isBad_1 4 rfl rfl)
abbrev cX1_clerks : ByteArray := prog_1_method_46_code
def yX1_clerks : MethodName := ⟨RX1, "clerks", "(IZ)Z"⟩
def dkwX1_clerks_1 : List UInt8 := [181, 1, 236, 29, 172]
abbrev dktX1_clerks_1 : List UInt8 := dkwX1_clerks_1 ++ []
def dkwX1_clerks_0 : List UInt8 := [27, 184, 0, 213, 87, 42, 180, 0, 33, 27, 50, 180, 1, 236, 62, 42, 180, 0, 33, 27, 50, 28]
abbrev dktX1_clerks_0 : List UInt8 := dkwX1_clerks_0 ++ dktX1_clerks_1
theorem dksX1_clerks_0 : cX1_clerks.data.toList.drop 0 = dktX1_clerks_0 := by decide +kernel
theorem dksX1_clerks_1 : cX1_clerks.data.toList.drop 22 = dktX1_clerks_1 := dk_seg dksX1_clerks_0 22 rfl rfl
theorem dX1_clerks_0 : decode cX1_clerks 0 = .ok (.iload_n 1, 1) := dk_27 (dk_at dksX1_clerks_0 0 rfl rfl)
theorem dX1_clerks_1 : decode cX1_clerks 1 = .ok (.invokestatic 213, 3) := dk_184 0 213 (dk_at dksX1_clerks_0 1 rfl rfl)
theorem dX1_clerks_4 : decode cX1_clerks 4 = .ok (.pop, 1) := dk_87 (dk_at dksX1_clerks_0 4 rfl rfl)
theorem dX1_clerks_5 : decode cX1_clerks 5 = .ok (.aload_n 0, 1) := dk_42 (dk_at dksX1_clerks_0 5 rfl rfl)
theorem dX1_clerks_6 : decode cX1_clerks 6 = .ok (.getfield 33, 3) := dk_180 0 33 (dk_at dksX1_clerks_0 6 rfl rfl)
theorem dX1_clerks_9 : decode cX1_clerks 9 = .ok (.iload_n 1, 1) := dk_27 (dk_at dksX1_clerks_0 9 rfl rfl)
theorem dX1_clerks_10 : decode cX1_clerks 10 = .ok (.aaload, 1) := dk_50 (dk_at dksX1_clerks_0 10 rfl rfl)
theorem dX1_clerks_11 : decode cX1_clerks 11 = .ok (.getfield 492, 3) := dk_180 1 236 (dk_at dksX1_clerks_0 11 rfl rfl)
theorem dX1_clerks_14 : decode cX1_clerks 14 = .ok (.istore_n 3, 1) := dk_62 (dk_at dksX1_clerks_0 14 rfl rfl)
theorem dX1_clerks_15 : decode cX1_clerks 15 = .ok (.aload_n 0, 1) := dk_42 (dk_at dksX1_clerks_0 15 rfl rfl)
theorem dX1_clerks_16 : decode cX1_clerks 16 = .ok (.getfield 33, 3) := dk_180 0 33 (dk_at dksX1_clerks_0 16 rfl rfl)
theorem dX1_clerks_19 : decode cX1_clerks 19 = .ok (.iload_n 1, 1) := dk_27 (dk_at dksX1_clerks_0 19 rfl rfl)
theorem dX1_clerks_20 : decode cX1_clerks 20 = .ok (.aaload, 1) := dk_50 (dk_at dksX1_clerks_0 20 rfl rfl)
theorem dX1_clerks_21 : decode cX1_clerks 21 = .ok (.iload_n 2, 1) := dk_28 (dk_at dksX1_clerks_0 21 rfl rfl)
theorem dX1_clerks_22 : decode cX1_clerks 22 = .ok (.putfield 492, 3) := dk_181 1 236 (dk_at dksX1_clerks_1 0 rfl rfl)
theorem dX1_clerks_25 : decode cX1_clerks 25 = .ok (.iload_n 3, 1) := dk_29 (dk_at dksX1_clerks_1 3 rfl rfl)
theorem dX1_clerks_26 : decode cX1_clerks 26 = .ok (.ireturn, 1) := dk_172 (dk_at dksX1_clerks_1 4 rfl rfl)
abbrev cX1_pass : ByteArray := prog_1_method_53_code
def yX1_pass : MethodName := ⟨RX1, "pass", "(I)I"⟩
def dkwX1_pass_2 : List UInt8 := [182, 2, 49, 132, 2, 1, 167, 255, 244, 42, 180, 0, 120, 172]
abbrev dktX1_pass_2 : List UInt8 := dkwX1_pass_2 ++ []
def dkwX1_pass_1 : List UInt8 := [163, 0, 7, 4, 167, 0, 4, 3, 19, 2, 48, 184, 0, 153, 3, 61, 28, 27, 162, 0, 13, 42]
abbrev dktX1_pass_1 : List UInt8 := dkwX1_pass_1 ++ dktX1_pass_2
def dkwX1_pass_0 : List UInt8 := [27, 4, 16, 20, 184, 0, 143, 19, 2, 46, 184, 0, 147, 42, 180, 0, 120, 27, 96, 17, 0, 160]
abbrev dktX1_pass_0 : List UInt8 := dkwX1_pass_0 ++ dktX1_pass_1
theorem dksX1_pass_0 : cX1_pass.data.toList.drop 0 = dktX1_pass_0 := by decide +kernel
theorem dksX1_pass_1 : cX1_pass.data.toList.drop 22 = dktX1_pass_1 := dk_seg dksX1_pass_0 22 rfl rfl
theorem dksX1_pass_2 : cX1_pass.data.toList.drop 44 = dktX1_pass_2 := dk_seg dksX1_pass_1 22 rfl rfl
theorem dX1_pass_0 : decode cX1_pass 0 = .ok (.iload_n 1, 1) := dk_27 (dk_at dksX1_pass_0 0 rfl rfl)
theorem dX1_pass_1 : decode cX1_pass 1 = .ok (.iconst 1, 1) := dk_4 (dk_at dksX1_pass_0 1 rfl rfl)
theorem dX1_pass_2 : decode cX1_pass 2 = .ok (.bipush 20, 2) := dk_16 20 (dk_at dksX1_pass_0 2 rfl rfl)
theorem dX1_pass_4 : decode cX1_pass 4 = .ok (.invokestatic 143, 3) := dk_184 0 143 (dk_at dksX1_pass_0 4 rfl rfl)
theorem dX1_pass_7 : decode cX1_pass 7 = .ok (.ldc_w 558, 3) := dk_19 2 46 (dk_at dksX1_pass_0 7 rfl rfl)
theorem dX1_pass_10 : decode cX1_pass 10 = .ok (.invokestatic 147, 3) := dk_184 0 147 (dk_at dksX1_pass_0 10 rfl rfl)
theorem dX1_pass_13 : decode cX1_pass 13 = .ok (.aload_n 0, 1) := dk_42 (dk_at dksX1_pass_0 13 rfl rfl)
theorem dX1_pass_14 : decode cX1_pass 14 = .ok (.getfield 120, 3) := dk_180 0 120 (dk_at dksX1_pass_0 14 rfl rfl)
theorem dX1_pass_17 : decode cX1_pass 17 = .ok (.iload_n 1, 1) := dk_27 (dk_at dksX1_pass_0 17 rfl rfl)
theorem dX1_pass_18 : decode cX1_pass 18 = .ok (.iadd, 1) := dk_96 (dk_at dksX1_pass_0 18 rfl rfl)
theorem dX1_pass_19 : decode cX1_pass 19 = .ok (.sipush 160, 3) := dk_17 0 160 (dk_at dksX1_pass_0 19 rfl rfl)
theorem dX1_pass_22 : decode cX1_pass 22 = .ok (.if_icmp .gt 7, 3) := dk_163 0 7 (dk_at dksX1_pass_1 0 rfl rfl)
theorem dX1_pass_25 : decode cX1_pass 25 = .ok (.iconst 1, 1) := dk_4 (dk_at dksX1_pass_1 3 rfl rfl)
theorem dX1_pass_26 : decode cX1_pass 26 = .ok (.goto 4, 3) := dk_167 0 4 (dk_at dksX1_pass_1 4 rfl rfl)
theorem dX1_pass_29 : decode cX1_pass 29 = .ok (.iconst 0, 1) := dk_3 (dk_at dksX1_pass_1 7 rfl rfl)
theorem dX1_pass_30 : decode cX1_pass 30 = .ok (.ldc_w 560, 3) := dk_19 2 48 (dk_at dksX1_pass_1 8 rfl rfl)
theorem dX1_pass_33 : decode cX1_pass 33 = .ok (.invokestatic 153, 3) := dk_184 0 153 (dk_at dksX1_pass_1 11 rfl rfl)
theorem dX1_pass_36 : decode cX1_pass 36 = .ok (.iconst 0, 1) := dk_3 (dk_at dksX1_pass_1 14 rfl rfl)
theorem dX1_pass_37 : decode cX1_pass 37 = .ok (.istore_n 2, 1) := dk_61 (dk_at dksX1_pass_1 15 rfl rfl)
theorem dX1_pass_38 : decode cX1_pass 38 = .ok (.iload_n 2, 1) := dk_28 (dk_at dksX1_pass_1 16 rfl rfl)
theorem dX1_pass_39 : decode cX1_pass 39 = .ok (.iload_n 1, 1) := dk_27 (dk_at dksX1_pass_1 17 rfl rfl)
theorem dX1_pass_40 : decode cX1_pass 40 = .ok (.if_icmp .ge 13, 3) := dk_162 0 13 (dk_at dksX1_pass_1 18 rfl rfl)
theorem dX1_pass_43 : decode cX1_pass 43 = .ok (.aload_n 0, 1) := dk_42 (dk_at dksX1_pass_1 21 rfl rfl)
theorem dX1_pass_44 : decode cX1_pass 44 = .ok (.invokevirtual 561, 3) := dk_182 2 49 (dk_at dksX1_pass_2 0 rfl rfl)
theorem dX1_pass_47 : decode cX1_pass 47 = .ok (.iinc 2 1, 3) := dk_132 2 1 (dk_at dksX1_pass_2 3 rfl rfl)
theorem dX1_pass_50 : decode cX1_pass 50 = .ok (.goto (-12), 3) := dk_167 255 244 (dk_at dksX1_pass_2 6 rfl rfl)
theorem dX1_pass_53 : decode cX1_pass 53 = .ok (.aload_n 0, 1) := dk_42 (dk_at dksX1_pass_2 9 rfl rfl)
theorem dX1_pass_54 : decode cX1_pass 54 = .ok (.getfield 120, 3) := dk_180 0 120 (dk_at dksX1_pass_2 10 rfl rfl)
theorem dX1_pass_57 : decode cX1_pass 57 = .ok (.ireturn, 1) := dk_172 (dk_at dksX1_pass_2 13 rfl rfl)
abbrev cX1_begin : ByteArray := prog_1_method_52_code
def yX1_begin : MethodName := ⟨RX1, "begin", "()V"⟩
def dkwX1_begin_10 : List UInt8 := [192, 0, 108, 77, 44, 42, 180, 0, 40, 182, 2, 43, 167, 255, 229, 177]
abbrev dktX1_begin_10 : List UInt8 := dkwX1_begin_10 ++ []
def dkwX1_begin_9 : List UInt8 := [42, 180, 0, 19, 182, 0, 191, 76, 43, 185, 0, 195, 1, 0, 153, 0, 24, 43, 185, 0, 201, 1, 0]
abbrev dktX1_begin_9 : List UInt8 := dkwX1_begin_9 ++ dktX1_begin_10
def dkwX1_begin_8 : List UInt8 := [192, 0, 108, 77, 44, 42, 180, 0, 40, 182, 2, 39, 167, 255, 229, 42, 182, 1, 216, 6, 159, 0, 4, 177]
abbrev dktX1_begin_8 : List UInt8 := dkwX1_begin_8 ++ dktX1_begin_9
def dkwX1_begin_7 : List UInt8 := [180, 0, 19, 182, 0, 191, 76, 43, 185, 0, 195, 1, 0, 153, 0, 24, 43, 185, 0, 201, 1, 0]
abbrev dktX1_begin_7 : List UInt8 := dkwX1_begin_7 ++ dktX1_begin_8
def dkwX1_begin_6 : List UInt8 := [162, 0, 20, 43, 29, 50, 58, 4, 42, 25, 4, 182, 2, 35, 132, 3, 1, 167, 255, 237, 167, 0, 3, 42]
abbrev dktX1_begin_6 : List UInt8 := dkwX1_begin_6 ++ dktX1_begin_7
def dkwX1_begin_5 : List UInt8 := [192, 0, 116, 77, 42, 44, 182, 2, 32, 167, 255, 232, 184, 0, 71, 76, 43, 190, 61, 3, 62, 29, 28]
abbrev dktX1_begin_5 : List UInt8 := dkwX1_begin_5 ++ dktX1_begin_6
def dkwX1_begin_4 : List UInt8 := [42, 180, 0, 28, 182, 0, 191, 76, 43, 185, 0, 195, 1, 0, 153, 0, 21, 43, 185, 0, 201, 1, 0]
abbrev dktX1_begin_4 : List UInt8 := dkwX1_begin_4 ++ dktX1_begin_5
def dkwX1_begin_3 : List UInt8 := [43, 185, 0, 201, 1, 0, 192, 0, 108, 77, 44, 42, 180, 0, 64, 182, 2, 29, 167, 255, 229, 167, 0, 72]
abbrev dktX1_begin_3 : List UInt8 := dkwX1_begin_3 ++ dktX1_begin_4
def dkwX1_begin_2 : List UInt8 := [42, 182, 2, 26, 167, 0, 113, 42, 180, 0, 19, 182, 0, 191, 76, 43, 185, 0, 195, 1, 0, 153, 0, 24]
abbrev dktX1_begin_2 : List UInt8 := dkwX1_begin_2 ++ dktX1_begin_3
def dkwX1_begin_1 : List UInt8 := [170, 0, 0, 0, 0, 143, 0, 0, 0, 0, 0, 0, 0, 2, 0, 0, 0, 26, 0, 0, 0, 33, 0, 0, 0, 74]
abbrev dktX1_begin_1 : List UInt8 := dkwX1_begin_1 ++ dktX1_begin_2
def dkwX1_begin_0 : List UInt8 := [42, 89, 180, 0, 120, 4, 96, 181, 0, 120, 42, 182, 1, 216]
abbrev dktX1_begin_0 : List UInt8 := dkwX1_begin_0 ++ dktX1_begin_1
theorem dksX1_begin_0 : cX1_begin.data.toList.drop 0 = dktX1_begin_0 := by decide +kernel
theorem dksX1_begin_1 : cX1_begin.data.toList.drop 14 = dktX1_begin_1 := dk_seg dksX1_begin_0 14 rfl rfl
theorem dksX1_begin_2 : cX1_begin.data.toList.drop 40 = dktX1_begin_2 := dk_seg dksX1_begin_1 26 rfl rfl
theorem dksX1_begin_3 : cX1_begin.data.toList.drop 64 = dktX1_begin_3 := dk_seg dksX1_begin_2 24 rfl rfl
theorem dksX1_begin_4 : cX1_begin.data.toList.drop 88 = dktX1_begin_4 := dk_seg dksX1_begin_3 24 rfl rfl
theorem dksX1_begin_5 : cX1_begin.data.toList.drop 111 = dktX1_begin_5 := dk_seg dksX1_begin_4 23 rfl rfl
theorem dksX1_begin_6 : cX1_begin.data.toList.drop 134 = dktX1_begin_6 := dk_seg dksX1_begin_5 23 rfl rfl
theorem dksX1_begin_7 : cX1_begin.data.toList.drop 158 = dktX1_begin_7 := dk_seg dksX1_begin_6 24 rfl rfl
theorem dksX1_begin_8 : cX1_begin.data.toList.drop 180 = dktX1_begin_8 := dk_seg dksX1_begin_7 22 rfl rfl
theorem dksX1_begin_9 : cX1_begin.data.toList.drop 204 = dktX1_begin_9 := dk_seg dksX1_begin_8 24 rfl rfl
theorem dksX1_begin_10 : cX1_begin.data.toList.drop 227 = dktX1_begin_10 := dk_seg dksX1_begin_9 23 rfl rfl
theorem dX1_begin_0 : decode cX1_begin 0 = .ok (.aload_n 0, 1) := dk_42 (dk_at dksX1_begin_0 0 rfl rfl)
theorem dX1_begin_1 : decode cX1_begin 1 = .ok (.dup, 1) := dk_89 (dk_at dksX1_begin_0 1 rfl rfl)
theorem dX1_begin_2 : decode cX1_begin 2 = .ok (.getfield 120, 3) := dk_180 0 120 (dk_at dksX1_begin_0 2 rfl rfl)
theorem dX1_begin_5 : decode cX1_begin 5 = .ok (.iconst 1, 1) := dk_4 (dk_at dksX1_begin_0 5 rfl rfl)
theorem dX1_begin_6 : decode cX1_begin 6 = .ok (.iadd, 1) := dk_96 (dk_at dksX1_begin_0 6 rfl rfl)
theorem dX1_begin_7 : decode cX1_begin 7 = .ok (.putfield 120, 3) := dk_181 0 120 (dk_at dksX1_begin_0 7 rfl rfl)
theorem dX1_begin_10 : decode cX1_begin 10 = .ok (.aload_n 0, 1) := dk_42 (dk_at dksX1_begin_0 10 rfl rfl)
theorem dX1_begin_11 : decode cX1_begin 11 = .ok (.invokevirtual 472, 3) := dk_182 1 216 (dk_at dksX1_begin_0 11 rfl rfl)
theorem dX1_begin_14 : decode cX1_begin 14 = .ok (.tableswitch 143 0 2 #[26, 33, 74], 26) := by decide +kernel
theorem dX1_begin_40 : decode cX1_begin 40 = .ok (.aload_n 0, 1) := dk_42 (dk_at dksX1_begin_2 0 rfl rfl)
theorem dX1_begin_41 : decode cX1_begin 41 = .ok (.invokevirtual 538, 3) := dk_182 2 26 (dk_at dksX1_begin_2 1 rfl rfl)
theorem dX1_begin_44 : decode cX1_begin 44 = .ok (.goto 113, 3) := dk_167 0 113 (dk_at dksX1_begin_2 4 rfl rfl)
theorem dX1_begin_47 : decode cX1_begin 47 = .ok (.aload_n 0, 1) := dk_42 (dk_at dksX1_begin_2 7 rfl rfl)
theorem dX1_begin_48 : decode cX1_begin 48 = .ok (.getfield 19, 3) := dk_180 0 19 (dk_at dksX1_begin_2 8 rfl rfl)
theorem dX1_begin_51 : decode cX1_begin 51 = .ok (.invokevirtual 191, 3) := dk_182 0 191 (dk_at dksX1_begin_2 11 rfl rfl)
theorem dX1_begin_54 : decode cX1_begin 54 = .ok (.astore_n 1, 1) := dk_76 (dk_at dksX1_begin_2 14 rfl rfl)
theorem dX1_begin_55 : decode cX1_begin 55 = .ok (.aload_n 1, 1) := dk_43 (dk_at dksX1_begin_2 15 rfl rfl)
theorem dX1_begin_56 : decode cX1_begin 56 = .ok (.invokeinterface 195 1, 5) := by decide +kernel
theorem dX1_begin_61 : decode cX1_begin 61 = .ok (.ifCond .eq 24, 3) := dk_153 0 24 (dk_at dksX1_begin_2 21 rfl rfl)
theorem dX1_begin_64 : decode cX1_begin 64 = .ok (.aload_n 1, 1) := dk_43 (dk_at dksX1_begin_3 0 rfl rfl)
theorem dX1_begin_65 : decode cX1_begin 65 = .ok (.invokeinterface 201 1, 5) := by decide +kernel
theorem dX1_begin_70 : decode cX1_begin 70 = .ok (.checkcast 108, 3) := dk_192 0 108 (dk_at dksX1_begin_3 6 rfl rfl)
theorem dX1_begin_73 : decode cX1_begin 73 = .ok (.astore_n 2, 1) := dk_77 (dk_at dksX1_begin_3 9 rfl rfl)
theorem dX1_begin_74 : decode cX1_begin 74 = .ok (.aload_n 2, 1) := dk_44 (dk_at dksX1_begin_3 10 rfl rfl)
theorem dX1_begin_75 : decode cX1_begin 75 = .ok (.aload_n 0, 1) := dk_42 (dk_at dksX1_begin_3 11 rfl rfl)
theorem dX1_begin_76 : decode cX1_begin 76 = .ok (.getfield 64, 3) := dk_180 0 64 (dk_at dksX1_begin_3 12 rfl rfl)
theorem dX1_begin_79 : decode cX1_begin 79 = .ok (.invokevirtual 541, 3) := dk_182 2 29 (dk_at dksX1_begin_3 15 rfl rfl)
theorem dX1_begin_82 : decode cX1_begin 82 = .ok (.goto (-27), 3) := dk_167 255 229 (dk_at dksX1_begin_3 18 rfl rfl)
theorem dX1_begin_85 : decode cX1_begin 85 = .ok (.goto 72, 3) := dk_167 0 72 (dk_at dksX1_begin_3 21 rfl rfl)
theorem dX1_begin_88 : decode cX1_begin 88 = .ok (.aload_n 0, 1) := dk_42 (dk_at dksX1_begin_4 0 rfl rfl)
theorem dX1_begin_89 : decode cX1_begin 89 = .ok (.getfield 28, 3) := dk_180 0 28 (dk_at dksX1_begin_4 1 rfl rfl)
theorem dX1_begin_92 : decode cX1_begin 92 = .ok (.invokevirtual 191, 3) := dk_182 0 191 (dk_at dksX1_begin_4 4 rfl rfl)
theorem dX1_begin_95 : decode cX1_begin 95 = .ok (.astore_n 1, 1) := dk_76 (dk_at dksX1_begin_4 7 rfl rfl)
theorem dX1_begin_96 : decode cX1_begin 96 = .ok (.aload_n 1, 1) := dk_43 (dk_at dksX1_begin_4 8 rfl rfl)
theorem dX1_begin_97 : decode cX1_begin 97 = .ok (.invokeinterface 195 1, 5) := by decide +kernel
theorem dX1_begin_102 : decode cX1_begin 102 = .ok (.ifCond .eq 21, 3) := dk_153 0 21 (dk_at dksX1_begin_4 14 rfl rfl)
theorem dX1_begin_105 : decode cX1_begin 105 = .ok (.aload_n 1, 1) := dk_43 (dk_at dksX1_begin_4 17 rfl rfl)
theorem dX1_begin_106 : decode cX1_begin 106 = .ok (.invokeinterface 201 1, 5) := by decide +kernel
theorem dX1_begin_111 : decode cX1_begin 111 = .ok (.checkcast 116, 3) := dk_192 0 116 (dk_at dksX1_begin_5 0 rfl rfl)
theorem dX1_begin_114 : decode cX1_begin 114 = .ok (.astore_n 2, 1) := dk_77 (dk_at dksX1_begin_5 3 rfl rfl)
theorem dX1_begin_115 : decode cX1_begin 115 = .ok (.aload_n 0, 1) := dk_42 (dk_at dksX1_begin_5 4 rfl rfl)
theorem dX1_begin_116 : decode cX1_begin 116 = .ok (.aload_n 2, 1) := dk_44 (dk_at dksX1_begin_5 5 rfl rfl)
theorem dX1_begin_117 : decode cX1_begin 117 = .ok (.invokevirtual 544, 3) := dk_182 2 32 (dk_at dksX1_begin_5 6 rfl rfl)
theorem dX1_begin_120 : decode cX1_begin 120 = .ok (.goto (-24), 3) := dk_167 255 232 (dk_at dksX1_begin_5 9 rfl rfl)
theorem dX1_begin_123 : decode cX1_begin 123 = .ok (.invokestatic 71, 3) := dk_184 0 71 (dk_at dksX1_begin_5 12 rfl rfl)
theorem dX1_begin_126 : decode cX1_begin 126 = .ok (.astore_n 1, 1) := dk_76 (dk_at dksX1_begin_5 15 rfl rfl)
theorem dX1_begin_127 : decode cX1_begin 127 = .ok (.aload_n 1, 1) := dk_43 (dk_at dksX1_begin_5 16 rfl rfl)
theorem dX1_begin_128 : decode cX1_begin 128 = .ok (.arraylength, 1) := dk_190 (dk_at dksX1_begin_5 17 rfl rfl)
theorem dX1_begin_129 : decode cX1_begin 129 = .ok (.istore_n 2, 1) := dk_61 (dk_at dksX1_begin_5 18 rfl rfl)
theorem dX1_begin_130 : decode cX1_begin 130 = .ok (.iconst 0, 1) := dk_3 (dk_at dksX1_begin_5 19 rfl rfl)
theorem dX1_begin_131 : decode cX1_begin 131 = .ok (.istore_n 3, 1) := dk_62 (dk_at dksX1_begin_5 20 rfl rfl)
theorem dX1_begin_132 : decode cX1_begin 132 = .ok (.iload_n 3, 1) := dk_29 (dk_at dksX1_begin_5 21 rfl rfl)
theorem dX1_begin_133 : decode cX1_begin 133 = .ok (.iload_n 2, 1) := dk_28 (dk_at dksX1_begin_5 22 rfl rfl)
theorem dX1_begin_134 : decode cX1_begin 134 = .ok (.if_icmp .ge 20, 3) := dk_162 0 20 (dk_at dksX1_begin_6 0 rfl rfl)
theorem dX1_begin_137 : decode cX1_begin 137 = .ok (.aload_n 1, 1) := dk_43 (dk_at dksX1_begin_6 3 rfl rfl)
theorem dX1_begin_138 : decode cX1_begin 138 = .ok (.iload_n 3, 1) := dk_29 (dk_at dksX1_begin_6 4 rfl rfl)
theorem dX1_begin_139 : decode cX1_begin 139 = .ok (.aaload, 1) := dk_50 (dk_at dksX1_begin_6 5 rfl rfl)
theorem dX1_begin_140 : decode cX1_begin 140 = .ok (.astore 4, 2) := dk_58 4 (dk_at dksX1_begin_6 6 rfl rfl)
theorem dX1_begin_142 : decode cX1_begin 142 = .ok (.aload_n 0, 1) := dk_42 (dk_at dksX1_begin_6 8 rfl rfl)
theorem dX1_begin_143 : decode cX1_begin 143 = .ok (.aload 4, 2) := dk_25 4 (dk_at dksX1_begin_6 9 rfl rfl)
theorem dX1_begin_145 : decode cX1_begin 145 = .ok (.invokevirtual 547, 3) := dk_182 2 35 (dk_at dksX1_begin_6 11 rfl rfl)
theorem dX1_begin_148 : decode cX1_begin 148 = .ok (.iinc 3 1, 3) := dk_132 3 1 (dk_at dksX1_begin_6 14 rfl rfl)
theorem dX1_begin_151 : decode cX1_begin 151 = .ok (.goto (-19), 3) := dk_167 255 237 (dk_at dksX1_begin_6 17 rfl rfl)
theorem dX1_begin_154 : decode cX1_begin 154 = .ok (.goto 3, 3) := dk_167 0 3 (dk_at dksX1_begin_6 20 rfl rfl)
theorem dX1_begin_157 : decode cX1_begin 157 = .ok (.aload_n 0, 1) := dk_42 (dk_at dksX1_begin_6 23 rfl rfl)
theorem dX1_begin_158 : decode cX1_begin 158 = .ok (.getfield 19, 3) := dk_180 0 19 (dk_at dksX1_begin_7 0 rfl rfl)
theorem dX1_begin_161 : decode cX1_begin 161 = .ok (.invokevirtual 191, 3) := dk_182 0 191 (dk_at dksX1_begin_7 3 rfl rfl)
theorem dX1_begin_164 : decode cX1_begin 164 = .ok (.astore_n 1, 1) := dk_76 (dk_at dksX1_begin_7 6 rfl rfl)
theorem dX1_begin_165 : decode cX1_begin 165 = .ok (.aload_n 1, 1) := dk_43 (dk_at dksX1_begin_7 7 rfl rfl)
theorem dX1_begin_166 : decode cX1_begin 166 = .ok (.invokeinterface 195 1, 5) := by decide +kernel
theorem dX1_begin_171 : decode cX1_begin 171 = .ok (.ifCond .eq 24, 3) := dk_153 0 24 (dk_at dksX1_begin_7 13 rfl rfl)
theorem dX1_begin_174 : decode cX1_begin 174 = .ok (.aload_n 1, 1) := dk_43 (dk_at dksX1_begin_7 16 rfl rfl)
theorem dX1_begin_175 : decode cX1_begin 175 = .ok (.invokeinterface 201 1, 5) := by decide +kernel
theorem dX1_begin_180 : decode cX1_begin 180 = .ok (.checkcast 108, 3) := dk_192 0 108 (dk_at dksX1_begin_8 0 rfl rfl)
theorem dX1_begin_183 : decode cX1_begin 183 = .ok (.astore_n 2, 1) := dk_77 (dk_at dksX1_begin_8 3 rfl rfl)
theorem dX1_begin_184 : decode cX1_begin 184 = .ok (.aload_n 2, 1) := dk_44 (dk_at dksX1_begin_8 4 rfl rfl)
theorem dX1_begin_185 : decode cX1_begin 185 = .ok (.aload_n 0, 1) := dk_42 (dk_at dksX1_begin_8 5 rfl rfl)
theorem dX1_begin_186 : decode cX1_begin 186 = .ok (.getfield 40, 3) := dk_180 0 40 (dk_at dksX1_begin_8 6 rfl rfl)
theorem dX1_begin_189 : decode cX1_begin 189 = .ok (.invokevirtual 551, 3) := dk_182 2 39 (dk_at dksX1_begin_8 9 rfl rfl)
theorem dX1_begin_192 : decode cX1_begin 192 = .ok (.goto (-27), 3) := dk_167 255 229 (dk_at dksX1_begin_8 12 rfl rfl)
theorem dX1_begin_195 : decode cX1_begin 195 = .ok (.aload_n 0, 1) := dk_42 (dk_at dksX1_begin_8 15 rfl rfl)
theorem dX1_begin_196 : decode cX1_begin 196 = .ok (.invokevirtual 472, 3) := dk_182 1 216 (dk_at dksX1_begin_8 16 rfl rfl)
theorem dX1_begin_199 : decode cX1_begin 199 = .ok (.iconst 3, 1) := dk_6 (dk_at dksX1_begin_8 19 rfl rfl)
theorem dX1_begin_200 : decode cX1_begin 200 = .ok (.if_icmp .eq 4, 3) := dk_159 0 4 (dk_at dksX1_begin_8 20 rfl rfl)
theorem dX1_begin_203 : decode cX1_begin 203 = .ok (.return_, 1) := dk_177 (dk_at dksX1_begin_8 23 rfl rfl)
theorem dX1_begin_204 : decode cX1_begin 204 = .ok (.aload_n 0, 1) := dk_42 (dk_at dksX1_begin_9 0 rfl rfl)
theorem dX1_begin_205 : decode cX1_begin 205 = .ok (.getfield 19, 3) := dk_180 0 19 (dk_at dksX1_begin_9 1 rfl rfl)
theorem dX1_begin_208 : decode cX1_begin 208 = .ok (.invokevirtual 191, 3) := dk_182 0 191 (dk_at dksX1_begin_9 4 rfl rfl)
theorem dX1_begin_211 : decode cX1_begin 211 = .ok (.astore_n 1, 1) := dk_76 (dk_at dksX1_begin_9 7 rfl rfl)
theorem dX1_begin_212 : decode cX1_begin 212 = .ok (.aload_n 1, 1) := dk_43 (dk_at dksX1_begin_9 8 rfl rfl)
theorem dX1_begin_213 : decode cX1_begin 213 = .ok (.invokeinterface 195 1, 5) := by decide +kernel
theorem dX1_begin_218 : decode cX1_begin 218 = .ok (.ifCond .eq 24, 3) := dk_153 0 24 (dk_at dksX1_begin_9 14 rfl rfl)
theorem dX1_begin_221 : decode cX1_begin 221 = .ok (.aload_n 1, 1) := dk_43 (dk_at dksX1_begin_9 17 rfl rfl)
theorem dX1_begin_222 : decode cX1_begin 222 = .ok (.invokeinterface 201 1, 5) := by decide +kernel
theorem dX1_begin_227 : decode cX1_begin 227 = .ok (.checkcast 108, 3) := dk_192 0 108 (dk_at dksX1_begin_10 0 rfl rfl)
theorem dX1_begin_230 : decode cX1_begin 230 = .ok (.astore_n 2, 1) := dk_77 (dk_at dksX1_begin_10 3 rfl rfl)
theorem dX1_begin_231 : decode cX1_begin 231 = .ok (.aload_n 2, 1) := dk_44 (dk_at dksX1_begin_10 4 rfl rfl)
theorem dX1_begin_232 : decode cX1_begin 232 = .ok (.aload_n 0, 1) := dk_42 (dk_at dksX1_begin_10 5 rfl rfl)
theorem dX1_begin_233 : decode cX1_begin 233 = .ok (.getfield 40, 3) := dk_180 0 40 (dk_at dksX1_begin_10 6 rfl rfl)
theorem dX1_begin_236 : decode cX1_begin 236 = .ok (.invokevirtual 555, 3) := dk_182 2 43 (dk_at dksX1_begin_10 9 rfl rfl)
theorem dX1_begin_239 : decode cX1_begin 239 = .ok (.goto (-27), 3) := dk_167 255 229 (dk_at dksX1_begin_10 12 rfl rfl)
theorem dX1_begin_242 : decode cX1_begin 242 = .ok (.return_, 1) := dk_177 (dk_at dksX1_begin_10 15 rfl rfl)
abbrev cX1_spring : ByteArray := prog_1_method_47_code
def yX1_spring : MethodName := ⟨RX1, "spring", "()V"⟩
def dkwX1_spring_8 : List UInt8 := [164, 0, 8, 42, 45, 182, 1, 99, 167, 255, 203, 177]
abbrev dktX1_spring_8 : List UInt8 := dkwX1_spring_8 ++ []
def dkwX1_spring_7 : List UInt8 := [153, 0, 30, 45, 180, 1, 132, 45, 180, 1, 84, 162, 0, 19, 42, 182, 1, 90, 45, 180, 1, 93]
abbrev dktX1_spring_7 : List UInt8 := dkwX1_spring_7 ++ dktX1_spring_8
def dkwX1_spring_6 : List UInt8 := [185, 0, 195, 1, 0, 153, 0, 50, 44, 185, 0, 201, 1, 0, 192, 0, 116, 78, 45, 182, 1, 116]
abbrev dktX1_spring_6 : List UInt8 := dkwX1_spring_6 ++ dktX1_spring_7
def dkwX1_spring_5 : List UInt8 := [181, 1, 210, 45, 3, 181, 0, 205, 167, 255, 209, 42, 180, 0, 28, 182, 0, 191, 77, 44]
abbrev dktX1_spring_5 : List UInt8 := dkwX1_spring_5 ++ dktX1_spring_6
def dkwX1_spring_4 : List UInt8 := [192, 0, 108, 78, 45, 89, 180, 1, 242, 45, 180, 1, 242, 6, 104, 16, 20, 108, 96, 181, 1, 242, 45, 3]
abbrev dktX1_spring_4 : List UInt8 := dkwX1_spring_4 ++ dktX1_spring_5
def dkwX1_spring_3 : List UInt8 := [180, 0, 19, 182, 0, 191, 77, 44, 185, 0, 195, 1, 0, 153, 0, 44, 44, 185, 0, 201, 1, 0]
abbrev dktX1_spring_3 : List UInt8 := dkwX1_spring_3 ++ dktX1_spring_4
def dkwX1_spring_2 : List UInt8 := [184, 0, 209, 96, 181, 0, 159, 42, 16, 7, 42, 180, 0, 64, 104, 7, 96, 16, 11, 112, 181, 0, 64, 42]
abbrev dktX1_spring_2 : List UInt8 := dkwX1_spring_2 ++ dktX1_spring_3
def dkwX1_spring_1 : List UInt8 := [58, 5, 27, 25, 5, 182, 1, 239, 128, 60, 132, 4, 1, 167, 255, 233, 42, 89, 180, 0, 159, 27]
abbrev dktX1_spring_1 : List UInt8 := dkwX1_spring_1 ++ dktX1_spring_2
def dkwX1_spring_0 : List UInt8 := [3, 60, 42, 180, 0, 33, 77, 44, 190, 62, 3, 54, 4, 21, 4, 29, 162, 0, 23, 44, 21, 4, 50]
abbrev dktX1_spring_0 : List UInt8 := dkwX1_spring_0 ++ dktX1_spring_1
theorem dksX1_spring_0 : cX1_spring.data.toList.drop 0 = dktX1_spring_0 := by decide +kernel
theorem dksX1_spring_1 : cX1_spring.data.toList.drop 23 = dktX1_spring_1 := dk_seg dksX1_spring_0 23 rfl rfl
theorem dksX1_spring_2 : cX1_spring.data.toList.drop 45 = dktX1_spring_2 := dk_seg dksX1_spring_1 22 rfl rfl
theorem dksX1_spring_3 : cX1_spring.data.toList.drop 69 = dktX1_spring_3 := dk_seg dksX1_spring_2 24 rfl rfl
theorem dksX1_spring_4 : cX1_spring.data.toList.drop 91 = dktX1_spring_4 := dk_seg dksX1_spring_3 22 rfl rfl
theorem dksX1_spring_5 : cX1_spring.data.toList.drop 115 = dktX1_spring_5 := dk_seg dksX1_spring_4 24 rfl rfl
theorem dksX1_spring_6 : cX1_spring.data.toList.drop 135 = dktX1_spring_6 := dk_seg dksX1_spring_5 20 rfl rfl
theorem dksX1_spring_7 : cX1_spring.data.toList.drop 157 = dktX1_spring_7 := dk_seg dksX1_spring_6 22 rfl rfl
theorem dksX1_spring_8 : cX1_spring.data.toList.drop 179 = dktX1_spring_8 := dk_seg dksX1_spring_7 22 rfl rfl
theorem dX1_spring_0 : decode cX1_spring 0 = .ok (.iconst 0, 1) := dk_3 (dk_at dksX1_spring_0 0 rfl rfl)
theorem dX1_spring_1 : decode cX1_spring 1 = .ok (.istore_n 1, 1) := dk_60 (dk_at dksX1_spring_0 1 rfl rfl)
theorem dX1_spring_2 : decode cX1_spring 2 = .ok (.aload_n 0, 1) := dk_42 (dk_at dksX1_spring_0 2 rfl rfl)
theorem dX1_spring_3 : decode cX1_spring 3 = .ok (.getfield 33, 3) := dk_180 0 33 (dk_at dksX1_spring_0 3 rfl rfl)
theorem dX1_spring_6 : decode cX1_spring 6 = .ok (.astore_n 2, 1) := dk_77 (dk_at dksX1_spring_0 6 rfl rfl)
theorem dX1_spring_7 : decode cX1_spring 7 = .ok (.aload_n 2, 1) := dk_44 (dk_at dksX1_spring_0 7 rfl rfl)
theorem dX1_spring_8 : decode cX1_spring 8 = .ok (.arraylength, 1) := dk_190 (dk_at dksX1_spring_0 8 rfl rfl)
theorem dX1_spring_9 : decode cX1_spring 9 = .ok (.istore_n 3, 1) := dk_62 (dk_at dksX1_spring_0 9 rfl rfl)
theorem dX1_spring_10 : decode cX1_spring 10 = .ok (.iconst 0, 1) := dk_3 (dk_at dksX1_spring_0 10 rfl rfl)
theorem dX1_spring_11 : decode cX1_spring 11 = .ok (.istore 4, 2) := dk_54 4 (dk_at dksX1_spring_0 11 rfl rfl)
theorem dX1_spring_13 : decode cX1_spring 13 = .ok (.iload 4, 2) := dk_21 4 (dk_at dksX1_spring_0 13 rfl rfl)
theorem dX1_spring_15 : decode cX1_spring 15 = .ok (.iload_n 3, 1) := dk_29 (dk_at dksX1_spring_0 15 rfl rfl)
theorem dX1_spring_16 : decode cX1_spring 16 = .ok (.if_icmp .ge 23, 3) := dk_162 0 23 (dk_at dksX1_spring_0 16 rfl rfl)
theorem dX1_spring_19 : decode cX1_spring 19 = .ok (.aload_n 2, 1) := dk_44 (dk_at dksX1_spring_0 19 rfl rfl)
theorem dX1_spring_20 : decode cX1_spring 20 = .ok (.iload 4, 2) := dk_21 4 (dk_at dksX1_spring_0 20 rfl rfl)
theorem dX1_spring_22 : decode cX1_spring 22 = .ok (.aaload, 1) := dk_50 (dk_at dksX1_spring_0 22 rfl rfl)
theorem dX1_spring_23 : decode cX1_spring 23 = .ok (.astore 5, 2) := dk_58 5 (dk_at dksX1_spring_1 0 rfl rfl)
theorem dX1_spring_25 : decode cX1_spring 25 = .ok (.iload_n 1, 1) := dk_27 (dk_at dksX1_spring_1 2 rfl rfl)
theorem dX1_spring_26 : decode cX1_spring 26 = .ok (.aload 5, 2) := dk_25 5 (dk_at dksX1_spring_1 3 rfl rfl)
theorem dX1_spring_28 : decode cX1_spring 28 = .ok (.invokevirtual 495, 3) := dk_182 1 239 (dk_at dksX1_spring_1 5 rfl rfl)
theorem dX1_spring_31 : decode cX1_spring 31 = .ok (.ior, 1) := dk_128 (dk_at dksX1_spring_1 8 rfl rfl)
theorem dX1_spring_32 : decode cX1_spring 32 = .ok (.istore_n 1, 1) := dk_60 (dk_at dksX1_spring_1 9 rfl rfl)
theorem dX1_spring_33 : decode cX1_spring 33 = .ok (.iinc 4 1, 3) := dk_132 4 1 (dk_at dksX1_spring_1 10 rfl rfl)
theorem dX1_spring_36 : decode cX1_spring 36 = .ok (.goto (-23), 3) := dk_167 255 233 (dk_at dksX1_spring_1 13 rfl rfl)
theorem dX1_spring_39 : decode cX1_spring 39 = .ok (.aload_n 0, 1) := dk_42 (dk_at dksX1_spring_1 16 rfl rfl)
theorem dX1_spring_40 : decode cX1_spring 40 = .ok (.dup, 1) := dk_89 (dk_at dksX1_spring_1 17 rfl rfl)
theorem dX1_spring_41 : decode cX1_spring 41 = .ok (.getfield 159, 3) := dk_180 0 159 (dk_at dksX1_spring_1 18 rfl rfl)
theorem dX1_spring_44 : decode cX1_spring 44 = .ok (.iload_n 1, 1) := dk_27 (dk_at dksX1_spring_1 21 rfl rfl)
theorem dX1_spring_45 : decode cX1_spring 45 = .ok (.invokestatic 209, 3) := dk_184 0 209 (dk_at dksX1_spring_2 0 rfl rfl)
theorem dX1_spring_48 : decode cX1_spring 48 = .ok (.iadd, 1) := dk_96 (dk_at dksX1_spring_2 3 rfl rfl)
theorem dX1_spring_49 : decode cX1_spring 49 = .ok (.putfield 159, 3) := dk_181 0 159 (dk_at dksX1_spring_2 4 rfl rfl)
theorem dX1_spring_52 : decode cX1_spring 52 = .ok (.aload_n 0, 1) := dk_42 (dk_at dksX1_spring_2 7 rfl rfl)
theorem dX1_spring_53 : decode cX1_spring 53 = .ok (.bipush 7, 2) := dk_16 7 (dk_at dksX1_spring_2 8 rfl rfl)
theorem dX1_spring_55 : decode cX1_spring 55 = .ok (.aload_n 0, 1) := dk_42 (dk_at dksX1_spring_2 10 rfl rfl)
theorem dX1_spring_56 : decode cX1_spring 56 = .ok (.getfield 64, 3) := dk_180 0 64 (dk_at dksX1_spring_2 11 rfl rfl)
theorem dX1_spring_59 : decode cX1_spring 59 = .ok (.imul, 1) := dk_104 (dk_at dksX1_spring_2 14 rfl rfl)
theorem dX1_spring_60 : decode cX1_spring 60 = .ok (.iconst 4, 1) := dk_7 (dk_at dksX1_spring_2 15 rfl rfl)
theorem dX1_spring_61 : decode cX1_spring 61 = .ok (.iadd, 1) := dk_96 (dk_at dksX1_spring_2 16 rfl rfl)
theorem dX1_spring_62 : decode cX1_spring 62 = .ok (.bipush 11, 2) := dk_16 11 (dk_at dksX1_spring_2 17 rfl rfl)
theorem dX1_spring_64 : decode cX1_spring 64 = .ok (.irem, 1) := dk_112 (dk_at dksX1_spring_2 19 rfl rfl)
theorem dX1_spring_65 : decode cX1_spring 65 = .ok (.putfield 64, 3) := dk_181 0 64 (dk_at dksX1_spring_2 20 rfl rfl)
theorem dX1_spring_68 : decode cX1_spring 68 = .ok (.aload_n 0, 1) := dk_42 (dk_at dksX1_spring_2 23 rfl rfl)
theorem dX1_spring_69 : decode cX1_spring 69 = .ok (.getfield 19, 3) := dk_180 0 19 (dk_at dksX1_spring_3 0 rfl rfl)
theorem dX1_spring_72 : decode cX1_spring 72 = .ok (.invokevirtual 191, 3) := dk_182 0 191 (dk_at dksX1_spring_3 3 rfl rfl)
theorem dX1_spring_75 : decode cX1_spring 75 = .ok (.astore_n 2, 1) := dk_77 (dk_at dksX1_spring_3 6 rfl rfl)
theorem dX1_spring_76 : decode cX1_spring 76 = .ok (.aload_n 2, 1) := dk_44 (dk_at dksX1_spring_3 7 rfl rfl)
theorem dX1_spring_77 : decode cX1_spring 77 = .ok (.invokeinterface 195 1, 5) := by decide +kernel
theorem dX1_spring_82 : decode cX1_spring 82 = .ok (.ifCond .eq 44, 3) := dk_153 0 44 (dk_at dksX1_spring_3 13 rfl rfl)
theorem dX1_spring_85 : decode cX1_spring 85 = .ok (.aload_n 2, 1) := dk_44 (dk_at dksX1_spring_3 16 rfl rfl)
theorem dX1_spring_86 : decode cX1_spring 86 = .ok (.invokeinterface 201 1, 5) := by decide +kernel
theorem dX1_spring_91 : decode cX1_spring 91 = .ok (.checkcast 108, 3) := dk_192 0 108 (dk_at dksX1_spring_4 0 rfl rfl)
theorem dX1_spring_94 : decode cX1_spring 94 = .ok (.astore_n 3, 1) := dk_78 (dk_at dksX1_spring_4 3 rfl rfl)
theorem dX1_spring_95 : decode cX1_spring 95 = .ok (.aload_n 3, 1) := dk_45 (dk_at dksX1_spring_4 4 rfl rfl)
theorem dX1_spring_96 : decode cX1_spring 96 = .ok (.dup, 1) := dk_89 (dk_at dksX1_spring_4 5 rfl rfl)
theorem dX1_spring_97 : decode cX1_spring 97 = .ok (.getfield 498, 3) := dk_180 1 242 (dk_at dksX1_spring_4 6 rfl rfl)
theorem dX1_spring_100 : decode cX1_spring 100 = .ok (.aload_n 3, 1) := dk_45 (dk_at dksX1_spring_4 9 rfl rfl)
theorem dX1_spring_101 : decode cX1_spring 101 = .ok (.getfield 498, 3) := dk_180 1 242 (dk_at dksX1_spring_4 10 rfl rfl)
theorem dX1_spring_104 : decode cX1_spring 104 = .ok (.iconst 3, 1) := dk_6 (dk_at dksX1_spring_4 13 rfl rfl)
theorem dX1_spring_105 : decode cX1_spring 105 = .ok (.imul, 1) := dk_104 (dk_at dksX1_spring_4 14 rfl rfl)
theorem dX1_spring_106 : decode cX1_spring 106 = .ok (.bipush 20, 2) := dk_16 20 (dk_at dksX1_spring_4 15 rfl rfl)
theorem dX1_spring_108 : decode cX1_spring 108 = .ok (.idiv, 1) := dk_108 (dk_at dksX1_spring_4 17 rfl rfl)
theorem dX1_spring_109 : decode cX1_spring 109 = .ok (.iadd, 1) := dk_96 (dk_at dksX1_spring_4 18 rfl rfl)
theorem dX1_spring_110 : decode cX1_spring 110 = .ok (.putfield 498, 3) := dk_181 1 242 (dk_at dksX1_spring_4 19 rfl rfl)
theorem dX1_spring_113 : decode cX1_spring 113 = .ok (.aload_n 3, 1) := dk_45 (dk_at dksX1_spring_4 22 rfl rfl)
theorem dX1_spring_114 : decode cX1_spring 114 = .ok (.iconst 0, 1) := dk_3 (dk_at dksX1_spring_4 23 rfl rfl)
theorem dX1_spring_115 : decode cX1_spring 115 = .ok (.putfield 466, 3) := dk_181 1 210 (dk_at dksX1_spring_5 0 rfl rfl)
theorem dX1_spring_118 : decode cX1_spring 118 = .ok (.aload_n 3, 1) := dk_45 (dk_at dksX1_spring_5 3 rfl rfl)
theorem dX1_spring_119 : decode cX1_spring 119 = .ok (.iconst 0, 1) := dk_3 (dk_at dksX1_spring_5 4 rfl rfl)
theorem dX1_spring_120 : decode cX1_spring 120 = .ok (.putfield 205, 3) := dk_181 0 205 (dk_at dksX1_spring_5 5 rfl rfl)
theorem dX1_spring_123 : decode cX1_spring 123 = .ok (.goto (-47), 3) := dk_167 255 209 (dk_at dksX1_spring_5 8 rfl rfl)
theorem dX1_spring_126 : decode cX1_spring 126 = .ok (.aload_n 0, 1) := dk_42 (dk_at dksX1_spring_5 11 rfl rfl)
theorem dX1_spring_127 : decode cX1_spring 127 = .ok (.getfield 28, 3) := dk_180 0 28 (dk_at dksX1_spring_5 12 rfl rfl)
theorem dX1_spring_130 : decode cX1_spring 130 = .ok (.invokevirtual 191, 3) := dk_182 0 191 (dk_at dksX1_spring_5 15 rfl rfl)
theorem dX1_spring_133 : decode cX1_spring 133 = .ok (.astore_n 2, 1) := dk_77 (dk_at dksX1_spring_5 18 rfl rfl)
theorem dX1_spring_134 : decode cX1_spring 134 = .ok (.aload_n 2, 1) := dk_44 (dk_at dksX1_spring_5 19 rfl rfl)
theorem dX1_spring_135 : decode cX1_spring 135 = .ok (.invokeinterface 195 1, 5) := by decide +kernel
theorem dX1_spring_140 : decode cX1_spring 140 = .ok (.ifCond .eq 50, 3) := dk_153 0 50 (dk_at dksX1_spring_6 5 rfl rfl)
theorem dX1_spring_143 : decode cX1_spring 143 = .ok (.aload_n 2, 1) := dk_44 (dk_at dksX1_spring_6 8 rfl rfl)
theorem dX1_spring_144 : decode cX1_spring 144 = .ok (.invokeinterface 201 1, 5) := by decide +kernel
theorem dX1_spring_149 : decode cX1_spring 149 = .ok (.checkcast 116, 3) := dk_192 0 116 (dk_at dksX1_spring_6 14 rfl rfl)
theorem dX1_spring_152 : decode cX1_spring 152 = .ok (.astore_n 3, 1) := dk_78 (dk_at dksX1_spring_6 17 rfl rfl)
theorem dX1_spring_153 : decode cX1_spring 153 = .ok (.aload_n 3, 1) := dk_45 (dk_at dksX1_spring_6 18 rfl rfl)
theorem dX1_spring_154 : decode cX1_spring 154 = .ok (.invokevirtual 372, 3) := dk_182 1 116 (dk_at dksX1_spring_6 19 rfl rfl)
theorem dX1_spring_157 : decode cX1_spring 157 = .ok (.ifCond .eq 30, 3) := dk_153 0 30 (dk_at dksX1_spring_7 0 rfl rfl)
theorem dX1_spring_160 : decode cX1_spring 160 = .ok (.aload_n 3, 1) := dk_45 (dk_at dksX1_spring_7 3 rfl rfl)
theorem dX1_spring_161 : decode cX1_spring 161 = .ok (.getfield 388, 3) := dk_180 1 132 (dk_at dksX1_spring_7 4 rfl rfl)
theorem dX1_spring_164 : decode cX1_spring 164 = .ok (.aload_n 3, 1) := dk_45 (dk_at dksX1_spring_7 7 rfl rfl)
theorem dX1_spring_165 : decode cX1_spring 165 = .ok (.getfield 340, 3) := dk_180 1 84 (dk_at dksX1_spring_7 8 rfl rfl)
theorem dX1_spring_168 : decode cX1_spring 168 = .ok (.if_icmp .ge 19, 3) := dk_162 0 19 (dk_at dksX1_spring_7 11 rfl rfl)
theorem dX1_spring_171 : decode cX1_spring 171 = .ok (.aload_n 0, 1) := dk_42 (dk_at dksX1_spring_7 14 rfl rfl)
theorem dX1_spring_172 : decode cX1_spring 172 = .ok (.invokevirtual 346, 3) := dk_182 1 90 (dk_at dksX1_spring_7 15 rfl rfl)
theorem dX1_spring_175 : decode cX1_spring 175 = .ok (.aload_n 3, 1) := dk_45 (dk_at dksX1_spring_7 18 rfl rfl)
theorem dX1_spring_176 : decode cX1_spring 176 = .ok (.getfield 349, 3) := dk_180 1 93 (dk_at dksX1_spring_7 19 rfl rfl)
theorem dX1_spring_179 : decode cX1_spring 179 = .ok (.if_icmp .le 8, 3) := dk_164 0 8 (dk_at dksX1_spring_8 0 rfl rfl)
theorem dX1_spring_182 : decode cX1_spring 182 = .ok (.aload_n 0, 1) := dk_42 (dk_at dksX1_spring_8 3 rfl rfl)
theorem dX1_spring_183 : decode cX1_spring 183 = .ok (.aload_n 3, 1) := dk_45 (dk_at dksX1_spring_8 4 rfl rfl)
theorem dX1_spring_184 : decode cX1_spring 184 = .ok (.invokevirtual 355, 3) := dk_182 1 99 (dk_at dksX1_spring_8 5 rfl rfl)
theorem dX1_spring_187 : decode cX1_spring 187 = .ok (.goto (-53), 3) := dk_167 255 203 (dk_at dksX1_spring_8 8 rfl rfl)
theorem dX1_spring_190 : decode cX1_spring 190 = .ok (.return_, 1) := dk_177 (dk_at dksX1_spring_8 11 rfl rfl)
abbrev cX1_autumn : ByteArray := prog_1_method_49_code
def yX1_autumn : MethodName := ⟨RX1, "autumn", "(LPublicanry$Lot;)V"⟩
def dkwX1_autumn_3 : List UInt8 := [4, 100, 181, 1, 87, 43, 180, 1, 87, 154, 0, 7, 43, 182, 1, 151, 177]
abbrev dktX1_autumn_3 : List UInt8 := dkwX1_autumn_3 ++ []
def dkwX1_autumn_2 : List UInt8 := [153, 0, 16, 45, 180, 2, 14, 154, 0, 9, 42, 43, 45, 182, 2, 17, 167, 255, 210, 43, 89, 180, 1, 87]
abbrev dktX1_autumn_2 : List UInt8 := dkwX1_autumn_2 ++ dktX1_autumn_3
def dkwX1_autumn_1 : List UInt8 := [153, 0, 43, 44, 185, 0, 201, 1, 0, 192, 0, 108, 78, 43, 180, 1, 119, 45, 180, 0, 129, 184, 0, 132]
abbrev dktX1_autumn_1 : List UInt8 := dkwX1_autumn_1 ++ dktX1_autumn_2
def dkwX1_autumn_0 : List UInt8 := [43, 182, 1, 116, 154, 0, 4, 177, 42, 180, 0, 19, 182, 0, 191, 77, 44, 185, 0, 195, 1, 0]
abbrev dktX1_autumn_0 : List UInt8 := dkwX1_autumn_0 ++ dktX1_autumn_1
theorem dksX1_autumn_0 : cX1_autumn.data.toList.drop 0 = dktX1_autumn_0 := by decide +kernel
theorem dksX1_autumn_1 : cX1_autumn.data.toList.drop 22 = dktX1_autumn_1 := dk_seg dksX1_autumn_0 22 rfl rfl
theorem dksX1_autumn_2 : cX1_autumn.data.toList.drop 46 = dktX1_autumn_2 := dk_seg dksX1_autumn_1 24 rfl rfl
theorem dksX1_autumn_3 : cX1_autumn.data.toList.drop 70 = dktX1_autumn_3 := dk_seg dksX1_autumn_2 24 rfl rfl
theorem dX1_autumn_0 : decode cX1_autumn 0 = .ok (.aload_n 1, 1) := dk_43 (dk_at dksX1_autumn_0 0 rfl rfl)
theorem dX1_autumn_1 : decode cX1_autumn 1 = .ok (.invokevirtual 372, 3) := dk_182 1 116 (dk_at dksX1_autumn_0 1 rfl rfl)
theorem dX1_autumn_4 : decode cX1_autumn 4 = .ok (.ifCond .ne 4, 3) := dk_154 0 4 (dk_at dksX1_autumn_0 4 rfl rfl)
theorem dX1_autumn_7 : decode cX1_autumn 7 = .ok (.return_, 1) := dk_177 (dk_at dksX1_autumn_0 7 rfl rfl)
theorem dX1_autumn_8 : decode cX1_autumn 8 = .ok (.aload_n 0, 1) := dk_42 (dk_at dksX1_autumn_0 8 rfl rfl)
theorem dX1_autumn_9 : decode cX1_autumn 9 = .ok (.getfield 19, 3) := dk_180 0 19 (dk_at dksX1_autumn_0 9 rfl rfl)
theorem dX1_autumn_12 : decode cX1_autumn 12 = .ok (.invokevirtual 191, 3) := dk_182 0 191 (dk_at dksX1_autumn_0 12 rfl rfl)
theorem dX1_autumn_15 : decode cX1_autumn 15 = .ok (.astore_n 2, 1) := dk_77 (dk_at dksX1_autumn_0 15 rfl rfl)
theorem dX1_autumn_16 : decode cX1_autumn 16 = .ok (.aload_n 2, 1) := dk_44 (dk_at dksX1_autumn_0 16 rfl rfl)
theorem dX1_autumn_17 : decode cX1_autumn 17 = .ok (.invokeinterface 195 1, 5) := by decide +kernel
theorem dX1_autumn_22 : decode cX1_autumn 22 = .ok (.ifCond .eq 43, 3) := dk_153 0 43 (dk_at dksX1_autumn_1 0 rfl rfl)
theorem dX1_autumn_25 : decode cX1_autumn 25 = .ok (.aload_n 2, 1) := dk_44 (dk_at dksX1_autumn_1 3 rfl rfl)
theorem dX1_autumn_26 : decode cX1_autumn 26 = .ok (.invokeinterface 201 1, 5) := by decide +kernel
theorem dX1_autumn_31 : decode cX1_autumn 31 = .ok (.checkcast 108, 3) := dk_192 0 108 (dk_at dksX1_autumn_1 9 rfl rfl)
theorem dX1_autumn_34 : decode cX1_autumn 34 = .ok (.astore_n 3, 1) := dk_78 (dk_at dksX1_autumn_1 12 rfl rfl)
theorem dX1_autumn_35 : decode cX1_autumn 35 = .ok (.aload_n 1, 1) := dk_43 (dk_at dksX1_autumn_1 13 rfl rfl)
theorem dX1_autumn_36 : decode cX1_autumn 36 = .ok (.getfield 375, 3) := dk_180 1 119 (dk_at dksX1_autumn_1 14 rfl rfl)
theorem dX1_autumn_39 : decode cX1_autumn 39 = .ok (.aload_n 3, 1) := dk_45 (dk_at dksX1_autumn_1 17 rfl rfl)
theorem dX1_autumn_40 : decode cX1_autumn 40 = .ok (.getfield 129, 3) := dk_180 0 129 (dk_at dksX1_autumn_1 18 rfl rfl)
theorem dX1_autumn_43 : decode cX1_autumn 43 = .ok (.invokestatic 132, 3) := dk_184 0 132 (dk_at dksX1_autumn_1 21 rfl rfl)
theorem dX1_autumn_46 : decode cX1_autumn 46 = .ok (.ifCond .eq 16, 3) := dk_153 0 16 (dk_at dksX1_autumn_2 0 rfl rfl)
theorem dX1_autumn_49 : decode cX1_autumn 49 = .ok (.aload_n 3, 1) := dk_45 (dk_at dksX1_autumn_2 3 rfl rfl)
theorem dX1_autumn_50 : decode cX1_autumn 50 = .ok (.getfield 526, 3) := dk_180 2 14 (dk_at dksX1_autumn_2 4 rfl rfl)
theorem dX1_autumn_53 : decode cX1_autumn 53 = .ok (.ifCond .ne 9, 3) := dk_154 0 9 (dk_at dksX1_autumn_2 7 rfl rfl)
theorem dX1_autumn_56 : decode cX1_autumn 56 = .ok (.aload_n 0, 1) := dk_42 (dk_at dksX1_autumn_2 10 rfl rfl)
theorem dX1_autumn_57 : decode cX1_autumn 57 = .ok (.aload_n 1, 1) := dk_43 (dk_at dksX1_autumn_2 11 rfl rfl)
theorem dX1_autumn_58 : decode cX1_autumn 58 = .ok (.aload_n 3, 1) := dk_45 (dk_at dksX1_autumn_2 12 rfl rfl)
theorem dX1_autumn_59 : decode cX1_autumn 59 = .ok (.invokevirtual 529, 3) := dk_182 2 17 (dk_at dksX1_autumn_2 13 rfl rfl)
theorem dX1_autumn_62 : decode cX1_autumn 62 = .ok (.goto (-46), 3) := dk_167 255 210 (dk_at dksX1_autumn_2 16 rfl rfl)
theorem dX1_autumn_65 : decode cX1_autumn 65 = .ok (.aload_n 1, 1) := dk_43 (dk_at dksX1_autumn_2 19 rfl rfl)
theorem dX1_autumn_66 : decode cX1_autumn 66 = .ok (.dup, 1) := dk_89 (dk_at dksX1_autumn_2 20 rfl rfl)
theorem dX1_autumn_67 : decode cX1_autumn 67 = .ok (.getfield 343, 3) := dk_180 1 87 (dk_at dksX1_autumn_2 21 rfl rfl)
theorem dX1_autumn_70 : decode cX1_autumn 70 = .ok (.iconst 1, 1) := dk_4 (dk_at dksX1_autumn_3 0 rfl rfl)
theorem dX1_autumn_71 : decode cX1_autumn 71 = .ok (.isub, 1) := dk_100 (dk_at dksX1_autumn_3 1 rfl rfl)
theorem dX1_autumn_72 : decode cX1_autumn 72 = .ok (.putfield 343, 3) := dk_181 1 87 (dk_at dksX1_autumn_3 2 rfl rfl)
theorem dX1_autumn_75 : decode cX1_autumn 75 = .ok (.aload_n 1, 1) := dk_43 (dk_at dksX1_autumn_3 5 rfl rfl)
theorem dX1_autumn_76 : decode cX1_autumn 76 = .ok (.getfield 343, 3) := dk_180 1 87 (dk_at dksX1_autumn_3 6 rfl rfl)
theorem dX1_autumn_79 : decode cX1_autumn 79 = .ok (.ifCond .ne 7, 3) := dk_154 0 7 (dk_at dksX1_autumn_3 9 rfl rfl)
theorem dX1_autumn_82 : decode cX1_autumn 82 = .ok (.aload_n 1, 1) := dk_43 (dk_at dksX1_autumn_3 12 rfl rfl)
theorem dX1_autumn_83 : decode cX1_autumn 83 = .ok (.invokevirtual 407, 3) := dk_182 1 151 (dk_at dksX1_autumn_3 13 rfl rfl)
theorem dX1_autumn_86 : decode cX1_autumn 86 = .ok (.return_, 1) := dk_177 (dk_at dksX1_autumn_3 16 rfl rfl)
abbrev cX1_collect : ByteArray := prog_1_method_48_code
def yX1_collect : MethodName := ⟨RX1, "collect", "(LPublicanry$Lot;LPublicanry$Village;)V"⟩
def dkwX1_collect_9 : List UInt8 := [184, 1, 55, 182, 2, 10, 87, 44, 21, 6, 182, 1, 182, 177]
abbrev dktX1_collect_9 : List UInt8 := dkwX1_collect_9 ++ []
def dkwX1_collect_8 : List UInt8 := [182, 1, 90, 21, 8, 21, 10, 42, 44, 43, 180, 1, 245, 182, 2, 5, 43, 180, 1, 15, 183, 2, 9]
abbrev dktX1_collect_8 : List UInt8 := dkwX1_collect_8 ++ dktX1_collect_9
def dkwX1_collect_7 : List UInt8 := [180, 1, 245, 21, 10, 182, 1, 198, 96, 181, 2, 2, 44, 180, 1, 161, 21, 4, 187, 1, 154, 89, 42]
abbrev dktX1_collect_7 : List UInt8 := dkwX1_collect_7 ++ dktX1_collect_8
def dkwX1_collect_6 : List UInt8 := [180, 0, 40, 45, 180, 0, 242, 43, 180, 1, 121, 44, 180, 0, 129, 46, 182, 0, 182, 167, 0, 12, 43]
abbrev dktX1_collect_6 : List UInt8 := dkwX1_collect_6 ++ dktX1_collect_7
def dkwX1_collect_5 : List UInt8 := [25, 9, 42, 180, 0, 40, 4, 182, 1, 254, 54, 10, 45, 89, 180, 2, 2, 21, 5, 153, 0, 26, 42]
abbrev dktX1_collect_5 : List UInt8 := dkwX1_collect_5 ++ dktX1_collect_6
def dkwX1_collect_4 : List UInt8 := [43, 180, 1, 245, 44, 44, 21, 8, 21, 6, 182, 1, 251, 21, 6, 5, 161, 0, 7, 4, 167, 0, 4, 3]
abbrev dktX1_collect_4 : List UInt8 := dkwX1_collect_4 ++ dktX1_collect_5
def dkwX1_collect_3 : List UInt8 := [16, 8, 108, 96, 54, 8, 21, 5, 153, 0, 10, 42, 180, 0, 40, 167, 0, 7, 45, 180, 0, 242, 58, 9]
abbrev dktX1_collect_3 : List UInt8 := dkwX1_collect_3 ++ dktX1_collect_4
def dkwX1_collect_2 : List UInt8 := [45, 180, 1, 113, 54, 6, 44, 43, 180, 1, 245, 182, 1, 248, 54, 7, 21, 7, 21, 7, 21, 6, 104]
abbrev dktX1_collect_2 : List UInt8 := dkwX1_collect_2 ++ dktX1_collect_3
def dkwX1_collect_1 : List UInt8 := [44, 180, 0, 129, 46, 158, 0, 7, 4, 167, 0, 4, 3, 54, 5, 21, 5, 153, 0, 7, 6, 167, 0, 7]
abbrev dktX1_collect_1 : List UInt8 := dkwX1_collect_1 ++ dktX1_collect_2
def dkwX1_collect_0 : List UInt8 := [43, 180, 1, 65, 182, 1, 73, 192, 0, 112, 78, 43, 180, 1, 245, 182, 0, 123, 54, 4, 43, 180, 1, 121]
abbrev dktX1_collect_0 : List UInt8 := dkwX1_collect_0 ++ dktX1_collect_1
theorem dksX1_collect_0 : cX1_collect.data.toList.drop 0 = dktX1_collect_0 := by decide +kernel
theorem dksX1_collect_1 : cX1_collect.data.toList.drop 24 = dktX1_collect_1 := dk_seg dksX1_collect_0 24 rfl rfl
theorem dksX1_collect_2 : cX1_collect.data.toList.drop 48 = dktX1_collect_2 := dk_seg dksX1_collect_1 24 rfl rfl
theorem dksX1_collect_3 : cX1_collect.data.toList.drop 71 = dktX1_collect_3 := dk_seg dksX1_collect_2 23 rfl rfl
theorem dksX1_collect_4 : cX1_collect.data.toList.drop 95 = dktX1_collect_4 := dk_seg dksX1_collect_3 24 rfl rfl
theorem dksX1_collect_5 : cX1_collect.data.toList.drop 119 = dktX1_collect_5 := dk_seg dksX1_collect_4 24 rfl rfl
theorem dksX1_collect_6 : cX1_collect.data.toList.drop 142 = dktX1_collect_6 := dk_seg dksX1_collect_5 23 rfl rfl
theorem dksX1_collect_7 : cX1_collect.data.toList.drop 165 = dktX1_collect_7 := dk_seg dksX1_collect_6 23 rfl rfl
theorem dksX1_collect_8 : cX1_collect.data.toList.drop 188 = dktX1_collect_8 := dk_seg dksX1_collect_7 23 rfl rfl
theorem dksX1_collect_9 : cX1_collect.data.toList.drop 211 = dktX1_collect_9 := dk_seg dksX1_collect_8 23 rfl rfl
theorem dX1_collect_0 : decode cX1_collect 0 = .ok (.aload_n 1, 1) := dk_43 (dk_at dksX1_collect_0 0 rfl rfl)
theorem dX1_collect_1 : decode cX1_collect 1 = .ok (.getfield 321, 3) := dk_180 1 65 (dk_at dksX1_collect_0 1 rfl rfl)
theorem dX1_collect_4 : decode cX1_collect 4 = .ok (.invokevirtual 329, 3) := dk_182 1 73 (dk_at dksX1_collect_0 4 rfl rfl)
theorem dX1_collect_7 : decode cX1_collect 7 = .ok (.checkcast 112, 3) := dk_192 0 112 (dk_at dksX1_collect_0 7 rfl rfl)
theorem dX1_collect_10 : decode cX1_collect 10 = .ok (.astore_n 3, 1) := dk_78 (dk_at dksX1_collect_0 10 rfl rfl)
theorem dX1_collect_11 : decode cX1_collect 11 = .ok (.aload_n 1, 1) := dk_43 (dk_at dksX1_collect_0 11 rfl rfl)
theorem dX1_collect_12 : decode cX1_collect 12 = .ok (.getfield 501, 3) := dk_180 1 245 (dk_at dksX1_collect_0 12 rfl rfl)
theorem dX1_collect_15 : decode cX1_collect 15 = .ok (.invokevirtual 123, 3) := dk_182 0 123 (dk_at dksX1_collect_0 15 rfl rfl)
theorem dX1_collect_18 : decode cX1_collect 18 = .ok (.istore 4, 2) := dk_54 4 (dk_at dksX1_collect_0 18 rfl rfl)
theorem dX1_collect_20 : decode cX1_collect 20 = .ok (.aload_n 1, 1) := dk_43 (dk_at dksX1_collect_0 20 rfl rfl)
theorem dX1_collect_21 : decode cX1_collect 21 = .ok (.getfield 377, 3) := dk_180 1 121 (dk_at dksX1_collect_0 21 rfl rfl)
theorem dX1_collect_24 : decode cX1_collect 24 = .ok (.aload_n 2, 1) := dk_44 (dk_at dksX1_collect_1 0 rfl rfl)
theorem dX1_collect_25 : decode cX1_collect 25 = .ok (.getfield 129, 3) := dk_180 0 129 (dk_at dksX1_collect_1 1 rfl rfl)
theorem dX1_collect_28 : decode cX1_collect 28 = .ok (.iaload, 1) := dk_46 (dk_at dksX1_collect_1 4 rfl rfl)
theorem dX1_collect_29 : decode cX1_collect 29 = .ok (.ifCond .le 7, 3) := dk_158 0 7 (dk_at dksX1_collect_1 5 rfl rfl)
theorem dX1_collect_32 : decode cX1_collect 32 = .ok (.iconst 1, 1) := dk_4 (dk_at dksX1_collect_1 8 rfl rfl)
theorem dX1_collect_33 : decode cX1_collect 33 = .ok (.goto 4, 3) := dk_167 0 4 (dk_at dksX1_collect_1 9 rfl rfl)
theorem dX1_collect_36 : decode cX1_collect 36 = .ok (.iconst 0, 1) := dk_3 (dk_at dksX1_collect_1 12 rfl rfl)
theorem dX1_collect_37 : decode cX1_collect 37 = .ok (.istore 5, 2) := dk_54 5 (dk_at dksX1_collect_1 13 rfl rfl)
theorem dX1_collect_39 : decode cX1_collect 39 = .ok (.iload 5, 2) := dk_21 5 (dk_at dksX1_collect_1 15 rfl rfl)
theorem dX1_collect_41 : decode cX1_collect 41 = .ok (.ifCond .eq 7, 3) := dk_153 0 7 (dk_at dksX1_collect_1 17 rfl rfl)
theorem dX1_collect_44 : decode cX1_collect 44 = .ok (.iconst 3, 1) := dk_6 (dk_at dksX1_collect_1 20 rfl rfl)
theorem dX1_collect_45 : decode cX1_collect 45 = .ok (.goto 7, 3) := dk_167 0 7 (dk_at dksX1_collect_1 21 rfl rfl)
theorem dX1_collect_48 : decode cX1_collect 48 = .ok (.aload_n 3, 1) := dk_45 (dk_at dksX1_collect_2 0 rfl rfl)
theorem dX1_collect_49 : decode cX1_collect 49 = .ok (.getfield 369, 3) := dk_180 1 113 (dk_at dksX1_collect_2 1 rfl rfl)
theorem dX1_collect_52 : decode cX1_collect 52 = .ok (.istore 6, 2) := dk_54 6 (dk_at dksX1_collect_2 4 rfl rfl)
theorem dX1_collect_54 : decode cX1_collect 54 = .ok (.aload_n 2, 1) := dk_44 (dk_at dksX1_collect_2 6 rfl rfl)
theorem dX1_collect_55 : decode cX1_collect 55 = .ok (.aload_n 1, 1) := dk_43 (dk_at dksX1_collect_2 7 rfl rfl)
theorem dX1_collect_56 : decode cX1_collect 56 = .ok (.getfield 501, 3) := dk_180 1 245 (dk_at dksX1_collect_2 8 rfl rfl)
theorem dX1_collect_59 : decode cX1_collect 59 = .ok (.invokevirtual 504, 3) := dk_182 1 248 (dk_at dksX1_collect_2 11 rfl rfl)
theorem dX1_collect_62 : decode cX1_collect 62 = .ok (.istore 7, 2) := dk_54 7 (dk_at dksX1_collect_2 14 rfl rfl)
theorem dX1_collect_64 : decode cX1_collect 64 = .ok (.iload 7, 2) := dk_21 7 (dk_at dksX1_collect_2 16 rfl rfl)
theorem dX1_collect_66 : decode cX1_collect 66 = .ok (.iload 7, 2) := dk_21 7 (dk_at dksX1_collect_2 18 rfl rfl)
theorem dX1_collect_68 : decode cX1_collect 68 = .ok (.iload 6, 2) := dk_21 6 (dk_at dksX1_collect_2 20 rfl rfl)
theorem dX1_collect_70 : decode cX1_collect 70 = .ok (.imul, 1) := dk_104 (dk_at dksX1_collect_2 22 rfl rfl)
theorem dX1_collect_71 : decode cX1_collect 71 = .ok (.bipush 8, 2) := dk_16 8 (dk_at dksX1_collect_3 0 rfl rfl)
theorem dX1_collect_73 : decode cX1_collect 73 = .ok (.idiv, 1) := dk_108 (dk_at dksX1_collect_3 2 rfl rfl)
theorem dX1_collect_74 : decode cX1_collect 74 = .ok (.iadd, 1) := dk_96 (dk_at dksX1_collect_3 3 rfl rfl)
theorem dX1_collect_75 : decode cX1_collect 75 = .ok (.istore 8, 2) := dk_54 8 (dk_at dksX1_collect_3 4 rfl rfl)
theorem dX1_collect_77 : decode cX1_collect 77 = .ok (.iload 5, 2) := dk_21 5 (dk_at dksX1_collect_3 6 rfl rfl)
theorem dX1_collect_79 : decode cX1_collect 79 = .ok (.ifCond .eq 10, 3) := dk_153 0 10 (dk_at dksX1_collect_3 8 rfl rfl)
theorem dX1_collect_82 : decode cX1_collect 82 = .ok (.aload_n 0, 1) := dk_42 (dk_at dksX1_collect_3 11 rfl rfl)
theorem dX1_collect_83 : decode cX1_collect 83 = .ok (.getfield 40, 3) := dk_180 0 40 (dk_at dksX1_collect_3 12 rfl rfl)
theorem dX1_collect_86 : decode cX1_collect 86 = .ok (.goto 7, 3) := dk_167 0 7 (dk_at dksX1_collect_3 15 rfl rfl)
theorem dX1_collect_89 : decode cX1_collect 89 = .ok (.aload_n 3, 1) := dk_45 (dk_at dksX1_collect_3 18 rfl rfl)
theorem dX1_collect_90 : decode cX1_collect 90 = .ok (.getfield 242, 3) := dk_180 0 242 (dk_at dksX1_collect_3 19 rfl rfl)
theorem dX1_collect_93 : decode cX1_collect 93 = .ok (.astore 9, 2) := dk_58 9 (dk_at dksX1_collect_3 22 rfl rfl)
theorem dX1_collect_95 : decode cX1_collect 95 = .ok (.aload_n 1, 1) := dk_43 (dk_at dksX1_collect_4 0 rfl rfl)
theorem dX1_collect_96 : decode cX1_collect 96 = .ok (.getfield 501, 3) := dk_180 1 245 (dk_at dksX1_collect_4 1 rfl rfl)
theorem dX1_collect_99 : decode cX1_collect 99 = .ok (.aload_n 2, 1) := dk_44 (dk_at dksX1_collect_4 4 rfl rfl)
theorem dX1_collect_100 : decode cX1_collect 100 = .ok (.aload_n 2, 1) := dk_44 (dk_at dksX1_collect_4 5 rfl rfl)
theorem dX1_collect_101 : decode cX1_collect 101 = .ok (.iload 8, 2) := dk_21 8 (dk_at dksX1_collect_4 6 rfl rfl)
theorem dX1_collect_103 : decode cX1_collect 103 = .ok (.iload 6, 2) := dk_21 6 (dk_at dksX1_collect_4 8 rfl rfl)
theorem dX1_collect_105 : decode cX1_collect 105 = .ok (.invokevirtual 507, 3) := dk_182 1 251 (dk_at dksX1_collect_4 10 rfl rfl)
theorem dX1_collect_108 : decode cX1_collect 108 = .ok (.iload 6, 2) := dk_21 6 (dk_at dksX1_collect_4 13 rfl rfl)
theorem dX1_collect_110 : decode cX1_collect 110 = .ok (.iconst 2, 1) := dk_5 (dk_at dksX1_collect_4 15 rfl rfl)
theorem dX1_collect_111 : decode cX1_collect 111 = .ok (.if_icmp .lt 7, 3) := dk_161 0 7 (dk_at dksX1_collect_4 16 rfl rfl)
theorem dX1_collect_114 : decode cX1_collect 114 = .ok (.iconst 1, 1) := dk_4 (dk_at dksX1_collect_4 19 rfl rfl)
theorem dX1_collect_115 : decode cX1_collect 115 = .ok (.goto 4, 3) := dk_167 0 4 (dk_at dksX1_collect_4 20 rfl rfl)
theorem dX1_collect_118 : decode cX1_collect 118 = .ok (.iconst 0, 1) := dk_3 (dk_at dksX1_collect_4 23 rfl rfl)
theorem dX1_collect_119 : decode cX1_collect 119 = .ok (.aload 9, 2) := dk_25 9 (dk_at dksX1_collect_5 0 rfl rfl)
theorem dX1_collect_121 : decode cX1_collect 121 = .ok (.aload_n 0, 1) := dk_42 (dk_at dksX1_collect_5 2 rfl rfl)
theorem dX1_collect_122 : decode cX1_collect 122 = .ok (.getfield 40, 3) := dk_180 0 40 (dk_at dksX1_collect_5 3 rfl rfl)
theorem dX1_collect_125 : decode cX1_collect 125 = .ok (.iconst 1, 1) := dk_4 (dk_at dksX1_collect_5 6 rfl rfl)
theorem dX1_collect_126 : decode cX1_collect 126 = .ok (.invokevirtual 510, 3) := dk_182 1 254 (dk_at dksX1_collect_5 7 rfl rfl)
theorem dX1_collect_129 : decode cX1_collect 129 = .ok (.istore 10, 2) := dk_54 10 (dk_at dksX1_collect_5 10 rfl rfl)
theorem dX1_collect_131 : decode cX1_collect 131 = .ok (.aload_n 3, 1) := dk_45 (dk_at dksX1_collect_5 12 rfl rfl)
theorem dX1_collect_132 : decode cX1_collect 132 = .ok (.dup, 1) := dk_89 (dk_at dksX1_collect_5 13 rfl rfl)
theorem dX1_collect_133 : decode cX1_collect 133 = .ok (.getfield 514, 3) := dk_180 2 2 (dk_at dksX1_collect_5 14 rfl rfl)
theorem dX1_collect_136 : decode cX1_collect 136 = .ok (.iload 5, 2) := dk_21 5 (dk_at dksX1_collect_5 17 rfl rfl)
theorem dX1_collect_138 : decode cX1_collect 138 = .ok (.ifCond .eq 26, 3) := dk_153 0 26 (dk_at dksX1_collect_5 19 rfl rfl)
theorem dX1_collect_141 : decode cX1_collect 141 = .ok (.aload_n 0, 1) := dk_42 (dk_at dksX1_collect_5 22 rfl rfl)
theorem dX1_collect_142 : decode cX1_collect 142 = .ok (.getfield 40, 3) := dk_180 0 40 (dk_at dksX1_collect_6 0 rfl rfl)
theorem dX1_collect_145 : decode cX1_collect 145 = .ok (.aload_n 3, 1) := dk_45 (dk_at dksX1_collect_6 3 rfl rfl)
theorem dX1_collect_146 : decode cX1_collect 146 = .ok (.getfield 242, 3) := dk_180 0 242 (dk_at dksX1_collect_6 4 rfl rfl)
theorem dX1_collect_149 : decode cX1_collect 149 = .ok (.aload_n 1, 1) := dk_43 (dk_at dksX1_collect_6 7 rfl rfl)
theorem dX1_collect_150 : decode cX1_collect 150 = .ok (.getfield 377, 3) := dk_180 1 121 (dk_at dksX1_collect_6 8 rfl rfl)
theorem dX1_collect_153 : decode cX1_collect 153 = .ok (.aload_n 2, 1) := dk_44 (dk_at dksX1_collect_6 11 rfl rfl)
theorem dX1_collect_154 : decode cX1_collect 154 = .ok (.getfield 129, 3) := dk_180 0 129 (dk_at dksX1_collect_6 12 rfl rfl)
theorem dX1_collect_157 : decode cX1_collect 157 = .ok (.iaload, 1) := dk_46 (dk_at dksX1_collect_6 15 rfl rfl)
theorem dX1_collect_158 : decode cX1_collect 158 = .ok (.invokevirtual 182, 3) := dk_182 0 182 (dk_at dksX1_collect_6 16 rfl rfl)
theorem dX1_collect_161 : decode cX1_collect 161 = .ok (.goto 12, 3) := dk_167 0 12 (dk_at dksX1_collect_6 19 rfl rfl)
theorem dX1_collect_164 : decode cX1_collect 164 = .ok (.aload_n 1, 1) := dk_43 (dk_at dksX1_collect_6 22 rfl rfl)
theorem dX1_collect_165 : decode cX1_collect 165 = .ok (.getfield 501, 3) := dk_180 1 245 (dk_at dksX1_collect_7 0 rfl rfl)
theorem dX1_collect_168 : decode cX1_collect 168 = .ok (.iload 10, 2) := dk_21 10 (dk_at dksX1_collect_7 3 rfl rfl)
theorem dX1_collect_170 : decode cX1_collect 170 = .ok (.invokevirtual 454, 3) := dk_182 1 198 (dk_at dksX1_collect_7 5 rfl rfl)
theorem dX1_collect_173 : decode cX1_collect 173 = .ok (.iadd, 1) := dk_96 (dk_at dksX1_collect_7 8 rfl rfl)
theorem dX1_collect_174 : decode cX1_collect 174 = .ok (.putfield 514, 3) := dk_181 2 2 (dk_at dksX1_collect_7 9 rfl rfl)
theorem dX1_collect_177 : decode cX1_collect 177 = .ok (.aload_n 2, 1) := dk_44 (dk_at dksX1_collect_7 12 rfl rfl)
theorem dX1_collect_178 : decode cX1_collect 178 = .ok (.getfield 417, 3) := dk_180 1 161 (dk_at dksX1_collect_7 13 rfl rfl)
theorem dX1_collect_181 : decode cX1_collect 181 = .ok (.iload 4, 2) := dk_21 4 (dk_at dksX1_collect_7 16 rfl rfl)
theorem dX1_collect_183 : decode cX1_collect 183 = .ok (.new 410, 3) := dk_187 1 154 (dk_at dksX1_collect_7 18 rfl rfl)
theorem dX1_collect_186 : decode cX1_collect 186 = .ok (.dup, 1) := dk_89 (dk_at dksX1_collect_7 21 rfl rfl)
theorem dX1_collect_187 : decode cX1_collect 187 = .ok (.aload_n 0, 1) := dk_42 (dk_at dksX1_collect_7 22 rfl rfl)
theorem dX1_collect_188 : decode cX1_collect 188 = .ok (.invokevirtual 346, 3) := dk_182 1 90 (dk_at dksX1_collect_8 0 rfl rfl)
theorem dX1_collect_191 : decode cX1_collect 191 = .ok (.iload 8, 2) := dk_21 8 (dk_at dksX1_collect_8 3 rfl rfl)
theorem dX1_collect_193 : decode cX1_collect 193 = .ok (.iload 10, 2) := dk_21 10 (dk_at dksX1_collect_8 5 rfl rfl)
theorem dX1_collect_195 : decode cX1_collect 195 = .ok (.aload_n 0, 1) := dk_42 (dk_at dksX1_collect_8 7 rfl rfl)
theorem dX1_collect_196 : decode cX1_collect 196 = .ok (.aload_n 2, 1) := dk_44 (dk_at dksX1_collect_8 8 rfl rfl)
theorem dX1_collect_197 : decode cX1_collect 197 = .ok (.aload_n 1, 1) := dk_43 (dk_at dksX1_collect_8 9 rfl rfl)
theorem dX1_collect_198 : decode cX1_collect 198 = .ok (.getfield 501, 3) := dk_180 1 245 (dk_at dksX1_collect_8 10 rfl rfl)
theorem dX1_collect_201 : decode cX1_collect 201 = .ok (.invokevirtual 517, 3) := dk_182 2 5 (dk_at dksX1_collect_8 13 rfl rfl)
theorem dX1_collect_204 : decode cX1_collect 204 = .ok (.aload_n 1, 1) := dk_43 (dk_at dksX1_collect_8 16 rfl rfl)
theorem dX1_collect_205 : decode cX1_collect 205 = .ok (.getfield 271, 3) := dk_180 1 15 (dk_at dksX1_collect_8 17 rfl rfl)
theorem dX1_collect_208 : decode cX1_collect 208 = .ok (.invokespecial 521, 3) := dk_183 2 9 (dk_at dksX1_collect_8 20 rfl rfl)
theorem dX1_collect_211 : decode cX1_collect 211 = .ok (.invokestatic 311, 3) := dk_184 1 55 (dk_at dksX1_collect_9 0 rfl rfl)
theorem dX1_collect_214 : decode cX1_collect 214 = .ok (.invokevirtual 522, 3) := dk_182 2 10 (dk_at dksX1_collect_9 3 rfl rfl)
theorem dX1_collect_217 : decode cX1_collect 217 = .ok (.pop, 1) := dk_87 (dk_at dksX1_collect_9 6 rfl rfl)
theorem dX1_collect_218 : decode cX1_collect 218 = .ok (.aload_n 2, 1) := dk_44 (dk_at dksX1_collect_9 7 rfl rfl)
theorem dX1_collect_219 : decode cX1_collect 219 = .ok (.iload 6, 2) := dk_21 6 (dk_at dksX1_collect_9 8 rfl rfl)
theorem dX1_collect_221 : decode cX1_collect 221 = .ok (.invokevirtual 438, 3) := dk_182 1 182 (dk_at dksX1_collect_9 10 rfl rfl)
theorem dX1_collect_224 : decode cX1_collect 224 = .ok (.return_, 1) := dk_177 (dk_at dksX1_collect_9 13 rfl rfl)
abbrev cX1_clerks_2 : ByteArray := prog_1_method_51_code
def yX1_clerks_2 : MethodName := ⟨RX1, "clerks", "(LPublicanry$Duty;)V"⟩
def dkwX1_clerks_2_5 : List UInt8 := [180, 0, 40, 4, 182, 1, 254, 182, 1, 198, 96, 181, 2, 25, 167, 255, 142, 177]
abbrev dktX1_clerks_2_5 : List UInt8 := dkwX1_clerks_2_5 ++ []
def dkwX1_clerks_2_4 : List UInt8 := [43, 43, 25, 4, 25, 4, 42, 25, 4, 43, 182, 2, 5, 4, 182, 1, 251, 3, 42, 180, 0, 47, 42]
abbrev dktX1_clerks_2_4 : List UInt8 := dkwX1_clerks_2_4 ++ dktX1_clerks_2_5
def dkwX1_clerks_2_3 : List UInt8 := [154, 0, 6, 167, 255, 200, 42, 180, 0, 47, 42, 180, 0, 40, 7, 182, 0, 182, 87, 44, 89, 180, 2, 25]
abbrev dktX1_clerks_2_3 : List UInt8 := dkwX1_clerks_2_3 ++ dktX1_clerks_2_4
def dkwX1_clerks_2_2 : List UInt8 := [43, 182, 2, 21, 154, 255, 222, 25, 4, 180, 2, 14, 154, 255, 214, 42, 180, 0, 47, 7, 182, 0, 250]
abbrev dktX1_clerks_2_2 : List UInt8 := dkwX1_clerks_2_2 ++ dktX1_clerks_2_3
def dkwX1_clerks_2_1 : List UInt8 := [153, 0, 111, 45, 185, 0, 201, 1, 0, 192, 0, 108, 58, 4, 44, 180, 1, 236, 153, 255, 232, 42, 25, 4]
abbrev dktX1_clerks_2_1 : List UInt8 := dkwX1_clerks_2_1 ++ dktX1_clerks_2_2
def dkwX1_clerks_2_0 : List UInt8 := [42, 180, 0, 33, 43, 182, 0, 123, 50, 77, 42, 180, 0, 19, 182, 0, 191, 78, 45, 185, 0, 195, 1, 0]
abbrev dktX1_clerks_2_0 : List UInt8 := dkwX1_clerks_2_0 ++ dktX1_clerks_2_1
theorem dksX1_clerks_2_0 : cX1_clerks_2.data.toList.drop 0 = dktX1_clerks_2_0 := by decide +kernel
theorem dksX1_clerks_2_1 : cX1_clerks_2.data.toList.drop 24 = dktX1_clerks_2_1 := dk_seg dksX1_clerks_2_0 24 rfl rfl
theorem dksX1_clerks_2_2 : cX1_clerks_2.data.toList.drop 48 = dktX1_clerks_2_2 := dk_seg dksX1_clerks_2_1 24 rfl rfl
theorem dksX1_clerks_2_3 : cX1_clerks_2.data.toList.drop 71 = dktX1_clerks_2_3 := dk_seg dksX1_clerks_2_2 23 rfl rfl
theorem dksX1_clerks_2_4 : cX1_clerks_2.data.toList.drop 95 = dktX1_clerks_2_4 := dk_seg dksX1_clerks_2_3 24 rfl rfl
theorem dksX1_clerks_2_5 : cX1_clerks_2.data.toList.drop 118 = dktX1_clerks_2_5 := dk_seg dksX1_clerks_2_4 23 rfl rfl
theorem dX1_clerks_2_0 : decode cX1_clerks_2 0 = .ok (.aload_n 0, 1) := dk_42 (dk_at dksX1_clerks_2_0 0 rfl rfl)
theorem dX1_clerks_2_1 : decode cX1_clerks_2 1 = .ok (.getfield 33, 3) := dk_180 0 33 (dk_at dksX1_clerks_2_0 1 rfl rfl)
theorem dX1_clerks_2_4 : decode cX1_clerks_2 4 = .ok (.aload_n 1, 1) := dk_43 (dk_at dksX1_clerks_2_0 4 rfl rfl)
theorem dX1_clerks_2_5 : decode cX1_clerks_2 5 = .ok (.invokevirtual 123, 3) := dk_182 0 123 (dk_at dksX1_clerks_2_0 5 rfl rfl)
theorem dX1_clerks_2_8 : decode cX1_clerks_2 8 = .ok (.aaload, 1) := dk_50 (dk_at dksX1_clerks_2_0 8 rfl rfl)
theorem dX1_clerks_2_9 : decode cX1_clerks_2 9 = .ok (.astore_n 2, 1) := dk_77 (dk_at dksX1_clerks_2_0 9 rfl rfl)
theorem dX1_clerks_2_10 : decode cX1_clerks_2 10 = .ok (.aload_n 0, 1) := dk_42 (dk_at dksX1_clerks_2_0 10 rfl rfl)
theorem dX1_clerks_2_11 : decode cX1_clerks_2 11 = .ok (.getfield 19, 3) := dk_180 0 19 (dk_at dksX1_clerks_2_0 11 rfl rfl)
theorem dX1_clerks_2_14 : decode cX1_clerks_2 14 = .ok (.invokevirtual 191, 3) := dk_182 0 191 (dk_at dksX1_clerks_2_0 14 rfl rfl)
theorem dX1_clerks_2_17 : decode cX1_clerks_2 17 = .ok (.astore_n 3, 1) := dk_78 (dk_at dksX1_clerks_2_0 17 rfl rfl)
theorem dX1_clerks_2_18 : decode cX1_clerks_2 18 = .ok (.aload_n 3, 1) := dk_45 (dk_at dksX1_clerks_2_0 18 rfl rfl)
theorem dX1_clerks_2_19 : decode cX1_clerks_2 19 = .ok (.invokeinterface 195 1, 5) := by decide +kernel
theorem dX1_clerks_2_24 : decode cX1_clerks_2 24 = .ok (.ifCond .eq 111, 3) := dk_153 0 111 (dk_at dksX1_clerks_2_1 0 rfl rfl)
theorem dX1_clerks_2_27 : decode cX1_clerks_2 27 = .ok (.aload_n 3, 1) := dk_45 (dk_at dksX1_clerks_2_1 3 rfl rfl)
theorem dX1_clerks_2_28 : decode cX1_clerks_2 28 = .ok (.invokeinterface 201 1, 5) := by decide +kernel
theorem dX1_clerks_2_33 : decode cX1_clerks_2 33 = .ok (.checkcast 108, 3) := dk_192 0 108 (dk_at dksX1_clerks_2_1 9 rfl rfl)
theorem dX1_clerks_2_36 : decode cX1_clerks_2 36 = .ok (.astore 4, 2) := dk_58 4 (dk_at dksX1_clerks_2_1 12 rfl rfl)
theorem dX1_clerks_2_38 : decode cX1_clerks_2 38 = .ok (.aload_n 2, 1) := dk_44 (dk_at dksX1_clerks_2_1 14 rfl rfl)
theorem dX1_clerks_2_39 : decode cX1_clerks_2 39 = .ok (.getfield 492, 3) := dk_180 1 236 (dk_at dksX1_clerks_2_1 15 rfl rfl)
theorem dX1_clerks_2_42 : decode cX1_clerks_2 42 = .ok (.ifCond .eq (-24), 3) := dk_153 255 232 (dk_at dksX1_clerks_2_1 18 rfl rfl)
theorem dX1_clerks_2_45 : decode cX1_clerks_2 45 = .ok (.aload_n 0, 1) := dk_42 (dk_at dksX1_clerks_2_1 21 rfl rfl)
theorem dX1_clerks_2_46 : decode cX1_clerks_2 46 = .ok (.aload 4, 2) := dk_25 4 (dk_at dksX1_clerks_2_1 22 rfl rfl)
theorem dX1_clerks_2_48 : decode cX1_clerks_2 48 = .ok (.aload_n 1, 1) := dk_43 (dk_at dksX1_clerks_2_2 0 rfl rfl)
theorem dX1_clerks_2_49 : decode cX1_clerks_2 49 = .ok (.invokevirtual 533, 3) := dk_182 2 21 (dk_at dksX1_clerks_2_2 1 rfl rfl)
theorem dX1_clerks_2_52 : decode cX1_clerks_2 52 = .ok (.ifCond .ne (-34), 3) := dk_154 255 222 (dk_at dksX1_clerks_2_2 4 rfl rfl)
theorem dX1_clerks_2_55 : decode cX1_clerks_2 55 = .ok (.aload 4, 2) := dk_25 4 (dk_at dksX1_clerks_2_2 7 rfl rfl)
theorem dX1_clerks_2_57 : decode cX1_clerks_2 57 = .ok (.getfield 526, 3) := dk_180 2 14 (dk_at dksX1_clerks_2_2 9 rfl rfl)
theorem dX1_clerks_2_60 : decode cX1_clerks_2 60 = .ok (.ifCond .ne (-42), 3) := dk_154 255 214 (dk_at dksX1_clerks_2_2 12 rfl rfl)
theorem dX1_clerks_2_63 : decode cX1_clerks_2 63 = .ok (.aload_n 0, 1) := dk_42 (dk_at dksX1_clerks_2_2 15 rfl rfl)
theorem dX1_clerks_2_64 : decode cX1_clerks_2 64 = .ok (.getfield 47, 3) := dk_180 0 47 (dk_at dksX1_clerks_2_2 16 rfl rfl)
theorem dX1_clerks_2_67 : decode cX1_clerks_2 67 = .ok (.iconst 4, 1) := dk_7 (dk_at dksX1_clerks_2_2 19 rfl rfl)
theorem dX1_clerks_2_68 : decode cX1_clerks_2 68 = .ok (.invokevirtual 250, 3) := dk_182 0 250 (dk_at dksX1_clerks_2_2 20 rfl rfl)
theorem dX1_clerks_2_71 : decode cX1_clerks_2 71 = .ok (.ifCond .ne 6, 3) := dk_154 0 6 (dk_at dksX1_clerks_2_3 0 rfl rfl)
theorem dX1_clerks_2_74 : decode cX1_clerks_2 74 = .ok (.goto (-56), 3) := dk_167 255 200 (dk_at dksX1_clerks_2_3 3 rfl rfl)
theorem dX1_clerks_2_77 : decode cX1_clerks_2 77 = .ok (.aload_n 0, 1) := dk_42 (dk_at dksX1_clerks_2_3 6 rfl rfl)
theorem dX1_clerks_2_78 : decode cX1_clerks_2 78 = .ok (.getfield 47, 3) := dk_180 0 47 (dk_at dksX1_clerks_2_3 7 rfl rfl)
theorem dX1_clerks_2_81 : decode cX1_clerks_2 81 = .ok (.aload_n 0, 1) := dk_42 (dk_at dksX1_clerks_2_3 10 rfl rfl)
theorem dX1_clerks_2_82 : decode cX1_clerks_2 82 = .ok (.getfield 40, 3) := dk_180 0 40 (dk_at dksX1_clerks_2_3 11 rfl rfl)
theorem dX1_clerks_2_85 : decode cX1_clerks_2 85 = .ok (.iconst 4, 1) := dk_7 (dk_at dksX1_clerks_2_3 14 rfl rfl)
theorem dX1_clerks_2_86 : decode cX1_clerks_2 86 = .ok (.invokevirtual 182, 3) := dk_182 0 182 (dk_at dksX1_clerks_2_3 15 rfl rfl)
theorem dX1_clerks_2_89 : decode cX1_clerks_2 89 = .ok (.pop, 1) := dk_87 (dk_at dksX1_clerks_2_3 18 rfl rfl)
theorem dX1_clerks_2_90 : decode cX1_clerks_2 90 = .ok (.aload_n 2, 1) := dk_44 (dk_at dksX1_clerks_2_3 19 rfl rfl)
theorem dX1_clerks_2_91 : decode cX1_clerks_2 91 = .ok (.dup, 1) := dk_89 (dk_at dksX1_clerks_2_3 20 rfl rfl)
theorem dX1_clerks_2_92 : decode cX1_clerks_2 92 = .ok (.getfield 537, 3) := dk_180 2 25 (dk_at dksX1_clerks_2_3 21 rfl rfl)
theorem dX1_clerks_2_95 : decode cX1_clerks_2 95 = .ok (.aload_n 1, 1) := dk_43 (dk_at dksX1_clerks_2_4 0 rfl rfl)
theorem dX1_clerks_2_96 : decode cX1_clerks_2 96 = .ok (.aload_n 1, 1) := dk_43 (dk_at dksX1_clerks_2_4 1 rfl rfl)
theorem dX1_clerks_2_97 : decode cX1_clerks_2 97 = .ok (.aload 4, 2) := dk_25 4 (dk_at dksX1_clerks_2_4 2 rfl rfl)
theorem dX1_clerks_2_99 : decode cX1_clerks_2 99 = .ok (.aload 4, 2) := dk_25 4 (dk_at dksX1_clerks_2_4 4 rfl rfl)
theorem dX1_clerks_2_101 : decode cX1_clerks_2 101 = .ok (.aload_n 0, 1) := dk_42 (dk_at dksX1_clerks_2_4 6 rfl rfl)
theorem dX1_clerks_2_102 : decode cX1_clerks_2 102 = .ok (.aload 4, 2) := dk_25 4 (dk_at dksX1_clerks_2_4 7 rfl rfl)
theorem dX1_clerks_2_104 : decode cX1_clerks_2 104 = .ok (.aload_n 1, 1) := dk_43 (dk_at dksX1_clerks_2_4 9 rfl rfl)
theorem dX1_clerks_2_105 : decode cX1_clerks_2 105 = .ok (.invokevirtual 517, 3) := dk_182 2 5 (dk_at dksX1_clerks_2_4 10 rfl rfl)
theorem dX1_clerks_2_108 : decode cX1_clerks_2 108 = .ok (.iconst 1, 1) := dk_4 (dk_at dksX1_clerks_2_4 13 rfl rfl)
theorem dX1_clerks_2_109 : decode cX1_clerks_2 109 = .ok (.invokevirtual 507, 3) := dk_182 1 251 (dk_at dksX1_clerks_2_4 14 rfl rfl)
theorem dX1_clerks_2_112 : decode cX1_clerks_2 112 = .ok (.iconst 0, 1) := dk_3 (dk_at dksX1_clerks_2_4 17 rfl rfl)
theorem dX1_clerks_2_113 : decode cX1_clerks_2 113 = .ok (.aload_n 0, 1) := dk_42 (dk_at dksX1_clerks_2_4 18 rfl rfl)
theorem dX1_clerks_2_114 : decode cX1_clerks_2 114 = .ok (.getfield 47, 3) := dk_180 0 47 (dk_at dksX1_clerks_2_4 19 rfl rfl)
theorem dX1_clerks_2_117 : decode cX1_clerks_2 117 = .ok (.aload_n 0, 1) := dk_42 (dk_at dksX1_clerks_2_4 22 rfl rfl)
theorem dX1_clerks_2_118 : decode cX1_clerks_2 118 = .ok (.getfield 40, 3) := dk_180 0 40 (dk_at dksX1_clerks_2_5 0 rfl rfl)
theorem dX1_clerks_2_121 : decode cX1_clerks_2 121 = .ok (.iconst 1, 1) := dk_4 (dk_at dksX1_clerks_2_5 3 rfl rfl)
theorem dX1_clerks_2_122 : decode cX1_clerks_2 122 = .ok (.invokevirtual 510, 3) := dk_182 1 254 (dk_at dksX1_clerks_2_5 4 rfl rfl)
theorem dX1_clerks_2_125 : decode cX1_clerks_2 125 = .ok (.invokevirtual 454, 3) := dk_182 1 198 (dk_at dksX1_clerks_2_5 7 rfl rfl)
theorem dX1_clerks_2_128 : decode cX1_clerks_2 128 = .ok (.iadd, 1) := dk_96 (dk_at dksX1_clerks_2_5 10 rfl rfl)
theorem dX1_clerks_2_129 : decode cX1_clerks_2 129 = .ok (.putfield 537, 3) := dk_181 2 25 (dk_at dksX1_clerks_2_5 11 rfl rfl)
theorem dX1_clerks_2_132 : decode cX1_clerks_2 132 = .ok (.goto (-114), 3) := dk_167 255 142 (dk_at dksX1_clerks_2_5 14 rfl rfl)
theorem dX1_clerks_2_135 : decode cX1_clerks_2 135 = .ok (.return_, 1) := dk_177 (dk_at dksX1_clerks_2_5 17 rfl rfl)
abbrev cX1_ofVillage : ByteArray := prog_1_method_56_code
def yX1_ofVillage : MethodName := ⟨RX1, "ofVillage", "(II)I"⟩
def dkwX1_ofVillage_1 : List UInt8 := [172]
abbrev dktX1_ofVillage_1 : List UInt8 := dkwX1_ofVillage_1 ++ []
def dkwX1_ofVillage_0 : List UInt8 := [42, 27, 182, 0, 170, 78, 28, 3, 16, 13, 184, 0, 143, 19, 2, 66, 184, 0, 147, 45, 28, 184, 2, 68]
abbrev dktX1_ofVillage_0 : List UInt8 := dkwX1_ofVillage_0 ++ dktX1_ofVillage_1
theorem dksX1_ofVillage_0 : cX1_ofVillage.data.toList.drop 0 = dktX1_ofVillage_0 := by decide +kernel
theorem dksX1_ofVillage_1 : cX1_ofVillage.data.toList.drop 24 = dktX1_ofVillage_1 := dk_seg dksX1_ofVillage_0 24 rfl rfl
theorem dX1_ofVillage_0 : decode cX1_ofVillage 0 = .ok (.aload_n 0, 1) := dk_42 (dk_at dksX1_ofVillage_0 0 rfl rfl)
theorem dX1_ofVillage_1 : decode cX1_ofVillage 1 = .ok (.iload_n 1, 1) := dk_27 (dk_at dksX1_ofVillage_0 1 rfl rfl)
theorem dX1_ofVillage_2 : decode cX1_ofVillage 2 = .ok (.invokevirtual 170, 3) := dk_182 0 170 (dk_at dksX1_ofVillage_0 2 rfl rfl)
theorem dX1_ofVillage_5 : decode cX1_ofVillage 5 = .ok (.astore_n 3, 1) := dk_78 (dk_at dksX1_ofVillage_0 5 rfl rfl)
theorem dX1_ofVillage_6 : decode cX1_ofVillage 6 = .ok (.iload_n 2, 1) := dk_28 (dk_at dksX1_ofVillage_0 6 rfl rfl)
theorem dX1_ofVillage_7 : decode cX1_ofVillage 7 = .ok (.iconst 0, 1) := dk_3 (dk_at dksX1_ofVillage_0 7 rfl rfl)
theorem dX1_ofVillage_8 : decode cX1_ofVillage 8 = .ok (.bipush 13, 2) := dk_16 13 (dk_at dksX1_ofVillage_0 8 rfl rfl)
theorem dX1_ofVillage_10 : decode cX1_ofVillage 10 = .ok (.invokestatic 143, 3) := dk_184 0 143 (dk_at dksX1_ofVillage_0 10 rfl rfl)
theorem dX1_ofVillage_13 : decode cX1_ofVillage 13 = .ok (.ldc_w 578, 3) := dk_19 2 66 (dk_at dksX1_ofVillage_0 13 rfl rfl)
theorem dX1_ofVillage_16 : decode cX1_ofVillage 16 = .ok (.invokestatic 147, 3) := dk_184 0 147 (dk_at dksX1_ofVillage_0 16 rfl rfl)
theorem dX1_ofVillage_19 : decode cX1_ofVillage 19 = .ok (.aload_n 3, 1) := dk_45 (dk_at dksX1_ofVillage_0 19 rfl rfl)
theorem dX1_ofVillage_20 : decode cX1_ofVillage 20 = .ok (.iload_n 2, 1) := dk_28 (dk_at dksX1_ofVillage_0 20 rfl rfl)
theorem dX1_ofVillage_21 : decode cX1_ofVillage 21 = .ok (.invokestatic 580, 3) := dk_184 2 68 (dk_at dksX1_ofVillage_0 21 rfl rfl)
theorem dX1_ofVillage_24 : decode cX1_ofVillage 24 = .ok (.ireturn, 1) := dk_172 (dk_at dksX1_ofVillage_1 0 rfl rfl)
abbrev cX1_due : ByteArray := prog_1_method_58_code
def yX1_due : MethodName := ⟨RX1, "due", "(IIZ)I"⟩
def dkwX1_due_0 : List UInt8 := [42, 27, 182, 0, 170, 58, 4, 42, 25, 4, 28, 184, 0, 213, 29, 182, 2, 71, 172]
abbrev dktX1_due_0 : List UInt8 := dkwX1_due_0 ++ []
theorem dksX1_due_0 : cX1_due.data.toList.drop 0 = dktX1_due_0 := by decide +kernel
theorem dX1_due_0 : decode cX1_due 0 = .ok (.aload_n 0, 1) := dk_42 (dk_at dksX1_due_0 0 rfl rfl)
theorem dX1_due_1 : decode cX1_due 1 = .ok (.iload_n 1, 1) := dk_27 (dk_at dksX1_due_0 1 rfl rfl)
theorem dX1_due_2 : decode cX1_due 2 = .ok (.invokevirtual 170, 3) := dk_182 0 170 (dk_at dksX1_due_0 2 rfl rfl)
theorem dX1_due_5 : decode cX1_due 5 = .ok (.astore 4, 2) := dk_58 4 (dk_at dksX1_due_0 5 rfl rfl)
theorem dX1_due_7 : decode cX1_due 7 = .ok (.aload_n 0, 1) := dk_42 (dk_at dksX1_due_0 7 rfl rfl)
theorem dX1_due_8 : decode cX1_due 8 = .ok (.aload 4, 2) := dk_25 4 (dk_at dksX1_due_0 8 rfl rfl)
theorem dX1_due_10 : decode cX1_due 10 = .ok (.iload_n 2, 1) := dk_28 (dk_at dksX1_due_0 10 rfl rfl)
theorem dX1_due_11 : decode cX1_due 11 = .ok (.invokestatic 213, 3) := dk_184 0 213 (dk_at dksX1_due_0 11 rfl rfl)
theorem dX1_due_14 : decode cX1_due 14 = .ok (.iload_n 3, 1) := dk_29 (dk_at dksX1_due_0 14 rfl rfl)
theorem dX1_due_15 : decode cX1_due 15 = .ok (.invokevirtual 583, 3) := dk_182 2 71 (dk_at dksX1_due_0 15 rfl rfl)
theorem dX1_due_18 : decode cX1_due 18 = .ok (.ireturn, 1) := dk_172 (dk_at dksX1_due_0 18 rfl rfl)
abbrev cX1_due_2 : ByteArray := prog_1_method_57_code
def yX1_due_2 : MethodName := ⟨RX1, "due", "(LPublicanry$Village;LPublicanry$Duty;Z)I"⟩
def dkwX1_due_2_0 : List UInt8 := [29, 153, 0, 12, 42, 43, 44, 182, 2, 5, 167, 0, 8, 43, 44, 182, 1, 248, 172]
abbrev dktX1_due_2_0 : List UInt8 := dkwX1_due_2_0 ++ []
theorem dksX1_due_2_0 : cX1_due_2.data.toList.drop 0 = dktX1_due_2_0 := by decide +kernel
theorem dX1_due_2_0 : decode cX1_due_2 0 = .ok (.iload_n 3, 1) := dk_29 (dk_at dksX1_due_2_0 0 rfl rfl)
theorem dX1_due_2_1 : decode cX1_due_2 1 = .ok (.ifCond .eq 12, 3) := dk_153 0 12 (dk_at dksX1_due_2_0 1 rfl rfl)
theorem dX1_due_2_4 : decode cX1_due_2 4 = .ok (.aload_n 0, 1) := dk_42 (dk_at dksX1_due_2_0 4 rfl rfl)
theorem dX1_due_2_5 : decode cX1_due_2 5 = .ok (.aload_n 1, 1) := dk_43 (dk_at dksX1_due_2_0 5 rfl rfl)
theorem dX1_due_2_6 : decode cX1_due_2 6 = .ok (.aload_n 2, 1) := dk_44 (dk_at dksX1_due_2_0 6 rfl rfl)
theorem dX1_due_2_7 : decode cX1_due_2 7 = .ok (.invokevirtual 517, 3) := dk_182 2 5 (dk_at dksX1_due_2_0 7 rfl rfl)
theorem dX1_due_2_10 : decode cX1_due_2 10 = .ok (.goto 8, 3) := dk_167 0 8 (dk_at dksX1_due_2_0 10 rfl rfl)
theorem dX1_due_2_13 : decode cX1_due_2 13 = .ok (.aload_n 1, 1) := dk_43 (dk_at dksX1_due_2_0 13 rfl rfl)
theorem dX1_due_2_14 : decode cX1_due_2 14 = .ok (.aload_n 2, 1) := dk_44 (dk_at dksX1_due_2_0 14 rfl rfl)
theorem dX1_due_2_15 : decode cX1_due_2 15 = .ok (.invokevirtual 504, 3) := dk_182 1 248 (dk_at dksX1_due_2_0 15 rfl rfl)
theorem dX1_due_2_18 : decode cX1_due_2 18 = .ok (.ireturn, 1) := dk_172 (dk_at dksX1_due_2_0 18 rfl rfl)
abbrev cX1_levy : ByteArray := prog_1_method_60_code
def yX1_levy : MethodName := ⟨RX1, "levy", "(III)I"⟩
def dkwX1_levy_1 : List UInt8 := [25, 4, 180, 1, 161, 28, 182, 0, 104, 192, 1, 50, 29, 184, 2, 76, 172]
abbrev dktX1_levy_1 : List UInt8 := dkwX1_levy_1 ++ []
def dkwX1_levy_0 : List UInt8 := [42, 27, 182, 0, 170, 58, 4, 28, 184, 0, 213, 87, 29, 3, 8, 184, 0, 143, 19, 2, 66, 184, 0, 147]
abbrev dktX1_levy_0 : List UInt8 := dkwX1_levy_0 ++ dktX1_levy_1
theorem dksX1_levy_0 : cX1_levy.data.toList.drop 0 = dktX1_levy_0 := by decide +kernel
theorem dksX1_levy_1 : cX1_levy.data.toList.drop 24 = dktX1_levy_1 := dk_seg dksX1_levy_0 24 rfl rfl
theorem dX1_levy_0 : decode cX1_levy 0 = .ok (.aload_n 0, 1) := dk_42 (dk_at dksX1_levy_0 0 rfl rfl)
theorem dX1_levy_1 : decode cX1_levy 1 = .ok (.iload_n 1, 1) := dk_27 (dk_at dksX1_levy_0 1 rfl rfl)
theorem dX1_levy_2 : decode cX1_levy 2 = .ok (.invokevirtual 170, 3) := dk_182 0 170 (dk_at dksX1_levy_0 2 rfl rfl)
theorem dX1_levy_5 : decode cX1_levy 5 = .ok (.astore 4, 2) := dk_58 4 (dk_at dksX1_levy_0 5 rfl rfl)
theorem dX1_levy_7 : decode cX1_levy 7 = .ok (.iload_n 2, 1) := dk_28 (dk_at dksX1_levy_0 7 rfl rfl)
theorem dX1_levy_8 : decode cX1_levy 8 = .ok (.invokestatic 213, 3) := dk_184 0 213 (dk_at dksX1_levy_0 8 rfl rfl)
theorem dX1_levy_11 : decode cX1_levy 11 = .ok (.pop, 1) := dk_87 (dk_at dksX1_levy_0 11 rfl rfl)
theorem dX1_levy_12 : decode cX1_levy 12 = .ok (.iload_n 3, 1) := dk_29 (dk_at dksX1_levy_0 12 rfl rfl)
theorem dX1_levy_13 : decode cX1_levy 13 = .ok (.iconst 0, 1) := dk_3 (dk_at dksX1_levy_0 13 rfl rfl)
theorem dX1_levy_14 : decode cX1_levy 14 = .ok (.iconst 5, 1) := dk_8 (dk_at dksX1_levy_0 14 rfl rfl)
theorem dX1_levy_15 : decode cX1_levy 15 = .ok (.invokestatic 143, 3) := dk_184 0 143 (dk_at dksX1_levy_0 15 rfl rfl)
theorem dX1_levy_18 : decode cX1_levy 18 = .ok (.ldc_w 578, 3) := dk_19 2 66 (dk_at dksX1_levy_0 18 rfl rfl)
theorem dX1_levy_21 : decode cX1_levy 21 = .ok (.invokestatic 147, 3) := dk_184 0 147 (dk_at dksX1_levy_0 21 rfl rfl)
theorem dX1_levy_24 : decode cX1_levy 24 = .ok (.aload 4, 2) := dk_25 4 (dk_at dksX1_levy_1 0 rfl rfl)
theorem dX1_levy_26 : decode cX1_levy 26 = .ok (.getfield 417, 3) := dk_180 1 161 (dk_at dksX1_levy_1 2 rfl rfl)
theorem dX1_levy_29 : decode cX1_levy 29 = .ok (.iload_n 2, 1) := dk_28 (dk_at dksX1_levy_1 5 rfl rfl)
theorem dX1_levy_30 : decode cX1_levy 30 = .ok (.invokevirtual 104, 3) := dk_182 0 104 (dk_at dksX1_levy_1 6 rfl rfl)
theorem dX1_levy_33 : decode cX1_levy 33 = .ok (.checkcast 306, 3) := dk_192 1 50 (dk_at dksX1_levy_1 9 rfl rfl)
theorem dX1_levy_36 : decode cX1_levy 36 = .ok (.iload_n 3, 1) := dk_29 (dk_at dksX1_levy_1 12 rfl rfl)
theorem dX1_levy_37 : decode cX1_levy 37 = .ok (.invokestatic 588, 3) := dk_184 2 76 (dk_at dksX1_levy_1 13 rfl rfl)
theorem dX1_levy_40 : decode cX1_levy 40 = .ok (.ireturn, 1) := dk_172 (dk_at dksX1_levy_1 16 rfl rfl)
abbrev cX1_law : ByteArray := prog_1_method_62_code
def yX1_law : MethodName := ⟨RX1, "law", "(II)I"⟩
def dkwX1_law_1 : List UInt8 := [184, 2, 82, 172]
abbrev dktX1_law_1 : List UInt8 := dkwX1_law_1 ++ []
def dkwX1_law_0 : List UInt8 := [27, 184, 0, 213, 87, 28, 3, 7, 184, 0, 143, 19, 2, 66, 184, 0, 147, 42, 180, 0, 33, 27, 50, 28]
abbrev dktX1_law_0 : List UInt8 := dkwX1_law_0 ++ dktX1_law_1
theorem dksX1_law_0 : cX1_law.data.toList.drop 0 = dktX1_law_0 := by decide +kernel
theorem dksX1_law_1 : cX1_law.data.toList.drop 24 = dktX1_law_1 := dk_seg dksX1_law_0 24 rfl rfl
theorem dX1_law_0 : decode cX1_law 0 = .ok (.iload_n 1, 1) := dk_27 (dk_at dksX1_law_0 0 rfl rfl)
theorem dX1_law_1 : decode cX1_law 1 = .ok (.invokestatic 213, 3) := dk_184 0 213 (dk_at dksX1_law_0 1 rfl rfl)
theorem dX1_law_4 : decode cX1_law 4 = .ok (.pop, 1) := dk_87 (dk_at dksX1_law_0 4 rfl rfl)
theorem dX1_law_5 : decode cX1_law 5 = .ok (.iload_n 2, 1) := dk_28 (dk_at dksX1_law_0 5 rfl rfl)
theorem dX1_law_6 : decode cX1_law 6 = .ok (.iconst 0, 1) := dk_3 (dk_at dksX1_law_0 6 rfl rfl)
theorem dX1_law_7 : decode cX1_law 7 = .ok (.iconst 4, 1) := dk_7 (dk_at dksX1_law_0 7 rfl rfl)
theorem dX1_law_8 : decode cX1_law 8 = .ok (.invokestatic 143, 3) := dk_184 0 143 (dk_at dksX1_law_0 8 rfl rfl)
theorem dX1_law_11 : decode cX1_law 11 = .ok (.ldc_w 578, 3) := dk_19 2 66 (dk_at dksX1_law_0 11 rfl rfl)
theorem dX1_law_14 : decode cX1_law 14 = .ok (.invokestatic 147, 3) := dk_184 0 147 (dk_at dksX1_law_0 14 rfl rfl)
theorem dX1_law_17 : decode cX1_law 17 = .ok (.aload_n 0, 1) := dk_42 (dk_at dksX1_law_0 17 rfl rfl)
theorem dX1_law_18 : decode cX1_law 18 = .ok (.getfield 33, 3) := dk_180 0 33 (dk_at dksX1_law_0 18 rfl rfl)
theorem dX1_law_21 : decode cX1_law 21 = .ok (.iload_n 1, 1) := dk_27 (dk_at dksX1_law_0 21 rfl rfl)
theorem dX1_law_22 : decode cX1_law 22 = .ok (.aaload, 1) := dk_50 (dk_at dksX1_law_0 22 rfl rfl)
theorem dX1_law_23 : decode cX1_law 23 = .ok (.iload_n 2, 1) := dk_28 (dk_at dksX1_law_0 23 rfl rfl)
theorem dX1_law_24 : decode cX1_law 24 = .ok (.invokestatic 594, 3) := dk_184 2 82 (dk_at dksX1_law_1 0 rfl rfl)
theorem dX1_law_27 : decode cX1_law 27 = .ok (.ireturn, 1) := dk_172 (dk_at dksX1_law_1 3 rfl rfl)
abbrev cX1_ofCompany : ByteArray := prog_1_method_65_code
def yX1_ofCompany : MethodName := ⟨RX1, "ofCompany", "(II)I"⟩
def dkwX1_ofCompany_1 : List UInt8 := [182, 2, 91, 172]
abbrev dktX1_ofCompany_1 : List UInt8 := dkwX1_ofCompany_1 ++ []
def dkwX1_ofCompany_0 : List UInt8 := [42, 27, 182, 0, 230, 78, 28, 3, 16, 12, 184, 0, 143, 19, 2, 66, 184, 0, 147, 42, 45, 28]
abbrev dktX1_ofCompany_0 : List UInt8 := dkwX1_ofCompany_0 ++ dktX1_ofCompany_1
theorem dksX1_ofCompany_0 : cX1_ofCompany.data.toList.drop 0 = dktX1_ofCompany_0 := by decide +kernel
theorem dksX1_ofCompany_1 : cX1_ofCompany.data.toList.drop 22 = dktX1_ofCompany_1 := dk_seg dksX1_ofCompany_0 22 rfl rfl
theorem dX1_ofCompany_0 : decode cX1_ofCompany 0 = .ok (.aload_n 0, 1) := dk_42 (dk_at dksX1_ofCompany_0 0 rfl rfl)
theorem dX1_ofCompany_1 : decode cX1_ofCompany 1 = .ok (.iload_n 1, 1) := dk_27 (dk_at dksX1_ofCompany_0 1 rfl rfl)
theorem dX1_ofCompany_2 : decode cX1_ofCompany 2 = .ok (.invokevirtual 230, 3) := dk_182 0 230 (dk_at dksX1_ofCompany_0 2 rfl rfl)
theorem dX1_ofCompany_5 : decode cX1_ofCompany 5 = .ok (.astore_n 3, 1) := dk_78 (dk_at dksX1_ofCompany_0 5 rfl rfl)
theorem dX1_ofCompany_6 : decode cX1_ofCompany 6 = .ok (.iload_n 2, 1) := dk_28 (dk_at dksX1_ofCompany_0 6 rfl rfl)
theorem dX1_ofCompany_7 : decode cX1_ofCompany 7 = .ok (.iconst 0, 1) := dk_3 (dk_at dksX1_ofCompany_0 7 rfl rfl)
theorem dX1_ofCompany_8 : decode cX1_ofCompany 8 = .ok (.bipush 12, 2) := dk_16 12 (dk_at dksX1_ofCompany_0 8 rfl rfl)
theorem dX1_ofCompany_10 : decode cX1_ofCompany 10 = .ok (.invokestatic 143, 3) := dk_184 0 143 (dk_at dksX1_ofCompany_0 10 rfl rfl)
theorem dX1_ofCompany_13 : decode cX1_ofCompany 13 = .ok (.ldc_w 578, 3) := dk_19 2 66 (dk_at dksX1_ofCompany_0 13 rfl rfl)
theorem dX1_ofCompany_16 : decode cX1_ofCompany 16 = .ok (.invokestatic 147, 3) := dk_184 0 147 (dk_at dksX1_ofCompany_0 16 rfl rfl)
theorem dX1_ofCompany_19 : decode cX1_ofCompany 19 = .ok (.aload_n 0, 1) := dk_42 (dk_at dksX1_ofCompany_0 19 rfl rfl)
theorem dX1_ofCompany_20 : decode cX1_ofCompany 20 = .ok (.aload_n 3, 1) := dk_45 (dk_at dksX1_ofCompany_0 20 rfl rfl)
theorem dX1_ofCompany_21 : decode cX1_ofCompany 21 = .ok (.iload_n 2, 1) := dk_28 (dk_at dksX1_ofCompany_0 21 rfl rfl)
theorem dX1_ofCompany_22 : decode cX1_ofCompany 22 = .ok (.invokevirtual 603, 3) := dk_182 2 91 (dk_at dksX1_ofCompany_1 0 rfl rfl)
theorem dX1_ofCompany_25 : decode cX1_ofCompany 25 = .ok (.ireturn, 1) := dk_172 (dk_at dksX1_ofCompany_1 3 rfl rfl)
abbrev cX1_partner : ByteArray := prog_1_method_66_code
def yX1_partner : MethodName := ⟨RX1, "partner", "(IIZ)I"⟩
def dkwX1_partner_2 : List UInt8 := [180, 0, 236, 28, 182, 0, 104, 192, 0, 239, 180, 2, 98, 172]
abbrev dktX1_partner_2 : List UInt8 := dkwX1_partner_2 ++ []
def dkwX1_partner_1 : List UInt8 := [153, 0, 21, 25, 4, 180, 0, 236, 28, 182, 0, 104, 192, 0, 239, 180, 2, 96, 167, 0, 18, 25, 4]
abbrev dktX1_partner_1 : List UInt8 := dkwX1_partner_1 ++ dktX1_partner_2
def dkwX1_partner_0 : List UInt8 := [42, 27, 182, 0, 230, 58, 4, 28, 25, 4, 180, 0, 236, 182, 0, 94, 19, 2, 94, 184, 0, 100, 87, 29]
abbrev dktX1_partner_0 : List UInt8 := dkwX1_partner_0 ++ dktX1_partner_1
theorem dksX1_partner_0 : cX1_partner.data.toList.drop 0 = dktX1_partner_0 := by decide +kernel
theorem dksX1_partner_1 : cX1_partner.data.toList.drop 24 = dktX1_partner_1 := dk_seg dksX1_partner_0 24 rfl rfl
theorem dksX1_partner_2 : cX1_partner.data.toList.drop 47 = dktX1_partner_2 := dk_seg dksX1_partner_1 23 rfl rfl
theorem dX1_partner_0 : decode cX1_partner 0 = .ok (.aload_n 0, 1) := dk_42 (dk_at dksX1_partner_0 0 rfl rfl)
theorem dX1_partner_1 : decode cX1_partner 1 = .ok (.iload_n 1, 1) := dk_27 (dk_at dksX1_partner_0 1 rfl rfl)
theorem dX1_partner_2 : decode cX1_partner 2 = .ok (.invokevirtual 230, 3) := dk_182 0 230 (dk_at dksX1_partner_0 2 rfl rfl)
theorem dX1_partner_5 : decode cX1_partner 5 = .ok (.astore 4, 2) := dk_58 4 (dk_at dksX1_partner_0 5 rfl rfl)
theorem dX1_partner_7 : decode cX1_partner 7 = .ok (.iload_n 2, 1) := dk_28 (dk_at dksX1_partner_0 7 rfl rfl)
theorem dX1_partner_8 : decode cX1_partner 8 = .ok (.aload 4, 2) := dk_25 4 (dk_at dksX1_partner_0 8 rfl rfl)
theorem dX1_partner_10 : decode cX1_partner 10 = .ok (.getfield 236, 3) := dk_180 0 236 (dk_at dksX1_partner_0 10 rfl rfl)
theorem dX1_partner_13 : decode cX1_partner 13 = .ok (.invokevirtual 94, 3) := dk_182 0 94 (dk_at dksX1_partner_0 13 rfl rfl)
theorem dX1_partner_16 : decode cX1_partner 16 = .ok (.ldc_w 606, 3) := dk_19 2 94 (dk_at dksX1_partner_0 16 rfl rfl)
theorem dX1_partner_19 : decode cX1_partner 19 = .ok (.invokestatic 100, 3) := dk_184 0 100 (dk_at dksX1_partner_0 19 rfl rfl)
theorem dX1_partner_22 : decode cX1_partner 22 = .ok (.pop, 1) := dk_87 (dk_at dksX1_partner_0 22 rfl rfl)
theorem dX1_partner_23 : decode cX1_partner 23 = .ok (.iload_n 3, 1) := dk_29 (dk_at dksX1_partner_0 23 rfl rfl)
theorem dX1_partner_24 : decode cX1_partner 24 = .ok (.ifCond .eq 21, 3) := dk_153 0 21 (dk_at dksX1_partner_1 0 rfl rfl)
theorem dX1_partner_27 : decode cX1_partner 27 = .ok (.aload 4, 2) := dk_25 4 (dk_at dksX1_partner_1 3 rfl rfl)
theorem dX1_partner_29 : decode cX1_partner 29 = .ok (.getfield 236, 3) := dk_180 0 236 (dk_at dksX1_partner_1 5 rfl rfl)
theorem dX1_partner_32 : decode cX1_partner 32 = .ok (.iload_n 2, 1) := dk_28 (dk_at dksX1_partner_1 8 rfl rfl)
theorem dX1_partner_33 : decode cX1_partner 33 = .ok (.invokevirtual 104, 3) := dk_182 0 104 (dk_at dksX1_partner_1 9 rfl rfl)
theorem dX1_partner_36 : decode cX1_partner 36 = .ok (.checkcast 239, 3) := dk_192 0 239 (dk_at dksX1_partner_1 12 rfl rfl)
theorem dX1_partner_39 : decode cX1_partner 39 = .ok (.getfield 608, 3) := dk_180 2 96 (dk_at dksX1_partner_1 15 rfl rfl)
theorem dX1_partner_42 : decode cX1_partner 42 = .ok (.goto 18, 3) := dk_167 0 18 (dk_at dksX1_partner_1 18 rfl rfl)
theorem dX1_partner_45 : decode cX1_partner 45 = .ok (.aload 4, 2) := dk_25 4 (dk_at dksX1_partner_1 21 rfl rfl)
theorem dX1_partner_47 : decode cX1_partner 47 = .ok (.getfield 236, 3) := dk_180 0 236 (dk_at dksX1_partner_2 0 rfl rfl)
theorem dX1_partner_50 : decode cX1_partner 50 = .ok (.iload_n 2, 1) := dk_28 (dk_at dksX1_partner_2 3 rfl rfl)
theorem dX1_partner_51 : decode cX1_partner 51 = .ok (.invokevirtual 104, 3) := dk_182 0 104 (dk_at dksX1_partner_2 4 rfl rfl)
theorem dX1_partner_54 : decode cX1_partner 54 = .ok (.checkcast 239, 3) := dk_192 0 239 (dk_at dksX1_partner_2 7 rfl rfl)
theorem dX1_partner_57 : decode cX1_partner 57 = .ok (.getfield 610, 3) := dk_180 2 98 (dk_at dksX1_partner_2 10 rfl rfl)
theorem dX1_partner_60 : decode cX1_partner 60 = .ok (.ireturn, 1) := dk_172 (dk_at dksX1_partner_2 13 rfl rfl)
abbrev cX1_ofLot : ByteArray := prog_1_method_68_code
def yX1_ofLot : MethodName := ⟨RX1, "ofLot", "(II)I"⟩
def dkwX1_ofLot_1 : List UInt8 := [172]
abbrev dktX1_ofLot_1 : List UInt8 := dkwX1_ofLot_1 ++ []
def dkwX1_ofLot_0 : List UInt8 := [42, 27, 182, 1, 17, 78, 28, 3, 16, 11, 184, 0, 143, 19, 2, 66, 184, 0, 147, 45, 28, 184, 2, 101]
abbrev dktX1_ofLot_0 : List UInt8 := dkwX1_ofLot_0 ++ dktX1_ofLot_1
theorem dksX1_ofLot_0 : cX1_ofLot.data.toList.drop 0 = dktX1_ofLot_0 := by decide +kernel
theorem dksX1_ofLot_1 : cX1_ofLot.data.toList.drop 24 = dktX1_ofLot_1 := dk_seg dksX1_ofLot_0 24 rfl rfl
theorem dX1_ofLot_0 : decode cX1_ofLot 0 = .ok (.aload_n 0, 1) := dk_42 (dk_at dksX1_ofLot_0 0 rfl rfl)
theorem dX1_ofLot_1 : decode cX1_ofLot 1 = .ok (.iload_n 1, 1) := dk_27 (dk_at dksX1_ofLot_0 1 rfl rfl)
theorem dX1_ofLot_2 : decode cX1_ofLot 2 = .ok (.invokevirtual 273, 3) := dk_182 1 17 (dk_at dksX1_ofLot_0 2 rfl rfl)
theorem dX1_ofLot_5 : decode cX1_ofLot 5 = .ok (.astore_n 3, 1) := dk_78 (dk_at dksX1_ofLot_0 5 rfl rfl)
theorem dX1_ofLot_6 : decode cX1_ofLot 6 = .ok (.iload_n 2, 1) := dk_28 (dk_at dksX1_ofLot_0 6 rfl rfl)
theorem dX1_ofLot_7 : decode cX1_ofLot 7 = .ok (.iconst 0, 1) := dk_3 (dk_at dksX1_ofLot_0 7 rfl rfl)
theorem dX1_ofLot_8 : decode cX1_ofLot 8 = .ok (.bipush 11, 2) := dk_16 11 (dk_at dksX1_ofLot_0 8 rfl rfl)
theorem dX1_ofLot_10 : decode cX1_ofLot 10 = .ok (.invokestatic 143, 3) := dk_184 0 143 (dk_at dksX1_ofLot_0 10 rfl rfl)
theorem dX1_ofLot_13 : decode cX1_ofLot 13 = .ok (.ldc_w 578, 3) := dk_19 2 66 (dk_at dksX1_ofLot_0 13 rfl rfl)
theorem dX1_ofLot_16 : decode cX1_ofLot 16 = .ok (.invokestatic 147, 3) := dk_184 0 147 (dk_at dksX1_ofLot_0 16 rfl rfl)
theorem dX1_ofLot_19 : decode cX1_ofLot 19 = .ok (.aload_n 3, 1) := dk_45 (dk_at dksX1_ofLot_0 19 rfl rfl)
theorem dX1_ofLot_20 : decode cX1_ofLot 20 = .ok (.iload_n 2, 1) := dk_28 (dk_at dksX1_ofLot_0 20 rfl rfl)
theorem dX1_ofLot_21 : decode cX1_ofLot 21 = .ok (.invokestatic 613, 3) := dk_184 2 101 (dk_at dksX1_ofLot_0 21 rfl rfl)
theorem dX1_ofLot_24 : decode cX1_ofLot 24 = .ok (.ireturn, 1) := dk_172 (dk_at dksX1_ofLot_1 0 rfl rfl)
abbrev cX1_land : ByteArray := prog_1_method_72_code
def yX1_land : MethodName := ⟨RX1, "land", "(I)I"⟩
def dkwX1_land_0 : List UInt8 := [27, 3, 16, 16, 184, 0, 143, 19, 2, 66, 184, 0, 147, 42, 27, 182, 2, 112, 172]
abbrev dktX1_land_0 : List UInt8 := dkwX1_land_0 ++ []
theorem dksX1_land_0 : cX1_land.data.toList.drop 0 = dktX1_land_0 := by decide +kernel
theorem dX1_land_0 : decode cX1_land 0 = .ok (.iload_n 1, 1) := dk_27 (dk_at dksX1_land_0 0 rfl rfl)
theorem dX1_land_1 : decode cX1_land 1 = .ok (.iconst 0, 1) := dk_3 (dk_at dksX1_land_0 1 rfl rfl)
theorem dX1_land_2 : decode cX1_land 2 = .ok (.bipush 16, 2) := dk_16 16 (dk_at dksX1_land_0 2 rfl rfl)
theorem dX1_land_4 : decode cX1_land 4 = .ok (.invokestatic 143, 3) := dk_184 0 143 (dk_at dksX1_land_0 4 rfl rfl)
theorem dX1_land_7 : decode cX1_land 7 = .ok (.ldc_w 578, 3) := dk_19 2 66 (dk_at dksX1_land_0 7 rfl rfl)
theorem dX1_land_10 : decode cX1_land 10 = .ok (.invokestatic 147, 3) := dk_184 0 147 (dk_at dksX1_land_0 10 rfl rfl)
theorem dX1_land_13 : decode cX1_land 13 = .ok (.aload_n 0, 1) := dk_42 (dk_at dksX1_land_0 13 rfl rfl)
theorem dX1_land_14 : decode cX1_land 14 = .ok (.iload_n 1, 1) := dk_27 (dk_at dksX1_land_0 14 rfl rfl)
theorem dX1_land_15 : decode cX1_land 15 = .ok (.invokevirtual 624, 3) := dk_182 2 112 (dk_at dksX1_land_0 15 rfl rfl)
theorem dX1_land_18 : decode cX1_land 18 = .ok (.ireturn, 1) := dk_172 (dk_at dksX1_land_0 18 rfl rfl)
abbrev cX1_tell : ByteArray := prog_1_method_73_code
def yX1_tell : MethodName := ⟨RX1, "tell", "(I)Ljava/lang/String;"⟩
def dkwX1_tell_3 : List UInt8 := [158, 0, 18, 45, 19, 2, 131, 182, 2, 122, 44, 180, 1, 242, 182, 2, 116, 87, 45, 182, 2, 133, 176]
abbrev dktX1_tell_3 : List UInt8 := dkwX1_tell_3 ++ []
def dkwX1_tell_2 : List UInt8 := [182, 2, 122, 87, 44, 180, 0, 205, 153, 0, 11, 45, 19, 2, 129, 182, 2, 122, 87, 44, 180, 1, 242]
abbrev dktX1_tell_2 : List UInt8 := dkwX1_tell_2 ++ dktX1_tell_3
def dkwX1_tell_1 : List UInt8 := [180, 1, 207, 182, 2, 116, 19, 2, 125, 182, 2, 122, 78, 44, 180, 2, 14, 153, 0, 11, 45, 19, 2, 127]
abbrev dktX1_tell_1 : List UInt8 := dkwX1_tell_1 ++ dktX1_tell_2
def dkwX1_tell_0 : List UInt8 := [42, 27, 182, 0, 170, 77, 187, 2, 113, 89, 183, 2, 115, 27, 182, 2, 116, 19, 2, 120, 182, 2, 122, 44]
abbrev dktX1_tell_0 : List UInt8 := dkwX1_tell_0 ++ dktX1_tell_1
theorem dksX1_tell_0 : cX1_tell.data.toList.drop 0 = dktX1_tell_0 := by decide +kernel
theorem dksX1_tell_1 : cX1_tell.data.toList.drop 24 = dktX1_tell_1 := dk_seg dksX1_tell_0 24 rfl rfl
theorem dksX1_tell_2 : cX1_tell.data.toList.drop 48 = dktX1_tell_2 := dk_seg dksX1_tell_1 24 rfl rfl
theorem dksX1_tell_3 : cX1_tell.data.toList.drop 71 = dktX1_tell_3 := dk_seg dksX1_tell_2 23 rfl rfl
theorem dX1_tell_0 : decode cX1_tell 0 = .ok (.aload_n 0, 1) := dk_42 (dk_at dksX1_tell_0 0 rfl rfl)
theorem dX1_tell_1 : decode cX1_tell 1 = .ok (.iload_n 1, 1) := dk_27 (dk_at dksX1_tell_0 1 rfl rfl)
theorem dX1_tell_2 : decode cX1_tell 2 = .ok (.invokevirtual 170, 3) := dk_182 0 170 (dk_at dksX1_tell_0 2 rfl rfl)
theorem dX1_tell_5 : decode cX1_tell 5 = .ok (.astore_n 2, 1) := dk_77 (dk_at dksX1_tell_0 5 rfl rfl)
theorem dX1_tell_6 : decode cX1_tell 6 = .ok (.new 625, 3) := dk_187 2 113 (dk_at dksX1_tell_0 6 rfl rfl)
theorem dX1_tell_9 : decode cX1_tell 9 = .ok (.dup, 1) := dk_89 (dk_at dksX1_tell_0 9 rfl rfl)
theorem dX1_tell_10 : decode cX1_tell 10 = .ok (.invokespecial 627, 3) := dk_183 2 115 (dk_at dksX1_tell_0 10 rfl rfl)
theorem dX1_tell_13 : decode cX1_tell 13 = .ok (.iload_n 1, 1) := dk_27 (dk_at dksX1_tell_0 13 rfl rfl)
theorem dX1_tell_14 : decode cX1_tell 14 = .ok (.invokevirtual 628, 3) := dk_182 2 116 (dk_at dksX1_tell_0 14 rfl rfl)
theorem dX1_tell_17 : decode cX1_tell 17 = .ok (.ldc_w 632, 3) := dk_19 2 120 (dk_at dksX1_tell_0 17 rfl rfl)
theorem dX1_tell_20 : decode cX1_tell 20 = .ok (.invokevirtual 634, 3) := dk_182 2 122 (dk_at dksX1_tell_0 20 rfl rfl)
theorem dX1_tell_23 : decode cX1_tell 23 = .ok (.aload_n 2, 1) := dk_44 (dk_at dksX1_tell_0 23 rfl rfl)
theorem dX1_tell_24 : decode cX1_tell 24 = .ok (.getfield 463, 3) := dk_180 1 207 (dk_at dksX1_tell_1 0 rfl rfl)
theorem dX1_tell_27 : decode cX1_tell 27 = .ok (.invokevirtual 628, 3) := dk_182 2 116 (dk_at dksX1_tell_1 3 rfl rfl)
theorem dX1_tell_30 : decode cX1_tell 30 = .ok (.ldc_w 637, 3) := dk_19 2 125 (dk_at dksX1_tell_1 6 rfl rfl)
theorem dX1_tell_33 : decode cX1_tell 33 = .ok (.invokevirtual 634, 3) := dk_182 2 122 (dk_at dksX1_tell_1 9 rfl rfl)
theorem dX1_tell_36 : decode cX1_tell 36 = .ok (.astore_n 3, 1) := dk_78 (dk_at dksX1_tell_1 12 rfl rfl)
theorem dX1_tell_37 : decode cX1_tell 37 = .ok (.aload_n 2, 1) := dk_44 (dk_at dksX1_tell_1 13 rfl rfl)
theorem dX1_tell_38 : decode cX1_tell 38 = .ok (.getfield 526, 3) := dk_180 2 14 (dk_at dksX1_tell_1 14 rfl rfl)
theorem dX1_tell_41 : decode cX1_tell 41 = .ok (.ifCond .eq 11, 3) := dk_153 0 11 (dk_at dksX1_tell_1 17 rfl rfl)
theorem dX1_tell_44 : decode cX1_tell 44 = .ok (.aload_n 3, 1) := dk_45 (dk_at dksX1_tell_1 20 rfl rfl)
theorem dX1_tell_45 : decode cX1_tell 45 = .ok (.ldc_w 639, 3) := dk_19 2 127 (dk_at dksX1_tell_1 21 rfl rfl)
theorem dX1_tell_48 : decode cX1_tell 48 = .ok (.invokevirtual 634, 3) := dk_182 2 122 (dk_at dksX1_tell_2 0 rfl rfl)
theorem dX1_tell_51 : decode cX1_tell 51 = .ok (.pop, 1) := dk_87 (dk_at dksX1_tell_2 3 rfl rfl)
theorem dX1_tell_52 : decode cX1_tell 52 = .ok (.aload_n 2, 1) := dk_44 (dk_at dksX1_tell_2 4 rfl rfl)
theorem dX1_tell_53 : decode cX1_tell 53 = .ok (.getfield 205, 3) := dk_180 0 205 (dk_at dksX1_tell_2 5 rfl rfl)
theorem dX1_tell_56 : decode cX1_tell 56 = .ok (.ifCond .eq 11, 3) := dk_153 0 11 (dk_at dksX1_tell_2 8 rfl rfl)
theorem dX1_tell_59 : decode cX1_tell 59 = .ok (.aload_n 3, 1) := dk_45 (dk_at dksX1_tell_2 11 rfl rfl)
theorem dX1_tell_60 : decode cX1_tell 60 = .ok (.ldc_w 641, 3) := dk_19 2 129 (dk_at dksX1_tell_2 12 rfl rfl)
theorem dX1_tell_63 : decode cX1_tell 63 = .ok (.invokevirtual 634, 3) := dk_182 2 122 (dk_at dksX1_tell_2 15 rfl rfl)
theorem dX1_tell_66 : decode cX1_tell 66 = .ok (.pop, 1) := dk_87 (dk_at dksX1_tell_2 18 rfl rfl)
theorem dX1_tell_67 : decode cX1_tell 67 = .ok (.aload_n 2, 1) := dk_44 (dk_at dksX1_tell_2 19 rfl rfl)
theorem dX1_tell_68 : decode cX1_tell 68 = .ok (.getfield 498, 3) := dk_180 1 242 (dk_at dksX1_tell_2 20 rfl rfl)
theorem dX1_tell_71 : decode cX1_tell 71 = .ok (.ifCond .le 18, 3) := dk_158 0 18 (dk_at dksX1_tell_3 0 rfl rfl)
theorem dX1_tell_74 : decode cX1_tell 74 = .ok (.aload_n 3, 1) := dk_45 (dk_at dksX1_tell_3 3 rfl rfl)
theorem dX1_tell_75 : decode cX1_tell 75 = .ok (.ldc_w 643, 3) := dk_19 2 131 (dk_at dksX1_tell_3 4 rfl rfl)
theorem dX1_tell_78 : decode cX1_tell 78 = .ok (.invokevirtual 634, 3) := dk_182 2 122 (dk_at dksX1_tell_3 7 rfl rfl)
theorem dX1_tell_81 : decode cX1_tell 81 = .ok (.aload_n 2, 1) := dk_44 (dk_at dksX1_tell_3 10 rfl rfl)
theorem dX1_tell_82 : decode cX1_tell 82 = .ok (.getfield 498, 3) := dk_180 1 242 (dk_at dksX1_tell_3 11 rfl rfl)
theorem dX1_tell_85 : decode cX1_tell 85 = .ok (.invokevirtual 628, 3) := dk_182 2 116 (dk_at dksX1_tell_3 14 rfl rfl)
theorem dX1_tell_88 : decode cX1_tell 88 = .ok (.pop, 1) := dk_87 (dk_at dksX1_tell_3 17 rfl rfl)
theorem dX1_tell_89 : decode cX1_tell 89 = .ok (.aload_n 3, 1) := dk_45 (dk_at dksX1_tell_3 18 rfl rfl)
theorem dX1_tell_90 : decode cX1_tell 90 = .ok (.invokevirtual 645, 3) := dk_182 2 133 (dk_at dksX1_tell_3 19 rfl rfl)
theorem dX1_tell_93 : decode cX1_tell 93 = .ok (.areturn, 1) := dk_176 (dk_at dksX1_tell_3 22 rfl rfl)
abbrev cX1_gain : ByteArray := prog_1_method_74_code
def yX1_gain : MethodName := ⟨RX1, "gain", "(I)D"⟩
def dkwX1_gain_0 : List UInt8 := [42, 27, 182, 0, 230, 182, 2, 137, 175]
abbrev dktX1_gain_0 : List UInt8 := dkwX1_gain_0 ++ []
theorem dksX1_gain_0 : cX1_gain.data.toList.drop 0 = dktX1_gain_0 := by decide +kernel
theorem dX1_gain_0 : decode cX1_gain 0 = .ok (.aload_n 0, 1) := dk_42 (dk_at dksX1_gain_0 0 rfl rfl)
theorem dX1_gain_1 : decode cX1_gain 1 = .ok (.iload_n 1, 1) := dk_27 (dk_at dksX1_gain_0 1 rfl rfl)
theorem dX1_gain_2 : decode cX1_gain 2 = .ok (.invokevirtual 230, 3) := dk_182 0 230 (dk_at dksX1_gain_0 2 rfl rfl)
theorem dX1_gain_5 : decode cX1_gain 5 = .ok (.invokevirtual 649, 3) := dk_182 2 137 (dk_at dksX1_gain_0 5 rfl rfl)
theorem dX1_gain_8 : decode cX1_gain 8 = .ok (.dreturn, 1) := dk_175 (dk_at dksX1_gain_0 8 rfl rfl)
abbrev cX1_wouldBring : ByteArray := prog_1_method_76_code
def yX1_wouldBring : MethodName := ⟨RX1, "wouldBring", "(II)I"⟩
def dkwX1_wouldBring_1 : List UInt8 := [172]
abbrev dktX1_wouldBring_1 : List UInt8 := dkwX1_wouldBring_1 ++ []
def dkwX1_wouldBring_0 : List UInt8 := [42, 27, 182, 1, 17, 78, 28, 3, 6, 184, 0, 143, 19, 1, 111, 184, 0, 147, 42, 45, 28, 182, 2, 141]
abbrev dktX1_wouldBring_0 : List UInt8 := dkwX1_wouldBring_0 ++ dktX1_wouldBring_1
theorem dksX1_wouldBring_0 : cX1_wouldBring.data.toList.drop 0 = dktX1_wouldBring_0 := by decide +kernel
theorem dksX1_wouldBring_1 : cX1_wouldBring.data.toList.drop 24 = dktX1_wouldBring_1 := dk_seg dksX1_wouldBring_0 24 rfl rfl
theorem dX1_wouldBring_0 : decode cX1_wouldBring 0 = .ok (.aload_n 0, 1) := dk_42 (dk_at dksX1_wouldBring_0 0 rfl rfl)
theorem dX1_wouldBring_1 : decode cX1_wouldBring 1 = .ok (.iload_n 1, 1) := dk_27 (dk_at dksX1_wouldBring_0 1 rfl rfl)
theorem dX1_wouldBring_2 : decode cX1_wouldBring 2 = .ok (.invokevirtual 273, 3) := dk_182 1 17 (dk_at dksX1_wouldBring_0 2 rfl rfl)
theorem dX1_wouldBring_5 : decode cX1_wouldBring 5 = .ok (.astore_n 3, 1) := dk_78 (dk_at dksX1_wouldBring_0 5 rfl rfl)
theorem dX1_wouldBring_6 : decode cX1_wouldBring 6 = .ok (.iload_n 2, 1) := dk_28 (dk_at dksX1_wouldBring_0 6 rfl rfl)
theorem dX1_wouldBring_7 : decode cX1_wouldBring 7 = .ok (.iconst 0, 1) := dk_3 (dk_at dksX1_wouldBring_0 7 rfl rfl)
theorem dX1_wouldBring_8 : decode cX1_wouldBring 8 = .ok (.iconst 3, 1) := dk_6 (dk_at dksX1_wouldBring_0 8 rfl rfl)
theorem dX1_wouldBring_9 : decode cX1_wouldBring 9 = .ok (.invokestatic 143, 3) := dk_184 0 143 (dk_at dksX1_wouldBring_0 9 rfl rfl)
theorem dX1_wouldBring_12 : decode cX1_wouldBring 12 = .ok (.ldc_w 367, 3) := dk_19 1 111 (dk_at dksX1_wouldBring_0 12 rfl rfl)
theorem dX1_wouldBring_15 : decode cX1_wouldBring 15 = .ok (.invokestatic 147, 3) := dk_184 0 147 (dk_at dksX1_wouldBring_0 15 rfl rfl)
theorem dX1_wouldBring_18 : decode cX1_wouldBring 18 = .ok (.aload_n 0, 1) := dk_42 (dk_at dksX1_wouldBring_0 18 rfl rfl)
theorem dX1_wouldBring_19 : decode cX1_wouldBring 19 = .ok (.aload_n 3, 1) := dk_45 (dk_at dksX1_wouldBring_0 19 rfl rfl)
theorem dX1_wouldBring_20 : decode cX1_wouldBring 20 = .ok (.iload_n 2, 1) := dk_28 (dk_at dksX1_wouldBring_0 20 rfl rfl)
theorem dX1_wouldBring_21 : decode cX1_wouldBring 21 = .ok (.invokevirtual 653, 3) := dk_182 2 141 (dk_at dksX1_wouldBring_0 21 rfl rfl)
theorem dX1_wouldBring_24 : decode cX1_wouldBring 24 = .ok (.ireturn, 1) := dk_172 (dk_at dksX1_wouldBring_1 0 rfl rfl)
abbrev cX1_bestForce : ByteArray := prog_1_method_78_code
def yX1_bestForce : MethodName := ⟨RX1, "bestForce", "(I)I"⟩
def dkwX1_bestForce_0 : List UInt8 := [42, 42, 27, 182, 1, 17, 182, 2, 144, 172]
abbrev dktX1_bestForce_0 : List UInt8 := dkwX1_bestForce_0 ++ []
theorem dksX1_bestForce_0 : cX1_bestForce.data.toList.drop 0 = dktX1_bestForce_0 := by decide +kernel
theorem dX1_bestForce_0 : decode cX1_bestForce 0 = .ok (.aload_n 0, 1) := dk_42 (dk_at dksX1_bestForce_0 0 rfl rfl)
theorem dX1_bestForce_1 : decode cX1_bestForce 1 = .ok (.aload_n 0, 1) := dk_42 (dk_at dksX1_bestForce_0 1 rfl rfl)
theorem dX1_bestForce_2 : decode cX1_bestForce 2 = .ok (.iload_n 1, 1) := dk_27 (dk_at dksX1_bestForce_0 2 rfl rfl)
theorem dX1_bestForce_3 : decode cX1_bestForce 3 = .ok (.invokevirtual 273, 3) := dk_182 1 17 (dk_at dksX1_bestForce_0 3 rfl rfl)
theorem dX1_bestForce_6 : decode cX1_bestForce 6 = .ok (.invokevirtual 656, 3) := dk_182 2 144 (dk_at dksX1_bestForce_0 6 rfl rfl)
theorem dX1_bestForce_9 : decode cX1_bestForce 9 = .ok (.ireturn, 1) := dk_172 (dk_at dksX1_bestForce_0 9 rfl rfl)
abbrev cX1_votes_2 : ByteArray := prog_1_method_79_code
def yX1_votes_2 : MethodName := ⟨RX1, "votes", "(IIII)I"⟩
def dkwX1_votes_2_2 : List UInt8 := [19, 2, 147, 184, 0, 147, 29, 21, 6, 100, 21, 6, 21, 4, 184, 1, 175, 172]
abbrev dktX1_votes_2_2 : List UInt8 := dkwX1_votes_2_2 ++ []
def dkwX1_votes_2_1 : List UInt8 := [184, 0, 143, 153, 0, 18, 21, 4, 3, 16, 7, 184, 0, 143, 153, 0, 7, 4, 167, 0, 4, 3]
abbrev dktX1_votes_2_1 : List UInt8 := dkwX1_votes_2_1 ++ dktX1_votes_2_2
def dkwX1_votes_2_0 : List UInt8 := [42, 27, 182, 0, 170, 58, 5, 42, 25, 5, 28, 184, 0, 213, 182, 2, 5, 54, 6, 29, 3, 17, 39, 15]
abbrev dktX1_votes_2_0 : List UInt8 := dkwX1_votes_2_0 ++ dktX1_votes_2_1
theorem dksX1_votes_2_0 : cX1_votes_2.data.toList.drop 0 = dktX1_votes_2_0 := by decide +kernel
theorem dksX1_votes_2_1 : cX1_votes_2.data.toList.drop 24 = dktX1_votes_2_1 := dk_seg dksX1_votes_2_0 24 rfl rfl
theorem dksX1_votes_2_2 : cX1_votes_2.data.toList.drop 46 = dktX1_votes_2_2 := dk_seg dksX1_votes_2_1 22 rfl rfl
theorem dX1_votes_2_0 : decode cX1_votes_2 0 = .ok (.aload_n 0, 1) := dk_42 (dk_at dksX1_votes_2_0 0 rfl rfl)
theorem dX1_votes_2_1 : decode cX1_votes_2 1 = .ok (.iload_n 1, 1) := dk_27 (dk_at dksX1_votes_2_0 1 rfl rfl)
theorem dX1_votes_2_2 : decode cX1_votes_2 2 = .ok (.invokevirtual 170, 3) := dk_182 0 170 (dk_at dksX1_votes_2_0 2 rfl rfl)
theorem dX1_votes_2_5 : decode cX1_votes_2 5 = .ok (.astore 5, 2) := dk_58 5 (dk_at dksX1_votes_2_0 5 rfl rfl)
theorem dX1_votes_2_7 : decode cX1_votes_2 7 = .ok (.aload_n 0, 1) := dk_42 (dk_at dksX1_votes_2_0 7 rfl rfl)
theorem dX1_votes_2_8 : decode cX1_votes_2 8 = .ok (.aload 5, 2) := dk_25 5 (dk_at dksX1_votes_2_0 8 rfl rfl)
theorem dX1_votes_2_10 : decode cX1_votes_2 10 = .ok (.iload_n 2, 1) := dk_28 (dk_at dksX1_votes_2_0 10 rfl rfl)
theorem dX1_votes_2_11 : decode cX1_votes_2 11 = .ok (.invokestatic 213, 3) := dk_184 0 213 (dk_at dksX1_votes_2_0 11 rfl rfl)
theorem dX1_votes_2_14 : decode cX1_votes_2 14 = .ok (.invokevirtual 517, 3) := dk_182 2 5 (dk_at dksX1_votes_2_0 14 rfl rfl)
theorem dX1_votes_2_17 : decode cX1_votes_2 17 = .ok (.istore 6, 2) := dk_54 6 (dk_at dksX1_votes_2_0 17 rfl rfl)
theorem dX1_votes_2_19 : decode cX1_votes_2 19 = .ok (.iload_n 3, 1) := dk_29 (dk_at dksX1_votes_2_0 19 rfl rfl)
theorem dX1_votes_2_20 : decode cX1_votes_2 20 = .ok (.iconst 0, 1) := dk_3 (dk_at dksX1_votes_2_0 20 rfl rfl)
theorem dX1_votes_2_21 : decode cX1_votes_2 21 = .ok (.sipush 9999, 3) := dk_17 39 15 (dk_at dksX1_votes_2_0 21 rfl rfl)
theorem dX1_votes_2_24 : decode cX1_votes_2 24 = .ok (.invokestatic 143, 3) := dk_184 0 143 (dk_at dksX1_votes_2_1 0 rfl rfl)
theorem dX1_votes_2_27 : decode cX1_votes_2 27 = .ok (.ifCond .eq 18, 3) := dk_153 0 18 (dk_at dksX1_votes_2_1 3 rfl rfl)
theorem dX1_votes_2_30 : decode cX1_votes_2 30 = .ok (.iload 4, 2) := dk_21 4 (dk_at dksX1_votes_2_1 6 rfl rfl)
theorem dX1_votes_2_32 : decode cX1_votes_2 32 = .ok (.iconst 0, 1) := dk_3 (dk_at dksX1_votes_2_1 8 rfl rfl)
theorem dX1_votes_2_33 : decode cX1_votes_2 33 = .ok (.bipush 7, 2) := dk_16 7 (dk_at dksX1_votes_2_1 9 rfl rfl)
theorem dX1_votes_2_35 : decode cX1_votes_2 35 = .ok (.invokestatic 143, 3) := dk_184 0 143 (dk_at dksX1_votes_2_1 11 rfl rfl)
theorem dX1_votes_2_38 : decode cX1_votes_2 38 = .ok (.ifCond .eq 7, 3) := dk_153 0 7 (dk_at dksX1_votes_2_1 14 rfl rfl)
theorem dX1_votes_2_41 : decode cX1_votes_2 41 = .ok (.iconst 1, 1) := dk_4 (dk_at dksX1_votes_2_1 17 rfl rfl)
theorem dX1_votes_2_42 : decode cX1_votes_2 42 = .ok (.goto 4, 3) := dk_167 0 4 (dk_at dksX1_votes_2_1 18 rfl rfl)
theorem dX1_votes_2_45 : decode cX1_votes_2 45 = .ok (.iconst 0, 1) := dk_3 (dk_at dksX1_votes_2_1 21 rfl rfl)
theorem dX1_votes_2_46 : decode cX1_votes_2 46 = .ok (.ldc_w 659, 3) := dk_19 2 147 (dk_at dksX1_votes_2_2 0 rfl rfl)
theorem dX1_votes_2_49 : decode cX1_votes_2 49 = .ok (.invokestatic 147, 3) := dk_184 0 147 (dk_at dksX1_votes_2_2 3 rfl rfl)
theorem dX1_votes_2_52 : decode cX1_votes_2 52 = .ok (.iload_n 3, 1) := dk_29 (dk_at dksX1_votes_2_2 6 rfl rfl)
theorem dX1_votes_2_53 : decode cX1_votes_2 53 = .ok (.iload 6, 2) := dk_21 6 (dk_at dksX1_votes_2_2 7 rfl rfl)
theorem dX1_votes_2_55 : decode cX1_votes_2 55 = .ok (.isub, 1) := dk_100 (dk_at dksX1_votes_2_2 9 rfl rfl)
theorem dX1_votes_2_56 : decode cX1_votes_2 56 = .ok (.iload 6, 2) := dk_21 6 (dk_at dksX1_votes_2_2 10 rfl rfl)
theorem dX1_votes_2_58 : decode cX1_votes_2 58 = .ok (.iload 4, 2) := dk_21 4 (dk_at dksX1_votes_2_2 12 rfl rfl)
theorem dX1_votes_2_60 : decode cX1_votes_2 60 = .ok (.invokestatic 431, 3) := dk_184 1 175 (dk_at dksX1_votes_2_2 14 rfl rfl)
theorem dX1_votes_2_63 : decode cX1_votes_2 63 = .ok (.ireturn, 1) := dk_172 (dk_at dksX1_votes_2_2 17 rfl rfl)
abbrev cX1_harvest : ByteArray := prog_1_method_80_code
def yX1_harvest : MethodName := ⟨RX1, "harvest", "(II)I"⟩
def dkwX1_harvest_1 : List UInt8 := [172]
abbrev dktX1_harvest_1 : List UInt8 := dkwX1_harvest_1 ++ []
def dkwX1_harvest_0 : List UInt8 := [42, 27, 182, 0, 170, 78, 28, 3, 16, 10, 184, 0, 143, 19, 2, 148, 184, 0, 147, 45, 28, 182, 2, 149]
abbrev dktX1_harvest_0 : List UInt8 := dkwX1_harvest_0 ++ dktX1_harvest_1
theorem dksX1_harvest_0 : cX1_harvest.data.toList.drop 0 = dktX1_harvest_0 := by decide +kernel
theorem dksX1_harvest_1 : cX1_harvest.data.toList.drop 24 = dktX1_harvest_1 := dk_seg dksX1_harvest_0 24 rfl rfl
theorem dX1_harvest_0 : decode cX1_harvest 0 = .ok (.aload_n 0, 1) := dk_42 (dk_at dksX1_harvest_0 0 rfl rfl)
theorem dX1_harvest_1 : decode cX1_harvest 1 = .ok (.iload_n 1, 1) := dk_27 (dk_at dksX1_harvest_0 1 rfl rfl)
theorem dX1_harvest_2 : decode cX1_harvest 2 = .ok (.invokevirtual 170, 3) := dk_182 0 170 (dk_at dksX1_harvest_0 2 rfl rfl)
theorem dX1_harvest_5 : decode cX1_harvest 5 = .ok (.astore_n 3, 1) := dk_78 (dk_at dksX1_harvest_0 5 rfl rfl)
theorem dX1_harvest_6 : decode cX1_harvest 6 = .ok (.iload_n 2, 1) := dk_28 (dk_at dksX1_harvest_0 6 rfl rfl)
theorem dX1_harvest_7 : decode cX1_harvest 7 = .ok (.iconst 0, 1) := dk_3 (dk_at dksX1_harvest_0 7 rfl rfl)
theorem dX1_harvest_8 : decode cX1_harvest 8 = .ok (.bipush 10, 2) := dk_16 10 (dk_at dksX1_harvest_0 8 rfl rfl)
theorem dX1_harvest_10 : decode cX1_harvest 10 = .ok (.invokestatic 143, 3) := dk_184 0 143 (dk_at dksX1_harvest_0 10 rfl rfl)
theorem dX1_harvest_13 : decode cX1_harvest 13 = .ok (.ldc_w 660, 3) := dk_19 2 148 (dk_at dksX1_harvest_0 13 rfl rfl)
theorem dX1_harvest_16 : decode cX1_harvest 16 = .ok (.invokestatic 147, 3) := dk_184 0 147 (dk_at dksX1_harvest_0 16 rfl rfl)
theorem dX1_harvest_19 : decode cX1_harvest 19 = .ok (.aload_n 3, 1) := dk_45 (dk_at dksX1_harvest_0 19 rfl rfl)
theorem dX1_harvest_20 : decode cX1_harvest 20 = .ok (.iload_n 2, 1) := dk_28 (dk_at dksX1_harvest_0 20 rfl rfl)
theorem dX1_harvest_21 : decode cX1_harvest 21 = .ok (.invokevirtual 661, 3) := dk_182 2 149 (dk_at dksX1_harvest_0 21 rfl rfl)
theorem dX1_harvest_24 : decode cX1_harvest 24 = .ok (.ireturn, 1) := dk_172 (dk_at dksX1_harvest_1 0 rfl rfl)
abbrev cX1_direct_2 : ByteArray := prog_1_method_82_code
def yX1_direct_2 : MethodName := ⟨RX1, "direct", "(I)I"⟩
def dkwX1_direct_2_0 : List UInt8 := [42, 27, 184, 0, 213, 182, 2, 152, 172]
abbrev dktX1_direct_2_0 : List UInt8 := dkwX1_direct_2_0 ++ []
theorem dksX1_direct_2_0 : cX1_direct_2.data.toList.drop 0 = dktX1_direct_2_0 := by decide +kernel
theorem dX1_direct_2_0 : decode cX1_direct_2 0 = .ok (.aload_n 0, 1) := dk_42 (dk_at dksX1_direct_2_0 0 rfl rfl)
theorem dX1_direct_2_1 : decode cX1_direct_2 1 = .ok (.iload_n 1, 1) := dk_27 (dk_at dksX1_direct_2_0 1 rfl rfl)
theorem dX1_direct_2_2 : decode cX1_direct_2 2 = .ok (.invokestatic 213, 3) := dk_184 0 213 (dk_at dksX1_direct_2_0 2 rfl rfl)
theorem dX1_direct_2_5 : decode cX1_direct_2 5 = .ok (.invokevirtual 664, 3) := dk_182 2 152 (dk_at dksX1_direct_2_0 5 rfl rfl)
theorem dX1_direct_2_8 : decode cX1_direct_2 8 = .ok (.ireturn, 1) := dk_172 (dk_at dksX1_direct_2_0 8 rfl rfl)
abbrev cX1_wouldWin : ByteArray := prog_1_method_83_code
def yX1_wouldWin : MethodName := ⟨RX1, "wouldWin", "(I)I"⟩
def dkwX1_wouldWin_2 : List UInt8 := [192, 0, 112, 180, 1, 103, 167, 0, 4, 2, 172]
abbrev dktX1_wouldWin_2 : List UInt8 := dkwX1_wouldWin_2 ++ []
def dkwX1_wouldWin_1 : List UInt8 := [184, 0, 153, 42, 44, 182, 1, 61, 182, 1, 148, 153, 0, 20, 42, 44, 182, 1, 61, 182, 1, 73]
abbrev dktX1_wouldWin_1 : List UInt8 := dkwX1_wouldWin_1 ++ dktX1_wouldWin_2
def dkwX1_wouldWin_0 : List UInt8 := [42, 27, 182, 1, 17, 77, 44, 180, 1, 21, 178, 1, 25, 166, 0, 7, 4, 167, 0, 4, 3, 19, 1, 59]
abbrev dktX1_wouldWin_0 : List UInt8 := dkwX1_wouldWin_0 ++ dktX1_wouldWin_1
theorem dksX1_wouldWin_0 : cX1_wouldWin.data.toList.drop 0 = dktX1_wouldWin_0 := by decide +kernel
theorem dksX1_wouldWin_1 : cX1_wouldWin.data.toList.drop 24 = dktX1_wouldWin_1 := dk_seg dksX1_wouldWin_0 24 rfl rfl
theorem dksX1_wouldWin_2 : cX1_wouldWin.data.toList.drop 46 = dktX1_wouldWin_2 := dk_seg dksX1_wouldWin_1 22 rfl rfl
theorem dX1_wouldWin_0 : decode cX1_wouldWin 0 = .ok (.aload_n 0, 1) := dk_42 (dk_at dksX1_wouldWin_0 0 rfl rfl)
theorem dX1_wouldWin_1 : decode cX1_wouldWin 1 = .ok (.iload_n 1, 1) := dk_27 (dk_at dksX1_wouldWin_0 1 rfl rfl)
theorem dX1_wouldWin_2 : decode cX1_wouldWin 2 = .ok (.invokevirtual 273, 3) := dk_182 1 17 (dk_at dksX1_wouldWin_0 2 rfl rfl)
theorem dX1_wouldWin_5 : decode cX1_wouldWin 5 = .ok (.astore_n 2, 1) := dk_77 (dk_at dksX1_wouldWin_0 5 rfl rfl)
theorem dX1_wouldWin_6 : decode cX1_wouldWin 6 = .ok (.aload_n 2, 1) := dk_44 (dk_at dksX1_wouldWin_0 6 rfl rfl)
theorem dX1_wouldWin_7 : decode cX1_wouldWin 7 = .ok (.getfield 277, 3) := dk_180 1 21 (dk_at dksX1_wouldWin_0 7 rfl rfl)
theorem dX1_wouldWin_10 : decode cX1_wouldWin 10 = .ok (.getstatic 281, 3) := dk_178 1 25 (dk_at dksX1_wouldWin_0 10 rfl rfl)
theorem dX1_wouldWin_13 : decode cX1_wouldWin 13 = .ok (.if_acmp .ne 7, 3) := dk_166 0 7 (dk_at dksX1_wouldWin_0 13 rfl rfl)
theorem dX1_wouldWin_16 : decode cX1_wouldWin 16 = .ok (.iconst 1, 1) := dk_4 (dk_at dksX1_wouldWin_0 16 rfl rfl)
theorem dX1_wouldWin_17 : decode cX1_wouldWin 17 = .ok (.goto 4, 3) := dk_167 0 4 (dk_at dksX1_wouldWin_0 17 rfl rfl)
theorem dX1_wouldWin_20 : decode cX1_wouldWin 20 = .ok (.iconst 0, 1) := dk_3 (dk_at dksX1_wouldWin_0 20 rfl rfl)
theorem dX1_wouldWin_21 : decode cX1_wouldWin 21 = .ok (.ldc_w 315, 3) := dk_19 1 59 (dk_at dksX1_wouldWin_0 21 rfl rfl)
theorem dX1_wouldWin_24 : decode cX1_wouldWin 24 = .ok (.invokestatic 153, 3) := dk_184 0 153 (dk_at dksX1_wouldWin_1 0 rfl rfl)
theorem dX1_wouldWin_27 : decode cX1_wouldWin 27 = .ok (.aload_n 0, 1) := dk_42 (dk_at dksX1_wouldWin_1 3 rfl rfl)
theorem dX1_wouldWin_28 : decode cX1_wouldWin 28 = .ok (.aload_n 2, 1) := dk_44 (dk_at dksX1_wouldWin_1 4 rfl rfl)
theorem dX1_wouldWin_29 : decode cX1_wouldWin 29 = .ok (.invokevirtual 317, 3) := dk_182 1 61 (dk_at dksX1_wouldWin_1 5 rfl rfl)
theorem dX1_wouldWin_32 : decode cX1_wouldWin 32 = .ok (.invokevirtual 404, 3) := dk_182 1 148 (dk_at dksX1_wouldWin_1 8 rfl rfl)
theorem dX1_wouldWin_35 : decode cX1_wouldWin 35 = .ok (.ifCond .eq 20, 3) := dk_153 0 20 (dk_at dksX1_wouldWin_1 11 rfl rfl)
theorem dX1_wouldWin_38 : decode cX1_wouldWin 38 = .ok (.aload_n 0, 1) := dk_42 (dk_at dksX1_wouldWin_1 14 rfl rfl)
theorem dX1_wouldWin_39 : decode cX1_wouldWin 39 = .ok (.aload_n 2, 1) := dk_44 (dk_at dksX1_wouldWin_1 15 rfl rfl)
theorem dX1_wouldWin_40 : decode cX1_wouldWin 40 = .ok (.invokevirtual 317, 3) := dk_182 1 61 (dk_at dksX1_wouldWin_1 16 rfl rfl)
theorem dX1_wouldWin_43 : decode cX1_wouldWin 43 = .ok (.invokevirtual 329, 3) := dk_182 1 73 (dk_at dksX1_wouldWin_1 19 rfl rfl)
theorem dX1_wouldWin_46 : decode cX1_wouldWin 46 = .ok (.checkcast 112, 3) := dk_192 0 112 (dk_at dksX1_wouldWin_2 0 rfl rfl)
theorem dX1_wouldWin_49 : decode cX1_wouldWin 49 = .ok (.getfield 359, 3) := dk_180 1 103 (dk_at dksX1_wouldWin_2 3 rfl rfl)
theorem dX1_wouldWin_52 : decode cX1_wouldWin 52 = .ok (.goto 4, 3) := dk_167 0 4 (dk_at dksX1_wouldWin_2 6 rfl rfl)
theorem dX1_wouldWin_55 : decode cX1_wouldWin 55 = .ok (.iconst (-1), 1) := dk_2 (dk_at dksX1_wouldWin_2 9 rfl rfl)
theorem dX1_wouldWin_56 : decode cX1_wouldWin 56 = .ok (.ireturn, 1) := dk_172 (dk_at dksX1_wouldWin_2 10 rfl rfl)
theorem q74 : (Jvm.Cond.initialized "Publicanry") ∈ lw_all := lw_g (lw_at lw_m1 1 rfl) rfl
theorem q122 : (Jvm.Cond.instantiable "Publicanry" (16 : Nat)) ∈ lw_all := lw_g (lw_at lw_m1 49 rfl) rfl
theorem q124 : (Jvm.Cond.instanceMethod ({ cls := "Publicanry", name := "<init>", desc := "()V" } : Jvm.MethodName)) ∈ lw_all := lw_g (lw_at lw_m1 51 rfl) rfl
theorem q125 : (Jvm.Cond.code ({ cls := "Publicanry", name := "<init>", desc := "()V" } : Jvm.MethodName) prog_1_method_4_code (2 : Nat) (Option.none : Option Jvm.ClassFile.FieldType)) ∈ lw_all := lw_g (lw_at lw_m1 52 rfl) rfl
theorem q126 : (Jvm.Cond.methodLink "Publicanry" (10 : Nat) ({ cls := "java/lang/Object", name := "<init>", desc := "()V" } : Jvm.MethodName)) ∈ lw_all := lw_g (lw_at lw_m1 53 rfl) rfl
theorem q129 : (Jvm.Cond.classLink "Publicanry" (16 : Nat) "java/util/ArrayList") ∈ lw_all := lw_g (lw_at lw_m1 56 rfl) rfl
theorem q131 : (Jvm.Cond.methodLink "Publicanry" (18 : Nat) ({ cls := "java/util/ArrayList", name := "<init>", desc := "()V" } : Jvm.MethodName)) ∈ lw_all := lw_g (lw_at lw_m1 58 rfl) rfl
theorem q158 : (Jvm.Cond.classLink "Publicanry" (31 : Nat) "Publicanry$Rule") ∈ lw_all := lw_g (lw_at lw_m1 85 rfl) rfl
theorem q160 : (Jvm.Cond.classLink "Publicanry" (37 : Nat) "Publicanry$World") ∈ lw_all := lw_g (lw_at lw_m1 87 rfl) rfl
theorem q162 : (Jvm.Cond.methodLinkNest "Publicanry" (39 : Nat) ({ cls := "Publicanry$World", name := "<init>", desc := "()V" } : Jvm.MethodName) "Publicanry") ∈ lw_tbl := lw_at lw_m1 89 rfl
theorem q173 : (Jvm.Cond.classLink "Publicanry" (44 : Nat) "Publicanry$Chest") ∈ lw_all := lw_g (lw_at lw_m1 100 rfl) rfl
theorem q175 : (Jvm.Cond.methodLinkNest "Publicanry" (46 : Nat) ({ cls := "Publicanry$Chest", name := "<init>", desc := "()V" } : Jvm.MethodName) "Publicanry") ∈ lw_tbl := lw_at lw_m1 102 rfl
theorem q178 : (Jvm.Cond.classLink "Publicanry" (50 : Nat) "Publicanry$Governor") ∈ lw_all := lw_g (lw_at lw_m1 105 rfl) rfl
theorem q180 : (Jvm.Cond.methodLinkNest "Publicanry" (52 : Nat) ({ cls := "Publicanry$Governor", name := "<init>", desc := "()V" } : Jvm.MethodName) "Publicanry") ∈ lw_tbl := lw_at lw_m1 107 rfl
theorem q187 : (Jvm.Cond.fieldLink "Publicanry" (459 : Nat) "Publicanry$Governor" "chest" "LPublicanry$Chest;") ∈ lw_all := lw_g (lw_at lw_m1 114 rfl) rfl
theorem q189 : (Jvm.Cond.fieldLink "Publicanry" (489 : Nat) "Publicanry$Governor" "evidence" "I") ∈ lw_all := lw_g (lw_at lw_m1 116 rfl) rfl
theorem q195 : (Jvm.Cond.classLink "Publicanry" (57 : Nat) "Publicanry$Guard") ∈ lw_all := lw_g (lw_at lw_m1 122 rfl) rfl
theorem q197 : (Jvm.Cond.methodLinkNest "Publicanry" (59 : Nat) ({ cls := "Publicanry$Guard", name := "<init>", desc := "()V" } : Jvm.MethodName) "Publicanry") ∈ lw_tbl := lw_at lw_m1 124 rfl
theorem q206 : (Jvm.Cond.methodLink "Publicanry" (71 : Nat) ({ cls := "Publicanry$Duty", name := "values", desc := "()[LPublicanry$Duty;" } : Jvm.MethodName)) ∈ lw_all := lw_g (lw_at lw_m1 133 rfl) rfl
theorem q219 : (Jvm.Cond.methodLink "Publicanry" (80 : Nat) ({ cls := "Publicanry$Rule", name := "<init>", desc := "(I)V" } : Jvm.MethodName)) ∈ lw_all := lw_g (lw_at lw_m1 146 rfl) rfl
theorem q225 : (Jvm.Cond.fieldLink "Publicanry" (136 : Nat) "Publicanry$Rule" "rate" "I") ∈ lw_all := lw_g (lw_at lw_m1 152 rfl) rfl
theorem q228 : (Jvm.Cond.fieldLink "Publicanry" (126 : Nat) "Publicanry$Rule" "exempt" "I") ∈ lw_all := lw_g (lw_at lw_m1 155 rfl) rfl
theorem q230 : (Jvm.Cond.fieldLink "Publicanry" (591 : Nat) "Publicanry$Rule" "nextRate" "I") ∈ lw_all := lw_g (lw_at lw_m1 157 rfl) rfl
theorem q232 : (Jvm.Cond.fieldLink "Publicanry" (492 : Nat) "Publicanry$Rule" "isByClerks" "Z") ∈ lw_all := lw_g (lw_at lw_m1 159 rfl) rfl
theorem q233 : (Jvm.Cond.fieldLink "Publicanry" (537 : Nat) "Publicanry$Rule" "brought" "I") ∈ lw_all := lw_g (lw_at lw_m1 160 rfl) rfl
theorem q247 : (Jvm.Cond.fieldLink "Publicanry" (19 : Nat) "Publicanry" "villages" "Ljava/util/ArrayList;") ∈ lw_all := lw_g (lw_at lw_m1 174 rfl) rfl
theorem q248 : (Jvm.Cond.fieldLink "Publicanry" (25 : Nat) "Publicanry" "companies" "Ljava/util/ArrayList;") ∈ lw_all := lw_g (lw_at lw_m1 175 rfl) rfl
theorem q249 : (Jvm.Cond.fieldLink "Publicanry" (28 : Nat) "Publicanry" "lots" "Ljava/util/ArrayList;") ∈ lw_all := lw_g (lw_at lw_m1 176 rfl) rfl
theorem q250 : (Jvm.Cond.fieldLink "Publicanry" (33 : Nat) "Publicanry" "rules" "[LPublicanry$Rule;") ∈ lw_all := lw_g (lw_at lw_m1 177 rfl) rfl
theorem q251 : (Jvm.Cond.fieldLink "Publicanry" (40 : Nat) "Publicanry" "world" "LPublicanry$Chest;") ∈ lw_all := lw_g (lw_at lw_m1 178 rfl) rfl
theorem q252 : (Jvm.Cond.fieldLink "Publicanry" (47 : Nat) "Publicanry" "treasury" "LPublicanry$Chest;") ∈ lw_all := lw_g (lw_at lw_m1 179 rfl) rfl
theorem q253 : (Jvm.Cond.fieldLink "Publicanry" (53 : Nat) "Publicanry" "governor" "LPublicanry$Governor;") ∈ lw_all := lw_g (lw_at lw_m1 180 rfl) rfl
theorem q254 : (Jvm.Cond.fieldLink "Publicanry" (60 : Nat) "Publicanry" "guard" "LPublicanry$Guard;") ∈ lw_all := lw_g (lw_at lw_m1 181 rfl) rfl
theorem q255 : (Jvm.Cond.fieldLink "Publicanry" (120 : Nat) "Publicanry" "season" "I") ∈ lw_all := lw_g (lw_at lw_m1 182 rfl) rfl
theorem q256 : (Jvm.Cond.fieldLink "Publicanry" (64 : Nat) "Publicanry" "sky" "I") ∈ lw_all := lw_g (lw_at lw_m1 183 rfl) rfl
theorem q257 : (Jvm.Cond.fieldLink "Publicanry" (159 : Nat) "Publicanry" "law" "I") ∈ lw_all := lw_g (lw_at lw_m1 184 rfl) rfl
theorem q258 : (Jvm.Cond.fieldLink "Publicanry" (68 : Nat) "Publicanry" "bidders" "I") ∈ lw_all := lw_g (lw_at lw_m1 185 rfl) rfl
theorem q259 : (Jvm.Cond.fieldLink "Publicanry" (450 : Nat) "Publicanry" "won" "I") ∈ lw_all := lw_g (lw_at lw_m1 186 rfl) rfl
theorem q260 : (Jvm.Cond.fieldLink "Publicanry" (435 : Nat) "Publicanry" "lost" "I") ∈ lw_all := lw_g (lw_at lw_m1 187 rfl) rfl
theorem q261 : (Jvm.Cond.fieldLink "Publicanry" (447 : Nat) "Publicanry" "asideSet" "I") ∈ lw_all := lw_g (lw_at lw_m1 188 rfl) rfl
theorem q262 : (Jvm.Cond.fieldLink "Publicanry" (673 : Nat) "Publicanry" "d" "J") ∈ lw_all := lw_g (lw_at lw_m1 189 rfl) rfl
theorem q263 : (Jvm.Cond.laysFinal "Publicanry" "Publicanry" "villages" "Ljava/util/ArrayList;") ∈ lw_all := lw_g (lw_at lw_m1 190 rfl) rfl
theorem q264 : (Jvm.Cond.soleField "Publicanry" "villages") ∈ lw_all := lw_g (lw_at lw_m1 191 rfl) rfl
theorem q265 : (Jvm.Cond.laysFinal "Publicanry" "Publicanry" "companies" "Ljava/util/ArrayList;") ∈ lw_all := lw_g (lw_at lw_m1 192 rfl) rfl
theorem q266 : (Jvm.Cond.soleField "Publicanry" "companies") ∈ lw_all := lw_g (lw_at lw_m1 193 rfl) rfl
theorem q267 : (Jvm.Cond.laysFinal "Publicanry" "Publicanry" "lots" "Ljava/util/ArrayList;") ∈ lw_all := lw_g (lw_at lw_m1 194 rfl) rfl
theorem q268 : (Jvm.Cond.soleField "Publicanry" "lots") ∈ lw_all := lw_g (lw_at lw_m1 195 rfl) rfl
theorem q269 : (Jvm.Cond.laysFinal "Publicanry" "Publicanry" "rules" "[LPublicanry$Rule;") ∈ lw_all := lw_g (lw_at lw_m1 196 rfl) rfl
theorem q270 : (Jvm.Cond.soleField "Publicanry" "rules") ∈ lw_all := lw_g (lw_at lw_m1 197 rfl) rfl
theorem q271 : (Jvm.Cond.laysFinal "Publicanry" "Publicanry" "world" "LPublicanry$Chest;") ∈ lw_all := lw_g (lw_at lw_m1 198 rfl) rfl
theorem q272 : (Jvm.Cond.soleField "Publicanry" "world") ∈ lw_all := lw_g (lw_at lw_m1 199 rfl) rfl
theorem q273 : (Jvm.Cond.laysFinal "Publicanry" "Publicanry" "treasury" "LPublicanry$Chest;") ∈ lw_all := lw_g (lw_at lw_m1 200 rfl) rfl
theorem q274 : (Jvm.Cond.soleField "Publicanry" "treasury") ∈ lw_all := lw_g (lw_at lw_m1 201 rfl) rfl
theorem q275 : (Jvm.Cond.laysFinal "Publicanry" "Publicanry" "governor" "LPublicanry$Governor;") ∈ lw_all := lw_g (lw_at lw_m1 202 rfl) rfl
theorem q276 : (Jvm.Cond.soleField "Publicanry" "governor") ∈ lw_all := lw_g (lw_at lw_m1 203 rfl) rfl
theorem q277 : (Jvm.Cond.laysFinal "Publicanry" "Publicanry" "guard" "LPublicanry$Guard;") ∈ lw_all := lw_g (lw_at lw_m1 204 rfl) rfl
theorem q278 : (Jvm.Cond.soleField "Publicanry" "guard") ∈ lw_all := lw_g (lw_at lw_m1 205 rfl) rfl
theorem q279 : (Jvm.Cond.lays "Publicanry" "Publicanry" "season" "I") ∈ lw_all := lw_g (lw_at lw_m1 206 rfl) rfl
theorem q280 : (Jvm.Cond.soleField "Publicanry" "season") ∈ lw_all := lw_g (lw_at lw_m1 207 rfl) rfl
theorem q281 : (Jvm.Cond.lays "Publicanry" "Publicanry" "sky" "I") ∈ lw_all := lw_g (lw_at lw_m1 208 rfl) rfl
theorem q282 : (Jvm.Cond.soleField "Publicanry" "sky") ∈ lw_all := lw_g (lw_at lw_m1 209 rfl) rfl
theorem q283 : (Jvm.Cond.lays "Publicanry" "Publicanry" "law" "I") ∈ lw_all := lw_g (lw_at lw_m1 210 rfl) rfl
theorem q284 : (Jvm.Cond.soleField "Publicanry" "law") ∈ lw_all := lw_g (lw_at lw_m1 211 rfl) rfl
theorem q285 : (Jvm.Cond.lays "Publicanry" "Publicanry" "bidders" "I") ∈ lw_all := lw_g (lw_at lw_m1 212 rfl) rfl
theorem q286 : (Jvm.Cond.soleField "Publicanry" "bidders") ∈ lw_all := lw_g (lw_at lw_m1 213 rfl) rfl
theorem q287 : (Jvm.Cond.lays "Publicanry" "Publicanry" "won" "I") ∈ lw_all := lw_g (lw_at lw_m1 214 rfl) rfl
theorem q288 : (Jvm.Cond.soleField "Publicanry" "won") ∈ lw_all := lw_g (lw_at lw_m1 215 rfl) rfl
theorem q289 : (Jvm.Cond.lays "Publicanry" "Publicanry" "lost" "I") ∈ lw_all := lw_g (lw_at lw_m1 216 rfl) rfl
theorem q290 : (Jvm.Cond.soleField "Publicanry" "lost") ∈ lw_all := lw_g (lw_at lw_m1 217 rfl) rfl
theorem q291 : (Jvm.Cond.lays "Publicanry" "Publicanry" "asideSet" "I") ∈ lw_all := lw_g (lw_at lw_m1 218 rfl) rfl
theorem q292 : (Jvm.Cond.soleField "Publicanry" "asideSet") ∈ lw_all := lw_g (lw_at lw_m1 219 rfl) rfl
theorem q293 : (Jvm.Cond.lays "Publicanry" "Publicanry" "d" "J") ∈ lw_all := lw_g (lw_at lw_m1 220 rfl) rfl
theorem q294 : (Jvm.Cond.soleField "Publicanry" "d") ∈ lw_all := lw_g (lw_at lw_m1 221 rfl) rfl
theorem q295 : (Jvm.Cond.superclass "Publicanry" "java/lang/Object") ∈ lw_all := lw_g (lw_at lw_m1 222 rfl) rfl
theorem q297 : (Jvm.Cond.instanceMethod ({ cls := "Publicanry", name := "recall", desc := "()I" } : Jvm.MethodName)) ∈ lw_all := lw_g (lw_at lw_m1 224 rfl) rfl
theorem q298 : (Jvm.Cond.selects "Publicanry" ({ cls := "Publicanry", name := "recall", desc := "()I" } : Jvm.MethodName) ({ cls := "Publicanry", name := "recall", desc := "()I" } : Jvm.MethodName)) ∈ lw_all := lw_g (lw_at lw_m1 225 rfl) rfl
theorem q299 : (Jvm.Cond.code ({ cls := "Publicanry", name := "recall", desc := "()I" } : Jvm.MethodName) prog_1_method_45_code (5 : Nat) (Option.some Jvm.ClassFile.FieldType.int)) ∈ lw_all := lw_g (lw_at lw_m1 226 rfl) rfl
theorem q300 : (Jvm.Cond.methodLink "Publicanry" (257 : Nat) ({ cls := "Publicanry$Chest", name := "coins", desc := "()I" } : Jvm.MethodName)) ∈ lw_all := lw_g (lw_at lw_m1 227 rfl) rfl
theorem q306 : (Jvm.Cond.methodLink "Publicanry" (182 : Nat) ({ cls := "Publicanry$Chest", name := "pay", desc := "(LPublicanry$Chest;I)I" } : Jvm.MethodName)) ∈ lw_all := lw_g (lw_at lw_m1 233 rfl) rfl
theorem q325 : (Jvm.Cond.methodLink "Publicanry" (191 : Nat) ({ cls := "java/util/ArrayList", name := "iterator", desc := "()Ljava/util/Iterator;" } : Jvm.MethodName)) ∈ lw_all := lw_g (lw_at lw_m2 12 rfl) rfl
theorem q348 : (Jvm.Cond.interfaceEntry "Publicanry" (195 : Nat)) ∈ lw_tbl := lw_at lw_m2 35 rfl
theorem q349 : (Jvm.Cond.methodLink "Publicanry" (195 : Nat) ({ cls := "java/util/Iterator", name := "hasNext", desc := "()Z" } : Jvm.MethodName)) ∈ lw_all := lw_g (lw_at lw_m2 36 rfl) rfl
theorem q358 : (Jvm.Cond.interfaceEntry "Publicanry" (201 : Nat)) ∈ lw_tbl := lw_at lw_m2 45 rfl
theorem q359 : (Jvm.Cond.methodLink "Publicanry" (201 : Nat) ({ cls := "java/util/Iterator", name := "next", desc := "()Ljava/lang/Object;" } : Jvm.MethodName)) ∈ lw_all := lw_g (lw_at lw_m2 46 rfl) rfl
theorem q371 : (Jvm.Cond.classLink "Publicanry" (112 : Nat) "Publicanry$Company") ∈ lw_all := lw_g (lw_at lw_m2 58 rfl) rfl
theorem q373 : (Jvm.Cond.instanceMethod ({ cls := "Publicanry", name := "call", desc := "()I" } : Jvm.MethodName)) ∈ lw_all := lw_g (lw_at lw_m2 60 rfl) rfl
theorem q374 : (Jvm.Cond.selects "Publicanry" ({ cls := "Publicanry", name := "call", desc := "()I" } : Jvm.MethodName) ({ cls := "Publicanry", name := "call", desc := "()I" } : Jvm.MethodName)) ∈ lw_all := lw_g (lw_at lw_m2 61 rfl) rfl
theorem q375 : (Jvm.Cond.code ({ cls := "Publicanry", name := "call", desc := "()I" } : Jvm.MethodName) prog_1_method_54_code (1 : Nat) (Option.some Jvm.ClassFile.FieldType.int)) ∈ lw_all := lw_g (lw_at lw_m2 62 rfl) rfl
theorem q376 : (Jvm.Cond.methodLink "Publicanry" (564 : Nat) ({ cls := "Publicanry$Guard", name := "call", desc := "()I" } : Jvm.MethodName)) ∈ lw_all := lw_g (lw_at lw_m2 63 rfl) rfl
theorem q456 : (Jvm.Cond.selects "Publicanry" ({ cls := "java/lang/Object", name := "notifyAll", desc := "()V" } : Jvm.MethodName) ({ cls := "java/lang/Object", name := "notifyAll", desc := "()V" } : Jvm.MethodName)) ∈ lw_all := lw_g (lw_at lw_m2 143 rfl) rfl
theorem q489 : (Jvm.Cond.instanceMethod ({ cls := "Publicanry", name := "isSound", desc := "()Z" } : Jvm.MethodName)) ∈ lw_all := lw_g (lw_at lw_m2 176 rfl) rfl
theorem q490 : (Jvm.Cond.selects "Publicanry" ({ cls := "Publicanry", name := "isSound", desc := "()Z" } : Jvm.MethodName) ({ cls := "Publicanry", name := "isSound", desc := "()Z" } : Jvm.MethodName)) ∈ lw_all := lw_g (lw_at lw_m2 177 rfl) rfl
theorem q491 : (Jvm.Cond.code ({ cls := "Publicanry", name := "isSound", desc := "()Z" } : Jvm.MethodName) prog_1_method_85_code (1 : Nat) (Option.some Jvm.ClassFile.FieldType.boolean)) ∈ lw_all := lw_g (lw_at lw_m2 178 rfl) rfl
theorem q492 : (Jvm.Cond.methodLink "Publicanry" (670 : Nat) ({ cls := "Publicanry", name := "isWhole", desc := "()Z" } : Jvm.MethodName)) ∈ lw_all := lw_g (lw_at lw_m2 179 rfl) rfl
theorem q493 : (Jvm.Cond.privateMethod ({ cls := "Publicanry", name := "isWhole", desc := "()Z" } : Jvm.MethodName)) ∈ lw_tbl := lw_at lw_m2 180 rfl
theorem q494 : (Jvm.Cond.instanceMethod ({ cls := "Publicanry", name := "isWhole", desc := "()Z" } : Jvm.MethodName)) ∈ lw_all := lw_g (lw_at lw_m2 181 rfl) rfl
theorem q495 : (Jvm.Cond.code ({ cls := "Publicanry", name := "isWhole", desc := "()Z" } : Jvm.MethodName) prog_1_method_84_code (5 : Nat) (Option.some Jvm.ClassFile.FieldType.boolean)) ∈ lw_all := lw_g (lw_at lw_m2 182 rfl) rfl
theorem q496 : (Jvm.Cond.classLink "Publicanry" (108 : Nat) "Publicanry$Village") ∈ lw_all := lw_g (lw_at lw_m2 183 rfl) rfl
theorem q497 : (Jvm.Cond.classLink "Publicanry" (116 : Nat) "Publicanry$Lot") ∈ lw_all := lw_g (lw_at lw_m2 184 rfl) rfl
theorem q498 : (Jvm.Cond.methodLink "Publicanry" (667 : Nat) ({ cls := "Publicanry$Lot", name := "isOpen", desc := "()Z" } : Jvm.MethodName)) ∈ lw_all := lw_g (lw_at lw_m2 185 rfl) rfl
theorem q506 : (Jvm.Cond.methodLink "Publicanry" (267 : Nat) ({ cls := "Publicanry", name := "clashes", desc := "(LPublicanry$Lot;)Z" } : Jvm.MethodName)) ∈ lw_all := lw_g (lw_at lw_m2 193 rfl) rfl
theorem q507 : (Jvm.Cond.privateMethod ({ cls := "Publicanry", name := "clashes", desc := "(LPublicanry$Lot;)Z" } : Jvm.MethodName)) ∈ lw_tbl := lw_at lw_m2 194 rfl
theorem q508 : (Jvm.Cond.instanceMethod ({ cls := "Publicanry", name := "clashes", desc := "(LPublicanry$Lot;)Z" } : Jvm.MethodName)) ∈ lw_all := lw_g (lw_at lw_m2 195 rfl) rfl
theorem q509 : (Jvm.Cond.code ({ cls := "Publicanry", name := "clashes", desc := "(LPublicanry$Lot;)Z" } : Jvm.MethodName) prog_1_method_28_code (4 : Nat) (Option.some Jvm.ClassFile.FieldType.boolean)) ∈ lw_all := lw_g (lw_at lw_m2 196 rfl) rfl
theorem q510 : (Jvm.Cond.methodLink "Publicanry" (272 : Nat) ({ cls := "Publicanry$Lot", name := "clashes", desc := "(LPublicanry$Lot;)Z" } : Jvm.MethodName)) ∈ lw_all := lw_g (lw_at lw_m2 197 rfl) rfl
theorem q515 : (Jvm.Cond.methodLink "Publicanry" (372 : Nat) ({ cls := "Publicanry$Lot", name := "isLeased", desc := "()Z" } : Jvm.MethodName)) ∈ lw_all := lw_g (lw_at lw_m2 202 rfl) rfl
theorem q519 : (Jvm.Cond.methodLink "Publicanry" (329 : Nat) ({ cls := "java/util/Optional", name := "get", desc := "()Ljava/lang/Object;" } : Jvm.MethodName)) ∈ lw_all := lw_g (lw_at lw_m2 206 rfl) rfl
theorem q524 : (Jvm.Cond.instanceMethod ({ cls := "Publicanry", name := "digest", desc := "()J" } : Jvm.MethodName)) ∈ lw_all := lw_g (lw_at lw_m2 211 rfl) rfl
theorem q525 : (Jvm.Cond.selects "Publicanry" ({ cls := "Publicanry", name := "digest", desc := "()J" } : Jvm.MethodName) ({ cls := "Publicanry", name := "digest", desc := "()J" } : Jvm.MethodName)) ∈ lw_all := lw_g (lw_at lw_m2 212 rfl) rfl
theorem q526 : (Jvm.Cond.code ({ cls := "Publicanry", name := "digest", desc := "()J" } : Jvm.MethodName) prog_1_method_89_code (6 : Nat) (Option.some Jvm.ClassFile.FieldType.long)) ∈ lw_all := lw_g (lw_at lw_m2 213 rfl) rfl
theorem q527 : (Jvm.Cond.constantLong "Publicanry" (684 : Nat) (58260 : Int64)) ∈ lw_all := lw_g (lw_at lw_m2 214 rfl) rfl
theorem q528 : (Jvm.Cond.methodLink "Publicanry" (624 : Nat) ({ cls := "Publicanry", name := "told", desc := "(I)I" } : Jvm.MethodName)) ∈ lw_all := lw_g (lw_at lw_m2 215 rfl) rfl
theorem q529 : (Jvm.Cond.privateMethod ({ cls := "Publicanry", name := "told", desc := "(I)I" } : Jvm.MethodName)) ∈ lw_tbl := lw_at lw_m2 216 rfl
theorem q530 : (Jvm.Cond.instanceMethod ({ cls := "Publicanry", name := "told", desc := "(I)I" } : Jvm.MethodName)) ∈ lw_all := lw_g (lw_at lw_m2 217 rfl) rfl
theorem q531 : (Jvm.Cond.code ({ cls := "Publicanry", name := "told", desc := "(I)I" } : Jvm.MethodName) prog_1_method_71_code (2 : Nat) (Option.some Jvm.ClassFile.FieldType.int)) ∈ lw_all := lw_g (lw_at lw_m2 218 rfl) rfl
theorem q532 : (Jvm.Cond.methodLink "Publicanry" (346 : Nat) ({ cls := "Publicanry", name := "year", desc := "()I" } : Jvm.MethodName)) ∈ lw_all := lw_g (lw_at lw_m2 219 rfl) rfl
theorem q533 : (Jvm.Cond.privateMethod ({ cls := "Publicanry", name := "year", desc := "()I" } : Jvm.MethodName)) ∈ lw_tbl := lw_at lw_m2 220 rfl
theorem q534 : (Jvm.Cond.instanceMethod ({ cls := "Publicanry", name := "year", desc := "()I" } : Jvm.MethodName)) ∈ lw_all := lw_g (lw_at lw_m2 221 rfl) rfl
theorem q535 : (Jvm.Cond.code ({ cls := "Publicanry", name := "year", desc := "()I" } : Jvm.MethodName) prog_1_method_13_code (1 : Nat) (Option.some Jvm.ClassFile.FieldType.int)) ∈ lw_all := lw_g (lw_at lw_m2 222 rfl) rfl
theorem q536 : (Jvm.Cond.methodLink "Publicanry" (94 : Nat) ({ cls := "java/util/ArrayList", name := "size", desc := "()I" } : Jvm.MethodName)) ∈ lw_all := lw_g (lw_at lw_m2 223 rfl) rfl
theorem q540 : (Jvm.Cond.methodLink "Publicanry" (616 : Nat) ({ cls := "Publicanry", name := "houses", desc := "()I" } : Jvm.MethodName)) ∈ lw_all := lw_g (lw_at lw_m2 227 rfl) rfl
theorem q541 : (Jvm.Cond.privateMethod ({ cls := "Publicanry", name := "houses", desc := "()I" } : Jvm.MethodName)) ∈ lw_tbl := lw_at lw_m2 228 rfl
theorem q542 : (Jvm.Cond.instanceMethod ({ cls := "Publicanry", name := "houses", desc := "()I" } : Jvm.MethodName)) ∈ lw_all := lw_g (lw_at lw_m2 229 rfl) rfl
theorem q543 : (Jvm.Cond.code ({ cls := "Publicanry", name := "houses", desc := "()I" } : Jvm.MethodName) prog_1_method_69_code (4 : Nat) (Option.some Jvm.ClassFile.FieldType.int)) ∈ lw_all := lw_g (lw_at lw_m2 230 rfl) rfl
theorem q544 : (Jvm.Cond.methodLink "Publicanry" (618 : Nat) ({ cls := "Publicanry", name := "oldStones", desc := "()I" } : Jvm.MethodName)) ∈ lw_all := lw_g (lw_at lw_m2 231 rfl) rfl
theorem q545 : (Jvm.Cond.privateMethod ({ cls := "Publicanry", name := "oldStones", desc := "()I" } : Jvm.MethodName)) ∈ lw_tbl := lw_at lw_m2 232 rfl
theorem q546 : (Jvm.Cond.instanceMethod ({ cls := "Publicanry", name := "oldStones", desc := "()I" } : Jvm.MethodName)) ∈ lw_all := lw_g (lw_at lw_m2 233 rfl) rfl
theorem q547 : (Jvm.Cond.code ({ cls := "Publicanry", name := "oldStones", desc := "()I" } : Jvm.MethodName) prog_1_method_70_code (4 : Nat) (Option.some Jvm.ClassFile.FieldType.int)) ∈ lw_all := lw_g (lw_at lw_m2 234 rfl) rfl
theorem q548 : (Jvm.Cond.methodLink "Publicanry" (209 : Nat) ({ cls := "Publicanry", name := "one", desc := "(Z)I" } : Jvm.MethodName)) ∈ lw_all := lw_g (lw_at lw_m2 235 rfl) rfl
theorem q549 : (Jvm.Cond.static ({ cls := "Publicanry", name := "one", desc := "(Z)I" } : Jvm.MethodName)) ∈ lw_all := lw_g (lw_at lw_m2 236 rfl) rfl
theorem q550 : (Jvm.Cond.code ({ cls := "Publicanry", name := "one", desc := "(Z)I" } : Jvm.MethodName) prog_1_method_1_code (1 : Nat) (Option.some Jvm.ClassFile.FieldType.int)) ∈ lw_all := lw_g (lw_at lw_m2 237 rfl) rfl
theorem q551 : (Jvm.Cond.methodLink "Publicanry" (621 : Nat) ({ cls := "Publicanry$Guard", name := "refused", desc := "()I" } : Jvm.MethodName)) ∈ lw_all := lw_g (lw_at lw_m2 238 rfl) rfl
theorem q558 : (Jvm.Cond.selects "Publicanry" ({ cls := "java/lang/Object", name := "notify", desc := "()V" } : Jvm.MethodName) ({ cls := "java/lang/Object", name := "notify", desc := "()V" } : Jvm.MethodName)) ∈ lw_all := lw_g (lw_at lw_m3 5 rfl) rfl
theorem q590 : (Jvm.Cond.methodLink "Publicanry" (679 : Nat) ({ cls := "Publicanry", name := "add", desc := "(J)V" } : Jvm.MethodName)) ∈ lw_all := lw_g (lw_at lw_m3 37 rfl) rfl
theorem q591 : (Jvm.Cond.privateMethod ({ cls := "Publicanry", name := "add", desc := "(J)V" } : Jvm.MethodName)) ∈ lw_tbl := lw_at lw_m3 38 rfl
theorem q592 : (Jvm.Cond.instanceMethod ({ cls := "Publicanry", name := "add", desc := "(J)V" } : Jvm.MethodName)) ∈ lw_all := lw_g (lw_at lw_m3 39 rfl) rfl
theorem q593 : (Jvm.Cond.code ({ cls := "Publicanry", name := "add", desc := "(J)V" } : Jvm.MethodName) prog_1_method_86_code (3 : Nat) (Option.none : Option Jvm.ClassFile.FieldType)) ∈ lw_all := lw_g (lw_at lw_m3 40 rfl) rfl
theorem q594 : (Jvm.Cond.constantLong "Publicanry" (677 : Nat) (31 : Int64)) ∈ lw_all := lw_g (lw_at lw_m3 41 rfl) rfl
theorem q595 : (Jvm.Cond.methodLink "Publicanry" (123 : Nat) ({ cls := "Publicanry$Duty", name := "ordinal", desc := "()I" } : Jvm.MethodName)) ∈ lw_all := lw_g (lw_at lw_m3 42 rfl) rfl
theorem q603 : (Jvm.Cond.methodLink "Publicanry" (594 : Nat) ({ cls := "Publicanry", name := "told", desc := "(LPublicanry$Rule;I)I" } : Jvm.MethodName)) ∈ lw_all := lw_g (lw_at lw_m3 50 rfl) rfl
theorem q604 : (Jvm.Cond.static ({ cls := "Publicanry", name := "told", desc := "(LPublicanry$Rule;I)I" } : Jvm.MethodName)) ∈ lw_all := lw_g (lw_at lw_m3 51 rfl) rfl
theorem q605 : (Jvm.Cond.code ({ cls := "Publicanry", name := "told", desc := "(LPublicanry$Rule;I)I" } : Jvm.MethodName) prog_1_method_61_code (2 : Nat) (Option.some Jvm.ClassFile.FieldType.int)) ∈ lw_all := lw_g (lw_at lw_m3 52 rfl) rfl
theorem q606 : (Jvm.Cond.methodLink "Publicanry" (664 : Nat) ({ cls := "Publicanry", name := "direct", desc := "(LPublicanry$Duty;)I" } : Jvm.MethodName)) ∈ lw_all := lw_g (lw_at lw_m3 53 rfl) rfl
theorem q607 : (Jvm.Cond.privateMethod ({ cls := "Publicanry", name := "direct", desc := "(LPublicanry$Duty;)I" } : Jvm.MethodName)) ∈ lw_tbl := lw_at lw_m3 54 rfl
theorem q608 : (Jvm.Cond.instanceMethod ({ cls := "Publicanry", name := "direct", desc := "(LPublicanry$Duty;)I" } : Jvm.MethodName)) ∈ lw_all := lw_g (lw_at lw_m3 55 rfl) rfl
theorem q609 : (Jvm.Cond.code ({ cls := "Publicanry", name := "direct", desc := "(LPublicanry$Duty;)I" } : Jvm.MethodName) prog_1_method_81_code (5 : Nat) (Option.some Jvm.ClassFile.FieldType.int)) ∈ lw_all := lw_g (lw_at lw_m3 56 rfl) rfl
theorem q610 : (Jvm.Cond.methodLink "Publicanry" (533 : Nat) ({ cls := "Publicanry", name := "isLet", desc := "(LPublicanry$Village;LPublicanry$Duty;)Z" } : Jvm.MethodName)) ∈ lw_all := lw_g (lw_at lw_m3 57 rfl) rfl
theorem q611 : (Jvm.Cond.privateMethod ({ cls := "Publicanry", name := "isLet", desc := "(LPublicanry$Village;LPublicanry$Duty;)Z" } : Jvm.MethodName)) ∈ lw_tbl := lw_at lw_m3 58 rfl
theorem q612 : (Jvm.Cond.instanceMethod ({ cls := "Publicanry", name := "isLet", desc := "(LPublicanry$Village;LPublicanry$Duty;)Z" } : Jvm.MethodName)) ∈ lw_all := lw_g (lw_at lw_m3 59 rfl) rfl
theorem q613 : (Jvm.Cond.code ({ cls := "Publicanry", name := "isLet", desc := "(LPublicanry$Village;LPublicanry$Duty;)Z" } : Jvm.MethodName) prog_1_method_50_code (5 : Nat) (Option.some Jvm.ClassFile.FieldType.boolean)) ∈ lw_all := lw_g (lw_at lw_m3 60 rfl) rfl
theorem q614 : (Jvm.Cond.methodLink "Publicanry" (132 : Nat) ({ cls := "Publicanry", name := "has", desc := "(II)Z" } : Jvm.MethodName)) ∈ lw_all := lw_g (lw_at lw_m3 61 rfl) rfl
theorem q615 : (Jvm.Cond.static ({ cls := "Publicanry", name := "has", desc := "(II)Z" } : Jvm.MethodName)) ∈ lw_all := lw_g (lw_at lw_m3 62 rfl) rfl
theorem q616 : (Jvm.Cond.code ({ cls := "Publicanry", name := "has", desc := "(II)Z" } : Jvm.MethodName) prog_1_method_2_code (2 : Nat) (Option.some Jvm.ClassFile.FieldType.boolean)) ∈ lw_all := lw_g (lw_at lw_m3 63 rfl) rfl
theorem q617 : (Jvm.Cond.methodLink "Publicanry" (517 : Nat) ({ cls := "Publicanry", name := "dueByLaw", desc := "(LPublicanry$Village;LPublicanry$Duty;)I" } : Jvm.MethodName)) ∈ lw_all := lw_g (lw_at lw_m3 64 rfl) rfl
theorem q618 : (Jvm.Cond.privateMethod ({ cls := "Publicanry", name := "dueByLaw", desc := "(LPublicanry$Village;LPublicanry$Duty;)I" } : Jvm.MethodName)) ∈ lw_tbl := lw_at lw_m3 65 rfl
theorem q619 : (Jvm.Cond.instanceMethod ({ cls := "Publicanry", name := "dueByLaw", desc := "(LPublicanry$Village;LPublicanry$Duty;)I" } : Jvm.MethodName)) ∈ lw_all := lw_g (lw_at lw_m3 66 rfl) rfl
theorem q620 : (Jvm.Cond.code ({ cls := "Publicanry", name := "dueByLaw", desc := "(LPublicanry$Village;LPublicanry$Duty;)I" } : Jvm.MethodName) prog_1_method_15_code (4 : Nat) (Option.some Jvm.ClassFile.FieldType.int)) ∈ lw_all := lw_g (lw_at lw_m3 67 rfl) rfl
theorem q621 : (Jvm.Cond.methodLink "Publicanry" (139 : Nat) ({ cls := "Publicanry$Duty", name := "due", desc := "(LPublicanry$Village;I)I" } : Jvm.MethodName)) ∈ lw_all := lw_g (lw_at lw_m3 68 rfl) rfl
theorem q633 : (Jvm.Cond.methodLink "Publicanry" (507 : Nat) ({ cls := "Publicanry$Village", name := "shown", desc := "(II)I" } : Jvm.MethodName)) ∈ lw_all := lw_g (lw_at lw_m3 80 rfl) rfl
theorem q638 : (Jvm.Cond.static ({ cls := "Publicanry", name := "hold", desc := "(III)I" } : Jvm.MethodName)) ∈ lw_all := lw_g (lw_at lw_m3 85 rfl) rfl
theorem q639 : (Jvm.Cond.code ({ cls := "Publicanry", name := "hold", desc := "(III)I" } : Jvm.MethodName) prog_1_method_3_code (3 : Nat) (Option.some Jvm.ClassFile.FieldType.int)) ∈ lw_all := lw_g (lw_at lw_m3 86 rfl) rfl
theorem q640 : (Jvm.Cond.methodLink "Publicanry" (1 : Nat) ({ cls := "java/lang/Math", name := "min", desc := "(II)I" } : Jvm.MethodName)) ∈ lw_all := lw_g (lw_at lw_m3 87 rfl) rfl
theorem q641 : (Jvm.Cond.methodLink "Publicanry" (7 : Nat) ({ cls := "java/lang/Math", name := "max", desc := "(II)I" } : Jvm.MethodName)) ∈ lw_all := lw_g (lw_at lw_m3 88 rfl) rfl
theorem q644 : (Jvm.Cond.methodLink "Publicanry" (510 : Nat) ({ cls := "Publicanry$Duty", name := "got", desc := "(LPublicanry$Village;IZLPublicanry$Chest;LPublicanry$Chest;Z)I" } : Jvm.MethodName)) ∈ lw_all := lw_g (lw_at lw_m3 91 rfl) rfl
theorem q663 : (Jvm.Cond.methodLink "Publicanry" (454 : Nat) ({ cls := "Publicanry$Duty", name := "worth", desc := "(I)I" } : Jvm.MethodName)) ∈ lw_all := lw_g (lw_at lw_m3 110 rfl) rfl
theorem q672 : (Jvm.Cond.methodLink "Publicanry" (686 : Nat) ({ cls := "Publicanry", name := "addVillage", desc := "(LPublicanry$Village;)V" } : Jvm.MethodName)) ∈ lw_all := lw_g (lw_at lw_m3 119 rfl) rfl
theorem q673 : (Jvm.Cond.privateMethod ({ cls := "Publicanry", name := "addVillage", desc := "(LPublicanry$Village;)V" } : Jvm.MethodName)) ∈ lw_tbl := lw_at lw_m3 120 rfl
theorem q674 : (Jvm.Cond.instanceMethod ({ cls := "Publicanry", name := "addVillage", desc := "(LPublicanry$Village;)V" } : Jvm.MethodName)) ∈ lw_all := lw_g (lw_at lw_m3 121 rfl) rfl
theorem q675 : (Jvm.Cond.code ({ cls := "Publicanry", name := "addVillage", desc := "(LPublicanry$Village;)V" } : Jvm.MethodName) prog_1_method_87_code (7 : Nat) (Option.none : Option Jvm.ClassFile.FieldType)) ∈ lw_all := lw_g (lw_at lw_m3 122 rfl) rfl
theorem q676 : (Jvm.Cond.methodLink "Publicanry" (580 : Nat) ({ cls := "Publicanry", name := "told", desc := "(LPublicanry$Village;I)I" } : Jvm.MethodName)) ∈ lw_all := lw_g (lw_at lw_m3 123 rfl) rfl
theorem q677 : (Jvm.Cond.static ({ cls := "Publicanry", name := "told", desc := "(LPublicanry$Village;I)I" } : Jvm.MethodName)) ∈ lw_all := lw_g (lw_at lw_m3 124 rfl) rfl
theorem q678 : (Jvm.Cond.code ({ cls := "Publicanry", name := "told", desc := "(LPublicanry$Village;I)I" } : Jvm.MethodName) prog_1_method_55_code (2 : Nat) (Option.some Jvm.ClassFile.FieldType.int)) ∈ lw_all := lw_g (lw_at lw_m3 125 rfl) rfl
theorem q679 : (Jvm.Cond.methodLink "Publicanry" (504 : Nat) ({ cls := "Publicanry$Village", name := "due", desc := "(LPublicanry$Duty;)I" } : Jvm.MethodName)) ∈ lw_all := lw_g (lw_at lw_m3 126 rfl) rfl
theorem q685 : (Jvm.Cond.methodLink "Publicanry" (104 : Nat) ({ cls := "java/util/ArrayList", name := "get", desc := "(I)Ljava/lang/Object;" } : Jvm.MethodName)) ∈ lw_all := lw_g (lw_at lw_m3 132 rfl) rfl
theorem q699 : (Jvm.Cond.classLink "Publicanry" (306 : Nat) "java/util/Optional") ∈ lw_all := lw_g (lw_at lw_m3 146 rfl) rfl
theorem q700 : (Jvm.Cond.methodLink "Publicanry" (588 : Nat) ({ cls := "Publicanry", name := "told", desc := "(Ljava/util/Optional;I)I" } : Jvm.MethodName)) ∈ lw_all := lw_g (lw_at lw_m3 147 rfl) rfl
theorem q701 : (Jvm.Cond.static ({ cls := "Publicanry", name := "told", desc := "(Ljava/util/Optional;I)I" } : Jvm.MethodName)) ∈ lw_all := lw_g (lw_at lw_m3 148 rfl) rfl
theorem q702 : (Jvm.Cond.code ({ cls := "Publicanry", name := "told", desc := "(Ljava/util/Optional;I)I" } : Jvm.MethodName) prog_1_method_59_code (2 : Nat) (Option.some Jvm.ClassFile.FieldType.int)) ∈ lw_all := lw_g (lw_at lw_m3 149 rfl) rfl
theorem q703 : (Jvm.Cond.methodLink "Publicanry" (404 : Nat) ({ cls := "java/util/Optional", name := "isPresent", desc := "()Z" } : Jvm.MethodName)) ∈ lw_all := lw_g (lw_at lw_m3 150 rfl) rfl
theorem q707 : (Jvm.Cond.classLink "Publicanry" (410 : Nat) "Publicanry$Levy") ∈ lw_all := lw_g (lw_at lw_m3 154 rfl) rfl
theorem q708 : (Jvm.Cond.methodLink "Publicanry" (586 : Nat) ({ cls := "Publicanry$Levy", name := "told", desc := "(I)I" } : Jvm.MethodName)) ∈ lw_all := lw_g (lw_at lw_m3 155 rfl) rfl
theorem q713 : (Jvm.Cond.methodLink "Publicanry" (690 : Nat) ({ cls := "Publicanry", name := "addCompany", desc := "(LPublicanry$Company;)V" } : Jvm.MethodName)) ∈ lw_all := lw_g (lw_at lw_m3 160 rfl) rfl
theorem q714 : (Jvm.Cond.privateMethod ({ cls := "Publicanry", name := "addCompany", desc := "(LPublicanry$Company;)V" } : Jvm.MethodName)) ∈ lw_tbl := lw_at lw_m3 161 rfl
theorem q715 : (Jvm.Cond.instanceMethod ({ cls := "Publicanry", name := "addCompany", desc := "(LPublicanry$Company;)V" } : Jvm.MethodName)) ∈ lw_all := lw_g (lw_at lw_m3 162 rfl) rfl
theorem q716 : (Jvm.Cond.code ({ cls := "Publicanry", name := "addCompany", desc := "(LPublicanry$Company;)V" } : Jvm.MethodName) prog_1_method_88_code (6 : Nat) (Option.none : Option Jvm.ClassFile.FieldType)) ∈ lw_all := lw_g (lw_at lw_m3 163 rfl) rfl
theorem q717 : (Jvm.Cond.methodLink "Publicanry" (603 : Nat) ({ cls := "Publicanry", name := "told", desc := "(LPublicanry$Company;I)I" } : Jvm.MethodName)) ∈ lw_all := lw_g (lw_at lw_m3 164 rfl) rfl
theorem q718 : (Jvm.Cond.privateMethod ({ cls := "Publicanry", name := "told", desc := "(LPublicanry$Company;I)I" } : Jvm.MethodName)) ∈ lw_tbl := lw_at lw_m3 165 rfl
theorem q719 : (Jvm.Cond.instanceMethod ({ cls := "Publicanry", name := "told", desc := "(LPublicanry$Company;I)I" } : Jvm.MethodName)) ∈ lw_all := lw_g (lw_at lw_m3 166 rfl) rfl
theorem q720 : (Jvm.Cond.code ({ cls := "Publicanry", name := "told", desc := "(LPublicanry$Company;I)I" } : Jvm.MethodName) prog_1_method_64_code (3 : Nat) (Option.some Jvm.ClassFile.FieldType.int)) ∈ lw_all := lw_g (lw_at lw_m3 167 rfl) rfl
theorem q721 : (Jvm.Cond.methodLink "Publicanry" (597 : Nat) ({ cls := "Publicanry$Company", name := "shares", desc := "()I" } : Jvm.MethodName)) ∈ lw_all := lw_g (lw_at lw_m3 168 rfl) rfl
theorem q731 : (Jvm.Cond.methodLink "Publicanry" (599 : Nat) ({ cls := "Publicanry", name := "lotsOf", desc := "(LPublicanry$Company;)I" } : Jvm.MethodName)) ∈ lw_all := lw_g (lw_at lw_m3 178 rfl) rfl
theorem q732 : (Jvm.Cond.privateMethod ({ cls := "Publicanry", name := "lotsOf", desc := "(LPublicanry$Company;)I" } : Jvm.MethodName)) ∈ lw_tbl := lw_at lw_m3 179 rfl
theorem q733 : (Jvm.Cond.instanceMethod ({ cls := "Publicanry", name := "lotsOf", desc := "(LPublicanry$Company;)I" } : Jvm.MethodName)) ∈ lw_all := lw_g (lw_at lw_m3 180 rfl) rfl
theorem q734 : (Jvm.Cond.code ({ cls := "Publicanry", name := "lotsOf", desc := "(LPublicanry$Company;)I" } : Jvm.MethodName) prog_1_method_63_code (5 : Nat) (Option.some Jvm.ClassFile.FieldType.int)) ∈ lw_all := lw_g (lw_at lw_m3 181 rfl) rfl
theorem q735 : (Jvm.Cond.methodLink "Publicanry" (649 : Nat) ({ cls := "Publicanry$Company", name := "gain", desc := "()D" } : Jvm.MethodName)) ∈ lw_all := lw_g (lw_at lw_m3 182 rfl) rfl
theorem q739 : (Jvm.Cond.constantDouble "Publicanry" (682 : Nat) (4634204016564240384 : UInt64)) ∈ lw_all := lw_g (lw_at lw_m3 186 rfl) rfl
theorem q740 : (Jvm.Cond.classLink "Publicanry" (239 : Nat) "Publicanry$Partner") ∈ lw_all := lw_g (lw_at lw_m3 187 rfl) rfl
theorem q741 : (Jvm.Cond.methodLink "Publicanry" (613 : Nat) ({ cls := "Publicanry", name := "told", desc := "(LPublicanry$Lot;I)I" } : Jvm.MethodName)) ∈ lw_all := lw_g (lw_at lw_m3 188 rfl) rfl
theorem q742 : (Jvm.Cond.static ({ cls := "Publicanry", name := "told", desc := "(LPublicanry$Lot;I)I" } : Jvm.MethodName)) ∈ lw_all := lw_g (lw_at lw_m3 189 rfl) rfl
theorem q743 : (Jvm.Cond.code ({ cls := "Publicanry", name := "told", desc := "(LPublicanry$Lot;I)I" } : Jvm.MethodName) prog_1_method_67_code (2 : Nat) (Option.some Jvm.ClassFile.FieldType.int)) ∈ lw_all := lw_g (lw_at lw_m3 190 rfl) rfl
theorem q744 : (Jvm.Cond.methodLink "Publicanry" (612 : Nat) ({ cls := "Publicanry$Stand", name := "ordinal", desc := "()I" } : Jvm.MethodName)) ∈ lw_all := lw_g (lw_at lw_m3 191 rfl) rfl
theorem q747 : (Jvm.Cond.methodLink "Publicanry" (298 : Nat) ({ cls := "Publicanry$Lot", name := "highest", desc := "()I" } : Jvm.MethodName)) ∈ lw_all := lw_g (lw_at lw_m3 194 rfl) rfl
theorem q752 : (Jvm.Cond.methodLink "Publicanry" (380 : Nat) ({ cls := "Publicanry$Lot", name := "letOn", desc := "()I" } : Jvm.MethodName)) ∈ lw_all := lw_g (lw_at lw_m3 199 rfl) rfl
theorem q757 : (Jvm.Cond.methodLink "Publicanry" (653 : Nat) ({ cls := "Publicanry", name := "bring", desc := "(LPublicanry$Lot;I)I" } : Jvm.MethodName)) ∈ lw_all := lw_g (lw_at lw_m3 204 rfl) rfl
theorem q758 : (Jvm.Cond.privateMethod ({ cls := "Publicanry", name := "bring", desc := "(LPublicanry$Lot;I)I" } : Jvm.MethodName)) ∈ lw_tbl := lw_at lw_m3 205 rfl
theorem q759 : (Jvm.Cond.instanceMethod ({ cls := "Publicanry", name := "bring", desc := "(LPublicanry$Lot;I)I" } : Jvm.MethodName)) ∈ lw_all := lw_g (lw_at lw_m3 206 rfl) rfl
theorem q760 : (Jvm.Cond.code ({ cls := "Publicanry", name := "bring", desc := "(LPublicanry$Lot;I)I" } : Jvm.MethodName) prog_1_method_75_code (8 : Nat) (Option.some Jvm.ClassFile.FieldType.int)) ∈ lw_all := lw_g (lw_at lw_m3 207 rfl) rfl
theorem q761 : (Jvm.Cond.methodLink "Publicanry" (656 : Nat) ({ cls := "Publicanry", name := "best", desc := "(LPublicanry$Lot;)I" } : Jvm.MethodName)) ∈ lw_all := lw_g (lw_at lw_m3 208 rfl) rfl
theorem q762 : (Jvm.Cond.privateMethod ({ cls := "Publicanry", name := "best", desc := "(LPublicanry$Lot;)I" } : Jvm.MethodName)) ∈ lw_tbl := lw_at lw_m3 209 rfl
theorem q763 : (Jvm.Cond.instanceMethod ({ cls := "Publicanry", name := "best", desc := "(LPublicanry$Lot;)I" } : Jvm.MethodName)) ∈ lw_all := lw_g (lw_at lw_m3 210 rfl) rfl
theorem q764 : (Jvm.Cond.code ({ cls := "Publicanry", name := "best", desc := "(LPublicanry$Lot;)I" } : Jvm.MethodName) prog_1_method_77_code (4 : Nat) (Option.some Jvm.ClassFile.FieldType.int)) ∈ lw_all := lw_g (lw_at lw_m3 211 rfl) rfl
theorem q787 : (Jvm.Cond.instanceMethod ({ cls := "Publicanry", name := "village", desc := "(IIII)I" } : Jvm.MethodName)) ∈ lw_all := lw_g (lw_at lw_m3 234 rfl) rfl
theorem q788 : (Jvm.Cond.selects "Publicanry" ({ cls := "Publicanry", name := "village", desc := "(IIII)I" } : Jvm.MethodName) ({ cls := "Publicanry", name := "village", desc := "(IIII)I" } : Jvm.MethodName)) ∈ lw_all := lw_g (lw_at lw_m3 235 rfl) rfl
theorem q789 : (Jvm.Cond.code ({ cls := "Publicanry", name := "village", desc := "(IIII)I" } : Jvm.MethodName) prog_1_method_16_code (6 : Nat) (Option.some Jvm.ClassFile.FieldType.int)) ∈ lw_all := lw_g (lw_at lw_m3 236 rfl) rfl
theorem q790 : (Jvm.Cond.methodLink "Publicanry" (143 : Nat) ({ cls := "Publicanry", name := "isIn", desc := "(III)Z" } : Jvm.MethodName)) ∈ lw_all := lw_g (lw_at lw_m3 237 rfl) rfl
theorem q791 : (Jvm.Cond.static ({ cls := "Publicanry", name := "isIn", desc := "(III)Z" } : Jvm.MethodName)) ∈ lw_all := lw_g (lw_at lw_m3 238 rfl) rfl
theorem q792 : (Jvm.Cond.code ({ cls := "Publicanry", name := "isIn", desc := "(III)Z" } : Jvm.MethodName) prog_1_method_12_code (3 : Nat) (Option.some Jvm.ClassFile.FieldType.boolean)) ∈ lw_all := lw_g (lw_at lw_m3 239 rfl) rfl
theorem q793 : (Jvm.Cond.stringRef "Publicanry" (98 : Nat) "village") ∈ lw_tbl := lw_at lw_m4 0 rfl
theorem q794 : (Jvm.Cond.methodLink "Publicanry" (147 : Nat) ({ cls := "Publicanry", name := "check", desc := "(ZLjava/lang/String;)V" } : Jvm.MethodName)) ∈ lw_all := lw_g (lw_at lw_m4 1 rfl) rfl
theorem q795 : (Jvm.Cond.static ({ cls := "Publicanry", name := "check", desc := "(ZLjava/lang/String;)V" } : Jvm.MethodName)) ∈ lw_all := lw_g (lw_at lw_m4 2 rfl) rfl
theorem q796 : (Jvm.Cond.code ({ cls := "Publicanry", name := "check", desc := "(ZLjava/lang/String;)V" } : Jvm.MethodName) prog_1_method_5_code (2 : Nat) (Option.none : Option Jvm.ClassFile.FieldType)) ∈ lw_all := lw_g (lw_at lw_m4 3 rfl) rfl
theorem q797 : (Jvm.Cond.classLink "Publicanry" (83 : Nat) "java/lang/IllegalArgumentException") ∈ lw_all := lw_g (lw_at lw_m4 4 rfl) rfl
theorem q806 : (Jvm.Cond.methodLink "Publicanry" (85 : Nat) ({ cls := "java/lang/IllegalArgumentException", name := "<init>", desc := "(Ljava/lang/String;)V" } : Jvm.MethodName)) ∈ lw_all := lw_g (lw_at lw_m4 13 rfl) rfl
theorem q812 : (Jvm.Cond.stringRef "Publicanry" (151 : Nat) "full") ∈ lw_tbl := lw_at lw_m4 19 rfl
theorem q813 : (Jvm.Cond.methodLink "Publicanry" (153 : Nat) ({ cls := "Publicanry", name := "state", desc := "(ZLjava/lang/String;)V" } : Jvm.MethodName)) ∈ lw_all := lw_g (lw_at lw_m4 20 rfl) rfl
theorem q814 : (Jvm.Cond.static ({ cls := "Publicanry", name := "state", desc := "(ZLjava/lang/String;)V" } : Jvm.MethodName)) ∈ lw_all := lw_g (lw_at lw_m4 21 rfl) rfl
theorem q815 : (Jvm.Cond.code ({ cls := "Publicanry", name := "state", desc := "(ZLjava/lang/String;)V" } : Jvm.MethodName) prog_1_method_6_code (2 : Nat) (Option.none : Option Jvm.ClassFile.FieldType)) ∈ lw_all := lw_g (lw_at lw_m4 22 rfl) rfl
theorem q816 : (Jvm.Cond.classLink "Publicanry" (88 : Nat) "java/lang/IllegalStateException") ∈ lw_all := lw_g (lw_at lw_m4 23 rfl) rfl
theorem q825 : (Jvm.Cond.methodLink "Publicanry" (90 : Nat) ({ cls := "java/lang/IllegalStateException", name := "<init>", desc := "(Ljava/lang/String;)V" } : Jvm.MethodName)) ∈ lw_all := lw_g (lw_at lw_m4 32 rfl) rfl
theorem q832 : (Jvm.Cond.methodLink "Publicanry" (156 : Nat) ({ cls := "Publicanry$Village", name := "<init>", desc := "(IIIII)V" } : Jvm.MethodName)) ∈ lw_all := lw_g (lw_at lw_m4 39 rfl) rfl
theorem q875 : (Jvm.Cond.selects "Publicanry" ({ cls := "java/lang/Object", name := "getClass", desc := "()Ljava/lang/Class;" } : Jvm.MethodName) ({ cls := "java/lang/Object", name := "getClass", desc := "()Ljava/lang/Class;" } : Jvm.MethodName)) ∈ lw_all := lw_g (lw_at lw_m4 82 rfl) rfl
theorem q920 : (Jvm.Cond.fieldLink "Publicanry" (129 : Nat) "Publicanry$Village" "number" "I") ∈ lw_all := lw_g (lw_at lw_m4 127 rfl) rfl
theorem q922 : (Jvm.Cond.fieldLink "Publicanry" (469 : Nat) "Publicanry$Village" "soil" "I") ∈ lw_all := lw_g (lw_at lw_m4 129 rfl) rfl
theorem q925 : (Jvm.Cond.fieldLink "Publicanry" (453 : Nat) "Publicanry$Village" "chest" "LPublicanry$Chest;") ∈ lw_all := lw_g (lw_at lw_m4 132 rfl) rfl
theorem q929 : (Jvm.Cond.fieldLink "Publicanry" (417 : Nat) "Publicanry$Village" "levies" "Ljava/util/ArrayList;") ∈ lw_all := lw_g (lw_at lw_m4 136 rfl) rfl
theorem q932 : (Jvm.Cond.fieldLink "Publicanry" (463 : Nat) "Publicanry$Village" "houses" "I") ∈ lw_all := lw_g (lw_at lw_m4 139 rfl) rfl
theorem q934 : (Jvm.Cond.fieldLink "Publicanry" (176 : Nat) "Publicanry$Village" "fields" "I") ∈ lw_all := lw_g (lw_at lw_m4 141 rfl) rfl
theorem q937 : (Jvm.Cond.fieldLink "Publicanry" (567 : Nat) "Publicanry$Village" "herd" "I") ∈ lw_all := lw_g (lw_at lw_m4 144 rfl) rfl
theorem q940 : (Jvm.Cond.fieldLink "Publicanry" (570 : Nat) "Publicanry$Village" "grain" "I") ∈ lw_all := lw_g (lw_at lw_m4 147 rfl) rfl
theorem q942 : (Jvm.Cond.fieldLink "Publicanry" (498 : Nat) "Publicanry$Village" "debt" "I") ∈ lw_all := lw_g (lw_at lw_m4 149 rfl) rfl
theorem q944 : (Jvm.Cond.fieldLink "Publicanry" (572 : Nat) "Publicanry$Village" "unrest" "I") ∈ lw_all := lw_g (lw_at lw_m4 151 rfl) rfl
theorem q946 : (Jvm.Cond.fieldLink "Publicanry" (179 : Nat) "Publicanry$Village" "register" "I") ∈ lw_all := lw_g (lw_at lw_m4 153 rfl) rfl
theorem q949 : (Jvm.Cond.fieldLink "Publicanry" (466 : Nat) "Publicanry$Village" "yield" "I") ∈ lw_all := lw_g (lw_at lw_m4 156 rfl) rfl
theorem q951 : (Jvm.Cond.fieldLink "Publicanry" (575 : Nat) "Publicanry$Village" "fled" "I") ∈ lw_all := lw_g (lw_at lw_m4 158 rfl) rfl
theorem q953 : (Jvm.Cond.fieldLink "Publicanry" (226 : Nat) "Publicanry$Village" "law" "I") ∈ lw_all := lw_g (lw_at lw_m4 160 rfl) rfl
theorem q955 : (Jvm.Cond.fieldLink "Publicanry" (526 : Nat) "Publicanry$Village" "isInRevolt" "Z") ∈ lw_all := lw_g (lw_at lw_m4 162 rfl) rfl
theorem q957 : (Jvm.Cond.fieldLink "Publicanry" (205 : Nat) "Publicanry$Village" "isBurnt" "Z") ∈ lw_all := lw_g (lw_at lw_m4 164 rfl) rfl
theorem q997 : (Jvm.Cond.methodLink "Publicanry" (162 : Nat) ({ cls := "Publicanry$Village", name := "cut", desc := "([LPublicanry$Rule;I)V" } : Jvm.MethodName)) ∈ lw_all := lw_g (lw_at lw_m4 204 rfl) rfl
theorem q1002 : (Jvm.Cond.methodLink "Publicanry" (166 : Nat) ({ cls := "java/util/ArrayList", name := "add", desc := "(Ljava/lang/Object;)Z" } : Jvm.MethodName)) ∈ lw_all := lw_g (lw_at lw_m4 209 rfl) rfl
theorem q1026 : (Jvm.Cond.instanceMethod ({ cls := "Publicanry", name := "clear", desc := "(II)I" } : Jvm.MethodName)) ∈ lw_all := lw_g (lw_at lw_m4 233 rfl) rfl
theorem q1027 : (Jvm.Cond.selects "Publicanry" ({ cls := "Publicanry", name := "clear", desc := "(II)I" } : Jvm.MethodName) ({ cls := "Publicanry", name := "clear", desc := "(II)I" } : Jvm.MethodName)) ∈ lw_all := lw_g (lw_at lw_m4 234 rfl) rfl
theorem q1028 : (Jvm.Cond.code ({ cls := "Publicanry", name := "clear", desc := "(II)I" } : Jvm.MethodName) prog_1_method_17_code (4 : Nat) (Option.some Jvm.ClassFile.FieldType.int)) ∈ lw_all := lw_g (lw_at lw_m4 235 rfl) rfl
theorem q1029 : (Jvm.Cond.methodLink "Publicanry" (170 : Nat) ({ cls := "Publicanry", name := "villageOf", desc := "(I)LPublicanry$Village;" } : Jvm.MethodName)) ∈ lw_all := lw_g (lw_at lw_m4 236 rfl) rfl
theorem q1030 : (Jvm.Cond.privateMethod ({ cls := "Publicanry", name := "villageOf", desc := "(I)LPublicanry$Village;" } : Jvm.MethodName)) ∈ lw_tbl := lw_at lw_m4 237 rfl
theorem q1031 : (Jvm.Cond.instanceMethod ({ cls := "Publicanry", name := "villageOf", desc := "(I)LPublicanry$Village;" } : Jvm.MethodName)) ∈ lw_all := lw_g (lw_at lw_m4 238 rfl) rfl
theorem q1032 : (Jvm.Cond.code ({ cls := "Publicanry", name := "villageOf", desc := "(I)LPublicanry$Village;" } : Jvm.MethodName) prog_1_method_8_code (2 : Nat) (Option.some (Jvm.ClassFile.FieldType.object "Publicanry$Village"))) ∈ lw_all := lw_g (lw_at lw_m4 239 rfl) rfl
theorem q1033 : (Jvm.Cond.methodLink "Publicanry" (100 : Nat) ({ cls := "Publicanry", name := "index", desc := "(IILjava/lang/String;)I" } : Jvm.MethodName)) ∈ lw_all := lw_g (lw_at lw_m5 0 rfl) rfl
theorem q1034 : (Jvm.Cond.static ({ cls := "Publicanry", name := "index", desc := "(IILjava/lang/String;)I" } : Jvm.MethodName)) ∈ lw_all := lw_g (lw_at lw_m5 1 rfl) rfl
theorem q1035 : (Jvm.Cond.code ({ cls := "Publicanry", name := "index", desc := "(IILjava/lang/String;)I" } : Jvm.MethodName) prog_1_method_7_code (3 : Nat) (Option.some Jvm.ClassFile.FieldType.int)) ∈ lw_all := lw_g (lw_at lw_m5 2 rfl) rfl
theorem q1036 : (Jvm.Cond.classLink "Publicanry" (91 : Nat) "java/lang/IndexOutOfBoundsException") ∈ lw_all := lw_g (lw_at lw_m5 3 rfl) rfl
theorem q1045 : (Jvm.Cond.methodLink "Publicanry" (93 : Nat) ({ cls := "java/lang/IndexOutOfBoundsException", name := "<init>", desc := "(Ljava/lang/String;)V" } : Jvm.MethodName)) ∈ lw_all := lw_g (lw_at lw_m5 12 rfl) rfl
theorem q1048 : (Jvm.Cond.stringRef "Publicanry" (174 : Nat) "more") ∈ lw_tbl := lw_at lw_m5 15 rfl
theorem q1053 : (Jvm.Cond.instanceMethod ({ cls := "Publicanry", name := "survey", desc := "(I)I" } : Jvm.MethodName)) ∈ lw_all := lw_g (lw_at lw_m5 20 rfl) rfl
theorem q1054 : (Jvm.Cond.selects "Publicanry" ({ cls := "Publicanry", name := "survey", desc := "(I)I" } : Jvm.MethodName) ({ cls := "Publicanry", name := "survey", desc := "(I)I" } : Jvm.MethodName)) ∈ lw_all := lw_g (lw_at lw_m5 21 rfl) rfl
theorem q1055 : (Jvm.Cond.code ({ cls := "Publicanry", name := "survey", desc := "(I)I" } : Jvm.MethodName) prog_1_method_18_code (4 : Nat) (Option.some Jvm.ClassFile.FieldType.int)) ∈ lw_all := lw_g (lw_at lw_m5 22 rfl) rfl
theorem q1060 : (Jvm.Cond.instanceMethod ({ cls := "Publicanry", name := "war", desc := "(I)I" } : Jvm.MethodName)) ∈ lw_all := lw_g (lw_at lw_m5 27 rfl) rfl
theorem q1061 : (Jvm.Cond.selects "Publicanry" ({ cls := "Publicanry", name := "war", desc := "(I)I" } : Jvm.MethodName) ({ cls := "Publicanry", name := "war", desc := "(I)I" } : Jvm.MethodName)) ∈ lw_all := lw_g (lw_at lw_m5 28 rfl) rfl
theorem q1062 : (Jvm.Cond.code ({ cls := "Publicanry", name := "war", desc := "(I)I" } : Jvm.MethodName) prog_1_method_20_code (5 : Nat) (Option.some Jvm.ClassFile.FieldType.int)) ∈ lw_all := lw_g (lw_at lw_m5 29 rfl) rfl
theorem q1063 : (Jvm.Cond.methodLink "Publicanry" (186 : Nat) ({ cls := "Publicanry", name := "areVillages", desc := "(I)Z" } : Jvm.MethodName)) ∈ lw_all := lw_g (lw_at lw_m5 30 rfl) rfl
theorem q1064 : (Jvm.Cond.privateMethod ({ cls := "Publicanry", name := "areVillages", desc := "(I)Z" } : Jvm.MethodName)) ∈ lw_tbl := lw_at lw_m5 31 rfl
theorem q1065 : (Jvm.Cond.instanceMethod ({ cls := "Publicanry", name := "areVillages", desc := "(I)Z" } : Jvm.MethodName)) ∈ lw_all := lw_g (lw_at lw_m5 32 rfl) rfl
theorem q1066 : (Jvm.Cond.code ({ cls := "Publicanry", name := "areVillages", desc := "(I)Z" } : Jvm.MethodName) prog_1_method_19_code (2 : Nat) (Option.some Jvm.ClassFile.FieldType.boolean)) ∈ lw_all := lw_g (lw_at lw_m5 33 rfl) rfl
theorem q1067 : (Jvm.Cond.stringRef "Publicanry" (190 : Nat) "villages") ∈ lw_tbl := lw_at lw_m5 34 rfl
theorem q1072 : (Jvm.Cond.instanceMethod ({ cls := "Publicanry", name := "edict", desc := "(III)I" } : Jvm.MethodName)) ∈ lw_all := lw_g (lw_at lw_m5 39 rfl) rfl
theorem q1073 : (Jvm.Cond.selects "Publicanry" ({ cls := "Publicanry", name := "edict", desc := "(III)I" } : Jvm.MethodName) ({ cls := "Publicanry", name := "edict", desc := "(III)I" } : Jvm.MethodName)) ∈ lw_all := lw_g (lw_at lw_m5 40 rfl) rfl
theorem q1074 : (Jvm.Cond.code ({ cls := "Publicanry", name := "edict", desc := "(III)I" } : Jvm.MethodName) prog_1_method_21_code (5 : Nat) (Option.some Jvm.ClassFile.FieldType.int)) ∈ lw_all := lw_g (lw_at lw_m5 41 rfl) rfl
theorem q1075 : (Jvm.Cond.methodLink "Publicanry" (213 : Nat) ({ cls := "Publicanry", name := "dutyOf", desc := "(I)LPublicanry$Duty;" } : Jvm.MethodName)) ∈ lw_all := lw_g (lw_at lw_m5 42 rfl) rfl
theorem q1076 : (Jvm.Cond.static ({ cls := "Publicanry", name := "dutyOf", desc := "(I)LPublicanry$Duty;" } : Jvm.MethodName)) ∈ lw_all := lw_g (lw_at lw_m5 43 rfl) rfl
theorem q1077 : (Jvm.Cond.code ({ cls := "Publicanry", name := "dutyOf", desc := "(I)LPublicanry$Duty;" } : Jvm.MethodName) prog_1_method_11_code (1 : Nat) (Option.some (Jvm.ClassFile.FieldType.object "Publicanry$Duty"))) ∈ lw_all := lw_g (lw_at lw_m5 44 rfl) rfl
theorem q1078 : (Jvm.Cond.stringRef "Publicanry" (118 : Nat) "duty") ∈ lw_tbl := lw_at lw_m5 45 rfl
theorem q1079 : (Jvm.Cond.methodLink "Publicanry" (217 : Nat) ({ cls := "Publicanry$Duty", name := "mostRate", desc := "()I" } : Jvm.MethodName)) ∈ lw_all := lw_g (lw_at lw_m5 46 rfl) rfl
theorem q1091 : (Jvm.Cond.stringRef "Publicanry" (220 : Nat) "edict") ∈ lw_tbl := lw_at lw_m5 58 rfl
theorem q1092 : (Jvm.Cond.methodLink "Publicanry" (222 : Nat) ({ cls := "Publicanry$Rule", name := "tell", desc := "(II)V" } : Jvm.MethodName)) ∈ lw_all := lw_g (lw_at lw_m5 59 rfl) rfl
theorem q1100 : (Jvm.Cond.instanceMethod ({ cls := "Publicanry", name := "cut", desc := "(I)I" } : Jvm.MethodName)) ∈ lw_all := lw_g (lw_at lw_m5 67 rfl) rfl
theorem q1101 : (Jvm.Cond.selects "Publicanry" ({ cls := "Publicanry", name := "cut", desc := "(I)I" } : Jvm.MethodName) ({ cls := "Publicanry", name := "cut", desc := "(I)I" } : Jvm.MethodName)) ∈ lw_all := lw_g (lw_at lw_m5 68 rfl) rfl
theorem q1102 : (Jvm.Cond.code ({ cls := "Publicanry", name := "cut", desc := "(I)I" } : Jvm.MethodName) prog_1_method_22_code (4 : Nat) (Option.some Jvm.ClassFile.FieldType.int)) ∈ lw_all := lw_g (lw_at lw_m5 69 rfl) rfl
theorem q1107 : (Jvm.Cond.instanceMethod ({ cls := "Publicanry", name := "company", desc := "(II)I" } : Jvm.MethodName)) ∈ lw_all := lw_g (lw_at lw_m5 74 rfl) rfl
theorem q1108 : (Jvm.Cond.selects "Publicanry" ({ cls := "Publicanry", name := "company", desc := "(II)I" } : Jvm.MethodName) ({ cls := "Publicanry", name := "company", desc := "(II)I" } : Jvm.MethodName)) ∈ lw_all := lw_g (lw_at lw_m5 75 rfl) rfl
theorem q1109 : (Jvm.Cond.code ({ cls := "Publicanry", name := "company", desc := "(II)I" } : Jvm.MethodName) prog_1_method_23_code (3 : Nat) (Option.some Jvm.ClassFile.FieldType.int)) ∈ lw_all := lw_g (lw_at lw_m5 76 rfl) rfl
theorem q1110 : (Jvm.Cond.stringRef "Publicanry" (110 : Nat) "company") ∈ lw_tbl := lw_at lw_m5 77 rfl
theorem q1112 : (Jvm.Cond.methodLink "Publicanry" (227 : Nat) ({ cls := "Publicanry$Company", name := "<init>", desc := "(III)V" } : Jvm.MethodName)) ∈ lw_all := lw_g (lw_at lw_m5 79 rfl) rfl
theorem q1122 : (Jvm.Cond.fieldLink "Publicanry" (359 : Nat) "Publicanry$Company" "number" "I") ∈ lw_all := lw_g (lw_at lw_m5 89 rfl) rfl
theorem q1124 : (Jvm.Cond.fieldLink "Publicanry" (242 : Nat) "Publicanry$Company" "chest" "LPublicanry$Chest;") ∈ lw_all := lw_g (lw_at lw_m5 91 rfl) rfl
theorem q1126 : (Jvm.Cond.fieldLink "Publicanry" (236 : Nat) "Publicanry$Company" "partners" "Ljava/util/ArrayList;") ∈ lw_all := lw_g (lw_at lw_m5 93 rfl) rfl
theorem q1128 : (Jvm.Cond.fieldLink "Publicanry" (401 : Nat) "Publicanry$Company" "land" "I") ∈ lw_all := lw_g (lw_at lw_m5 95 rfl) rfl
theorem q1131 : (Jvm.Cond.fieldLink "Publicanry" (352 : Nat) "Publicanry$Company" "pledged" "I") ∈ lw_all := lw_g (lw_at lw_m5 98 rfl) rfl
theorem q1133 : (Jvm.Cond.fieldLink "Publicanry" (262 : Nat) "Publicanry$Company" "ring" "I") ∈ lw_all := lw_g (lw_at lw_m5 100 rfl) rfl
theorem q1134 : (Jvm.Cond.fieldLink "Publicanry" (369 : Nat) "Publicanry$Company" "force" "I") ∈ lw_all := lw_g (lw_at lw_m5 101 rfl) rfl
theorem q1135 : (Jvm.Cond.fieldLink "Publicanry" (385 : Nat) "Publicanry$Company" "credit" "I") ∈ lw_all := lw_g (lw_at lw_m5 102 rfl) rfl
theorem q1137 : (Jvm.Cond.fieldLink "Publicanry" (460 : Nat) "Publicanry$Company" "gifts" "I") ∈ lw_all := lw_g (lw_at lw_m5 104 rfl) rfl
theorem q1139 : (Jvm.Cond.fieldLink "Publicanry" (514 : Nat) "Publicanry$Company" "brought" "I") ∈ lw_all := lw_g (lw_at lw_m5 106 rfl) rfl
theorem q1141 : (Jvm.Cond.fieldLink "Publicanry" (398 : Nat) "Publicanry$Company" "paid" "I") ∈ lw_all := lw_g (lw_at lw_m5 108 rfl) rfl
theorem q1143 : (Jvm.Cond.fieldLink "Publicanry" (286 : Nat) "Publicanry$Company" "isBanned" "Z") ∈ lw_all := lw_g (lw_at lw_m5 110 rfl) rfl
theorem q1173 : (Jvm.Cond.instanceMethod ({ cls := "Publicanry", name := "join", desc := "(II)I" } : Jvm.MethodName)) ∈ lw_all := lw_g (lw_at lw_m5 140 rfl) rfl
theorem q1174 : (Jvm.Cond.selects "Publicanry" ({ cls := "Publicanry", name := "join", desc := "(II)I" } : Jvm.MethodName) ({ cls := "Publicanry", name := "join", desc := "(II)I" } : Jvm.MethodName)) ∈ lw_all := lw_g (lw_at lw_m5 141 rfl) rfl
theorem q1175 : (Jvm.Cond.code ({ cls := "Publicanry", name := "join", desc := "(II)I" } : Jvm.MethodName) prog_1_method_24_code (4 : Nat) (Option.some Jvm.ClassFile.FieldType.int)) ∈ lw_all := lw_g (lw_at lw_m5 142 rfl) rfl
theorem q1176 : (Jvm.Cond.methodLink "Publicanry" (230 : Nat) ({ cls := "Publicanry", name := "companyOf", desc := "(I)LPublicanry$Company;" } : Jvm.MethodName)) ∈ lw_all := lw_g (lw_at lw_m5 143 rfl) rfl
theorem q1177 : (Jvm.Cond.privateMethod ({ cls := "Publicanry", name := "companyOf", desc := "(I)LPublicanry$Company;" } : Jvm.MethodName)) ∈ lw_tbl := lw_at lw_m5 144 rfl
theorem q1178 : (Jvm.Cond.instanceMethod ({ cls := "Publicanry", name := "companyOf", desc := "(I)LPublicanry$Company;" } : Jvm.MethodName)) ∈ lw_all := lw_g (lw_at lw_m5 145 rfl) rfl
theorem q1179 : (Jvm.Cond.code ({ cls := "Publicanry", name := "companyOf", desc := "(I)LPublicanry$Company;" } : Jvm.MethodName) prog_1_method_9_code (2 : Nat) (Option.some (Jvm.ClassFile.FieldType.object "Publicanry$Company"))) ∈ lw_all := lw_g (lw_at lw_m5 146 rfl) rfl
theorem q1180 : (Jvm.Cond.stringRef "Publicanry" (234 : Nat) "shares") ∈ lw_tbl := lw_at lw_m5 147 rfl
theorem q1182 : (Jvm.Cond.methodLink "Publicanry" (241 : Nat) ({ cls := "Publicanry$Partner", name := "<init>", desc := "(I)V" } : Jvm.MethodName)) ∈ lw_all := lw_g (lw_at lw_m5 149 rfl) rfl
theorem q1188 : (Jvm.Cond.fieldLink "Publicanry" (610 : Nat) "Publicanry$Partner" "shares" "I") ∈ lw_all := lw_g (lw_at lw_m5 155 rfl) rfl
theorem q1190 : (Jvm.Cond.fieldLink "Publicanry" (608 : Nat) "Publicanry$Partner" "told" "I") ∈ lw_all := lw_g (lw_at lw_m5 157 rfl) rfl
theorem q1200 : (Jvm.Cond.instanceMethod ({ cls := "Publicanry", name := "shareOut", desc := "(II)I" } : Jvm.MethodName)) ∈ lw_all := lw_g (lw_at lw_m5 167 rfl) rfl
theorem q1201 : (Jvm.Cond.selects "Publicanry" ({ cls := "Publicanry", name := "shareOut", desc := "(II)I" } : Jvm.MethodName) ({ cls := "Publicanry", name := "shareOut", desc := "(II)I" } : Jvm.MethodName)) ∈ lw_all := lw_g (lw_at lw_m5 168 rfl) rfl
theorem q1202 : (Jvm.Cond.code ({ cls := "Publicanry", name := "shareOut", desc := "(II)I" } : Jvm.MethodName) prog_1_method_25_code (4 : Nat) (Option.some Jvm.ClassFile.FieldType.int)) ∈ lw_all := lw_g (lw_at lw_m5 169 rfl) rfl
theorem q1203 : (Jvm.Cond.stringRef "Publicanry" (245 : Nat) "amount") ∈ lw_tbl := lw_at lw_m5 170 rfl
theorem q1204 : (Jvm.Cond.methodLink "Publicanry" (247 : Nat) ({ cls := "java/util/ArrayList", name := "isEmpty", desc := "()Z" } : Jvm.MethodName)) ∈ lw_all := lw_g (lw_at lw_m5 171 rfl) rfl
theorem q1208 : (Jvm.Cond.methodLink "Publicanry" (250 : Nat) ({ cls := "Publicanry$Chest", name := "hasAll", desc := "(I)Z" } : Jvm.MethodName)) ∈ lw_all := lw_g (lw_at lw_m5 175 rfl) rfl
theorem q1216 : (Jvm.Cond.stringRef "Publicanry" (253 : Nat) "chest") ∈ lw_tbl := lw_at lw_m5 183 rfl
theorem q1217 : (Jvm.Cond.methodLink "Publicanry" (254 : Nat) ({ cls := "Publicanry$Company", name := "shareOut", desc := "(I)V" } : Jvm.MethodName)) ∈ lw_all := lw_g (lw_at lw_m5 184 rfl) rfl
theorem q1234 : (Jvm.Cond.instanceMethod ({ cls := "Publicanry", name := "ring", desc := "(II)I" } : Jvm.MethodName)) ∈ lw_all := lw_g (lw_at lw_m5 201 rfl) rfl
theorem q1235 : (Jvm.Cond.selects "Publicanry" ({ cls := "Publicanry", name := "ring", desc := "(II)I" } : Jvm.MethodName) ({ cls := "Publicanry", name := "ring", desc := "(II)I" } : Jvm.MethodName)) ∈ lw_all := lw_g (lw_at lw_m5 202 rfl) rfl
theorem q1236 : (Jvm.Cond.code ({ cls := "Publicanry", name := "ring", desc := "(II)I" } : Jvm.MethodName) prog_1_method_26_code (5 : Nat) (Option.some Jvm.ClassFile.FieldType.int)) ∈ lw_all := lw_g (lw_at lw_m5 203 rfl) rfl
theorem q1237 : (Jvm.Cond.stringRef "Publicanry" (260 : Nat) "ring") ∈ lw_tbl := lw_at lw_m5 204 rfl
theorem q1242 : (Jvm.Cond.instanceMethod ({ cls := "Publicanry", name := "lot", desc := "(IIII)I" } : Jvm.MethodName)) ∈ lw_all := lw_g (lw_at lw_m5 209 rfl) rfl
theorem q1243 : (Jvm.Cond.selects "Publicanry" ({ cls := "Publicanry", name := "lot", desc := "(IIII)I" } : Jvm.MethodName) ({ cls := "Publicanry", name := "lot", desc := "(IIII)I" } : Jvm.MethodName)) ∈ lw_all := lw_g (lw_at lw_m5 210 rfl) rfl
theorem q1244 : (Jvm.Cond.code ({ cls := "Publicanry", name := "lot", desc := "(IIII)I" } : Jvm.MethodName) prog_1_method_27_code (7 : Nat) (Option.some Jvm.ClassFile.FieldType.int)) ∈ lw_all := lw_g (lw_at lw_m5 211 rfl) rfl
theorem q1245 : (Jvm.Cond.stringRef "Publicanry" (114 : Nat) "lot") ∈ lw_tbl := lw_at lw_m5 212 rfl
theorem q1247 : (Jvm.Cond.methodLink "Publicanry" (264 : Nat) ({ cls := "Publicanry$Lot", name := "<init>", desc := "(ILPublicanry$Duty;III)V" } : Jvm.MethodName)) ∈ lw_all := lw_g (lw_at lw_m5 214 rfl) rfl
theorem q1253 : (Jvm.Cond.fieldLink "Publicanry" (271 : Nat) "Publicanry$Lot" "number" "I") ∈ lw_all := lw_g (lw_at lw_m5 220 rfl) rfl
theorem q1255 : (Jvm.Cond.fieldLink "Publicanry" (501 : Nat) "Publicanry$Lot" "duty" "LPublicanry$Duty;") ∈ lw_all := lw_g (lw_at lw_m5 222 rfl) rfl
theorem q1257 : (Jvm.Cond.fieldLink "Publicanry" (375 : Nat) "Publicanry$Lot" "villages" "I") ∈ lw_all := lw_g (lw_at lw_m5 224 rfl) rfl
theorem q1259 : (Jvm.Cond.fieldLink "Publicanry" (340 : Nat) "Publicanry$Lot" "term" "I") ∈ lw_all := lw_g (lw_at lw_m5 226 rfl) rfl
theorem q1261 : (Jvm.Cond.fieldLink "Publicanry" (364 : Nat) "Publicanry$Lot" "minimum" "I") ∈ lw_all := lw_g (lw_at lw_m5 228 rfl) rfl
theorem q1263 : (Jvm.Cond.fieldLink "Publicanry" (294 : Nat) "Publicanry$Lot" "bids" "[I") ∈ lw_all := lw_g (lw_at lw_m5 230 rfl) rfl
theorem q1265 : (Jvm.Cond.fieldLink "Publicanry" (377 : Nat) "Publicanry$Lot" "agents" "[I") ∈ lw_all := lw_g (lw_at lw_m5 232 rfl) rfl
theorem q1267 : (Jvm.Cond.fieldLink "Publicanry" (277 : Nat) "Publicanry$Lot" "stand" "LPublicanry$Stand;") ∈ lw_all := lw_g (lw_at lw_m5 234 rfl) rfl
theorem q1269 : (Jvm.Cond.fieldLink "Publicanry" (321 : Nat) "Publicanry$Lot" "holder" "Ljava/util/Optional;") ∈ lw_all := lw_g (lw_at lw_m5 236 rfl) rfl
theorem q1271 : (Jvm.Cond.fieldLink "Publicanry" (335 : Nat) "Publicanry$Lot" "price" "I") ∈ lw_all := lw_g (lw_at lw_m5 238 rfl) rfl
theorem q1273 : (Jvm.Cond.fieldLink "Publicanry" (343 : Nat) "Publicanry$Lot" "autumns" "I") ∈ lw_all := lw_g (lw_at lw_m6 0 rfl) rfl
theorem q1274 : (Jvm.Cond.fieldLink "Publicanry" (388 : Nat) "Publicanry$Lot" "fallen" "I") ∈ lw_all := lw_g (lw_at lw_m6 1 rfl) rfl
theorem q1275 : (Jvm.Cond.fieldLink "Publicanry" (349 : Nat) "Publicanry$Lot" "awarded" "I") ∈ lw_all := lw_g (lw_at lw_m6 2 rfl) rfl
theorem q1276 : (Jvm.Cond.fieldLink "Publicanry" (395 : Nat) "Publicanry$Lot" "remitted" "I") ∈ lw_all := lw_g (lw_at lw_m6 3 rfl) rfl
theorem q1278 : (Jvm.Cond.fieldLink "Publicanry" (475 : Nat) "Publicanry$Lot" "askedYear" "I") ∈ lw_all := lw_g (lw_at lw_m6 5 rfl) rfl
theorem q1314 : (Jvm.Cond.instanceMethod ({ cls := "Publicanry", name := "bid", desc := "(III)I" } : Jvm.MethodName)) ∈ lw_all := lw_g (lw_at lw_m6 41 rfl) rfl
theorem q1315 : (Jvm.Cond.selects "Publicanry" ({ cls := "Publicanry", name := "bid", desc := "(III)I" } : Jvm.MethodName) ({ cls := "Publicanry", name := "bid", desc := "(III)I" } : Jvm.MethodName)) ∈ lw_all := lw_g (lw_at lw_m6 42 rfl) rfl
theorem q1316 : (Jvm.Cond.code ({ cls := "Publicanry", name := "bid", desc := "(III)I" } : Jvm.MethodName) prog_1_method_29_code (6 : Nat) (Option.some Jvm.ClassFile.FieldType.int)) ∈ lw_all := lw_g (lw_at lw_m6 43 rfl) rfl
theorem q1317 : (Jvm.Cond.methodLink "Publicanry" (273 : Nat) ({ cls := "Publicanry", name := "lotOf", desc := "(I)LPublicanry$Lot;" } : Jvm.MethodName)) ∈ lw_all := lw_g (lw_at lw_m6 44 rfl) rfl
theorem q1318 : (Jvm.Cond.privateMethod ({ cls := "Publicanry", name := "lotOf", desc := "(I)LPublicanry$Lot;" } : Jvm.MethodName)) ∈ lw_tbl := lw_at lw_m6 45 rfl
theorem q1319 : (Jvm.Cond.instanceMethod ({ cls := "Publicanry", name := "lotOf", desc := "(I)LPublicanry$Lot;" } : Jvm.MethodName)) ∈ lw_all := lw_g (lw_at lw_m6 46 rfl) rfl
theorem q1320 : (Jvm.Cond.code ({ cls := "Publicanry", name := "lotOf", desc := "(I)LPublicanry$Lot;" } : Jvm.MethodName) prog_1_method_10_code (2 : Nat) (Option.some (Jvm.ClassFile.FieldType.object "Publicanry$Lot"))) ∈ lw_all := lw_g (lw_at lw_m6 47 rfl) rfl
theorem q1321 : (Jvm.Cond.fieldLink "Publicanry" (281 : Nat) "Publicanry$Stand" "OFFERED" "LPublicanry$Stand;") ∈ lw_all := lw_g (lw_at lw_m6 48 rfl) rfl
theorem q1322 : (Jvm.Cond.methodLink "Publicanry" (289 : Nat) ({ cls := "Publicanry$Company", name := "isLandEnough", desc := "(I)Z" } : Jvm.MethodName)) ∈ lw_all := lw_g (lw_at lw_m6 49 rfl) rfl
theorem q1326 : (Jvm.Cond.stringRef "Publicanry" (292 : Nat) "bid") ∈ lw_tbl := lw_at lw_m6 53 rfl
theorem q1331 : (Jvm.Cond.instanceMethod ({ cls := "Publicanry", name := "award", desc := "(I)I" } : Jvm.MethodName)) ∈ lw_all := lw_g (lw_at lw_m6 58 rfl) rfl
theorem q1332 : (Jvm.Cond.selects "Publicanry" ({ cls := "Publicanry", name := "award", desc := "(I)I" } : Jvm.MethodName) ({ cls := "Publicanry", name := "award", desc := "(I)I" } : Jvm.MethodName)) ∈ lw_all := lw_g (lw_at lw_m6 59 rfl) rfl
theorem q1333 : (Jvm.Cond.code ({ cls := "Publicanry", name := "award", desc := "(I)I" } : Jvm.MethodName) prog_1_method_31_code (4 : Nat) (Option.some Jvm.ClassFile.FieldType.int)) ∈ lw_all := lw_g (lw_at lw_m6 60 rfl) rfl
theorem q1334 : (Jvm.Cond.stringRef "Publicanry" (315 : Nat) "not offered") ∈ lw_tbl := lw_at lw_m6 61 rfl
theorem q1335 : (Jvm.Cond.methodLink "Publicanry" (317 : Nat) ({ cls := "Publicanry", name := "winner", desc := "(LPublicanry$Lot;)Ljava/util/Optional;" } : Jvm.MethodName)) ∈ lw_all := lw_g (lw_at lw_m6 62 rfl) rfl
theorem q1336 : (Jvm.Cond.privateMethod ({ cls := "Publicanry", name := "winner", desc := "(LPublicanry$Lot;)Ljava/util/Optional;" } : Jvm.MethodName)) ∈ lw_tbl := lw_at lw_m6 63 rfl
theorem q1337 : (Jvm.Cond.instanceMethod ({ cls := "Publicanry", name := "winner", desc := "(LPublicanry$Lot;)Ljava/util/Optional;" } : Jvm.MethodName)) ∈ lw_all := lw_g (lw_at lw_m6 64 rfl) rfl
theorem q1338 : (Jvm.Cond.code ({ cls := "Publicanry", name := "winner", desc := "(LPublicanry$Lot;)Ljava/util/Optional;" } : Jvm.MethodName) prog_1_method_30_code (3 : Nat) (Option.some (Jvm.ClassFile.FieldType.object "java/util/Optional"))) ∈ lw_all := lw_g (lw_at lw_m6 65 rfl) rfl
theorem q1339 : (Jvm.Cond.methodLink "Publicanry" (301 : Nat) ({ cls := "Publicanry$Lot", name := "best", desc := "(Ljava/util/ArrayList;I)I" } : Jvm.MethodName)) ∈ lw_all := lw_g (lw_at lw_m6 66 rfl) rfl
theorem q1354 : (Jvm.Cond.methodLink "Publicanry" (305 : Nat) ({ cls := "java/util/Optional", name := "empty", desc := "()Ljava/util/Optional;" } : Jvm.MethodName)) ∈ lw_all := lw_g (lw_at lw_m6 81 rfl) rfl
theorem q1355 : (Jvm.Cond.methodLink "Publicanry" (311 : Nat) ({ cls := "java/util/Optional", name := "of", desc := "(Ljava/lang/Object;)Ljava/util/Optional;" } : Jvm.MethodName)) ∈ lw_all := lw_g (lw_at lw_m6 82 rfl) rfl
theorem q1371 : (Jvm.Cond.methodLink "Publicanry" (325 : Nat) ({ cls := "java/util/Optional", name := "isEmpty", desc := "()Z" } : Jvm.MethodName)) ∈ lw_all := lw_g (lw_at lw_m6 98 rfl) rfl
theorem q1375 : (Jvm.Cond.fieldLink "Publicanry" (326 : Nat) "Publicanry$Stand" "FAILED" "LPublicanry$Stand;") ∈ lw_all := lw_g (lw_at lw_m6 102 rfl) rfl
theorem q1377 : (Jvm.Cond.methodLink "Publicanry" (331 : Nat) ({ cls := "Publicanry", name := "price", desc := "(LPublicanry$Lot;LPublicanry$Company;)I" } : Jvm.MethodName)) ∈ lw_all := lw_g (lw_at lw_m6 104 rfl) rfl
theorem q1378 : (Jvm.Cond.privateMethod ({ cls := "Publicanry", name := "price", desc := "(LPublicanry$Lot;LPublicanry$Company;)I" } : Jvm.MethodName)) ∈ lw_tbl := lw_at lw_m6 105 rfl
theorem q1379 : (Jvm.Cond.instanceMethod ({ cls := "Publicanry", name := "price", desc := "(LPublicanry$Lot;LPublicanry$Company;)I" } : Jvm.MethodName)) ∈ lw_all := lw_g (lw_at lw_m6 106 rfl) rfl
theorem q1380 : (Jvm.Cond.code ({ cls := "Publicanry", name := "price", desc := "(LPublicanry$Lot;LPublicanry$Company;)I" } : Jvm.MethodName) prog_1_method_32_code (7 : Nat) (Option.some Jvm.ClassFile.FieldType.int)) ∈ lw_all := lw_g (lw_at lw_m6 107 rfl) rfl
theorem q1381 : (Jvm.Cond.methodLink "Publicanry" (360 : Nat) ({ cls := "Publicanry$Lot", name := "counts", desc := "(LPublicanry$Company;)Z" } : Jvm.MethodName)) ∈ lw_all := lw_g (lw_at lw_m6 108 rfl) rfl
theorem q1382 : (Jvm.Cond.fieldLink "Publicanry" (337 : Nat) "Publicanry$Stand" "LEASED" "LPublicanry$Stand;") ∈ lw_all := lw_g (lw_at lw_m6 109 rfl) rfl
theorem q1383 : (Jvm.Cond.methodLink "Publicanry" (355 : Nat) ({ cls := "Publicanry", name := "fallDue", desc := "(LPublicanry$Lot;)V" } : Jvm.MethodName)) ∈ lw_all := lw_g (lw_at lw_m6 110 rfl) rfl
theorem q1384 : (Jvm.Cond.privateMethod ({ cls := "Publicanry", name := "fallDue", desc := "(LPublicanry$Lot;)V" } : Jvm.MethodName)) ∈ lw_tbl := lw_at lw_m6 111 rfl
theorem q1385 : (Jvm.Cond.instanceMethod ({ cls := "Publicanry", name := "fallDue", desc := "(LPublicanry$Lot;)V" } : Jvm.MethodName)) ∈ lw_all := lw_g (lw_at lw_m6 112 rfl) rfl
theorem q1386 : (Jvm.Cond.code ({ cls := "Publicanry", name := "fallDue", desc := "(LPublicanry$Lot;)V" } : Jvm.MethodName) prog_1_method_36_code (9 : Nat) (Option.none : Option Jvm.ClassFile.FieldType)) ∈ lw_all := lw_g (lw_at lw_m6 113 rfl) rfl
theorem q1387 : (Jvm.Cond.methodLink "Publicanry" (391 : Nat) ({ cls := "Publicanry$Lot", name := "installment", desc := "(I)I" } : Jvm.MethodName)) ∈ lw_all := lw_g (lw_at lw_m6 114 rfl) rfl
theorem q1391 : (Jvm.Cond.methodLink "Publicanry" (407 : Nat) ({ cls := "Publicanry$Lot", name := "end", desc := "()V" } : Jvm.MethodName)) ∈ lw_all := lw_g (lw_at lw_m6 118 rfl) rfl
theorem q1403 : (Jvm.Cond.instanceMethod ({ cls := "Publicanry", name := "force", desc := "(II)I" } : Jvm.MethodName)) ∈ lw_all := lw_g (lw_at lw_m6 130 rfl) rfl
theorem q1404 : (Jvm.Cond.selects "Publicanry" ({ cls := "Publicanry", name := "force", desc := "(II)I" } : Jvm.MethodName) ({ cls := "Publicanry", name := "force", desc := "(II)I" } : Jvm.MethodName)) ∈ lw_all := lw_g (lw_at lw_m6 131 rfl) rfl
theorem q1405 : (Jvm.Cond.code ({ cls := "Publicanry", name := "force", desc := "(II)I" } : Jvm.MethodName) prog_1_method_33_code (5 : Nat) (Option.some Jvm.ClassFile.FieldType.int)) ∈ lw_all := lw_g (lw_at lw_m6 132 rfl) rfl
theorem q1406 : (Jvm.Cond.stringRef "Publicanry" (367 : Nat) "force") ∈ lw_tbl := lw_at lw_m6 133 rfl
theorem q1411 : (Jvm.Cond.instanceMethod ({ cls := "Publicanry", name := "letOn", desc := "(III)I" } : Jvm.MethodName)) ∈ lw_all := lw_g (lw_at lw_m6 138 rfl) rfl
theorem q1412 : (Jvm.Cond.selects "Publicanry" ({ cls := "Publicanry", name := "letOn", desc := "(III)I" } : Jvm.MethodName) ({ cls := "Publicanry", name := "letOn", desc := "(III)I" } : Jvm.MethodName)) ∈ lw_all := lw_g (lw_at lw_m6 139 rfl) rfl
theorem q1413 : (Jvm.Cond.code ({ cls := "Publicanry", name := "letOn", desc := "(III)I" } : Jvm.MethodName) prog_1_method_34_code (5 : Nat) (Option.some Jvm.ClassFile.FieldType.int)) ∈ lw_all := lw_g (lw_at lw_m6 140 rfl) rfl
theorem q1414 : (Jvm.Cond.stringRef "Publicanry" (371 : Nat) "price") ∈ lw_tbl := lw_at lw_m6 141 rfl
theorem q1419 : (Jvm.Cond.instanceMethod ({ cls := "Publicanry", name := "deliver", desc := "(II)I" } : Jvm.MethodName)) ∈ lw_all := lw_g (lw_at lw_m6 146 rfl) rfl
theorem q1420 : (Jvm.Cond.selects "Publicanry" ({ cls := "Publicanry", name := "deliver", desc := "(II)I" } : Jvm.MethodName) ({ cls := "Publicanry", name := "deliver", desc := "(II)I" } : Jvm.MethodName)) ∈ lw_all := lw_g (lw_at lw_m6 147 rfl) rfl
theorem q1421 : (Jvm.Cond.code ({ cls := "Publicanry", name := "deliver", desc := "(II)I" } : Jvm.MethodName) prog_1_method_35_code (4 : Nat) (Option.some Jvm.ClassFile.FieldType.int)) ∈ lw_all := lw_g (lw_at lw_m6 148 rfl) rfl
theorem q1422 : (Jvm.Cond.stringRef "Publicanry" (383 : Nat) "grain") ∈ lw_tbl := lw_at lw_m6 149 rfl
theorem q1427 : (Jvm.Cond.instanceMethod ({ cls := "Publicanry", name := "sue", desc := "(II)I" } : Jvm.MethodName)) ∈ lw_all := lw_g (lw_at lw_m6 154 rfl) rfl
theorem q1428 : (Jvm.Cond.selects "Publicanry" ({ cls := "Publicanry", name := "sue", desc := "(II)I" } : Jvm.MethodName) ({ cls := "Publicanry", name := "sue", desc := "(II)I" } : Jvm.MethodName)) ∈ lw_all := lw_g (lw_at lw_m6 155 rfl) rfl
theorem q1429 : (Jvm.Cond.code ({ cls := "Publicanry", name := "sue", desc := "(II)I" } : Jvm.MethodName) prog_1_method_39_code (7 : Nat) (Option.some Jvm.ClassFile.FieldType.int)) ∈ lw_all := lw_g (lw_at lw_m6 156 rfl) rfl
theorem q1430 : (Jvm.Cond.methodLink "Publicanry" (420 : Nat) ({ cls := "Publicanry", name := "isSuable", desc := "(Ljava/util/Optional;)Z" } : Jvm.MethodName)) ∈ lw_all := lw_g (lw_at lw_m6 157 rfl) rfl
theorem q1431 : (Jvm.Cond.privateMethod ({ cls := "Publicanry", name := "isSuable", desc := "(Ljava/util/Optional;)Z" } : Jvm.MethodName)) ∈ lw_tbl := lw_at lw_m6 158 rfl
theorem q1432 : (Jvm.Cond.instanceMethod ({ cls := "Publicanry", name := "isSuable", desc := "(Ljava/util/Optional;)Z" } : Jvm.MethodName)) ∈ lw_all := lw_g (lw_at lw_m6 159 rfl) rfl
theorem q1433 : (Jvm.Cond.code ({ cls := "Publicanry", name := "isSuable", desc := "(Ljava/util/Optional;)Z" } : Jvm.MethodName) prog_1_method_38_code (2 : Nat) (Option.some Jvm.ClassFile.FieldType.boolean)) ∈ lw_all := lw_g (lw_at lw_m6 160 rfl) rfl
theorem q1434 : (Jvm.Cond.stringRef "Publicanry" (424 : Nat) "no levy") ∈ lw_tbl := lw_at lw_m6 161 rfl
theorem q1435 : (Jvm.Cond.methodLink "Publicanry" (426 : Nat) ({ cls := "Publicanry$Levy", name := "over", desc := "()I" } : Jvm.MethodName)) ∈ lw_all := lw_g (lw_at lw_m6 162 rfl) rfl
theorem q1439 : (Jvm.Cond.methodLink "Publicanry" (431 : Nat) ({ cls := "Publicanry", name := "votes", desc := "(III)I" } : Jvm.MethodName)) ∈ lw_all := lw_g (lw_at lw_m6 166 rfl) rfl
theorem q1440 : (Jvm.Cond.static ({ cls := "Publicanry", name := "votes", desc := "(III)I" } : Jvm.MethodName)) ∈ lw_all := lw_g (lw_at lw_m6 167 rfl) rfl
theorem q1441 : (Jvm.Cond.code ({ cls := "Publicanry", name := "votes", desc := "(III)I" } : Jvm.MethodName) prog_1_method_37_code (3 : Nat) (Option.some Jvm.ClassFile.FieldType.int)) ∈ lw_all := lw_g (lw_at lw_m6 168 rfl) rfl
theorem q1442 : (Jvm.Cond.methodLink "Publicanry" (438 : Nat) ({ cls := "Publicanry$Village", name := "stir", desc := "(I)V" } : Jvm.MethodName)) ∈ lw_all := lw_g (lw_at lw_m6 169 rfl) rfl
theorem q1446 : (Jvm.Cond.methodLink "Publicanry" (443 : Nat) ({ cls := "Publicanry$Governor", name := "does", desc := "(LPublicanry$Company;I)Z" } : Jvm.MethodName)) ∈ lw_all := lw_g (lw_at lw_m6 173 rfl) rfl
theorem q1454 : (Jvm.Cond.instanceMethod ({ cls := "Publicanry", name := "bench", desc := "(I)I" } : Jvm.MethodName)) ∈ lw_all := lw_g (lw_at lw_m6 181 rfl) rfl
theorem q1455 : (Jvm.Cond.selects "Publicanry" ({ cls := "Publicanry", name := "bench", desc := "(I)I" } : Jvm.MethodName) ({ cls := "Publicanry", name := "bench", desc := "(I)I" } : Jvm.MethodName)) ∈ lw_all := lw_g (lw_at lw_m6 182 rfl) rfl
theorem q1456 : (Jvm.Cond.code ({ cls := "Publicanry", name := "bench", desc := "(I)I" } : Jvm.MethodName) prog_1_method_40_code (3 : Nat) (Option.some Jvm.ClassFile.FieldType.int)) ∈ lw_all := lw_g (lw_at lw_m6 183 rfl) rfl
theorem q1457 : (Jvm.Cond.stringRef "Publicanry" (457 : Nat) "many") ∈ lw_tbl := lw_at lw_m6 184 rfl
theorem q1462 : (Jvm.Cond.instanceMethod ({ cls := "Publicanry", name := "gift", desc := "(II)I" } : Jvm.MethodName)) ∈ lw_all := lw_g (lw_at lw_m6 189 rfl) rfl
theorem q1463 : (Jvm.Cond.selects "Publicanry" ({ cls := "Publicanry", name := "gift", desc := "(II)I" } : Jvm.MethodName) ({ cls := "Publicanry", name := "gift", desc := "(II)I" } : Jvm.MethodName)) ∈ lw_all := lw_g (lw_at lw_m6 190 rfl) rfl
theorem q1464 : (Jvm.Cond.code ({ cls := "Publicanry", name := "gift", desc := "(II)I" } : Jvm.MethodName) prog_1_method_41_code (4 : Nat) (Option.some Jvm.ClassFile.FieldType.int)) ∈ lw_all := lw_g (lw_at lw_m6 191 rfl) rfl
theorem q1469 : (Jvm.Cond.instanceMethod ({ cls := "Publicanry", name := "quarter", desc := "(I)I" } : Jvm.MethodName)) ∈ lw_all := lw_g (lw_at lw_m6 196 rfl) rfl
theorem q1470 : (Jvm.Cond.selects "Publicanry" ({ cls := "Publicanry", name := "quarter", desc := "(I)I" } : Jvm.MethodName) ({ cls := "Publicanry", name := "quarter", desc := "(I)I" } : Jvm.MethodName)) ∈ lw_all := lw_g (lw_at lw_m6 197 rfl) rfl
theorem q1471 : (Jvm.Cond.code ({ cls := "Publicanry", name := "quarter", desc := "(I)I" } : Jvm.MethodName) prog_1_method_42_code (4 : Nat) (Option.some Jvm.ClassFile.FieldType.int)) ∈ lw_all := lw_g (lw_at lw_m6 198 rfl) rfl
theorem q1476 : (Jvm.Cond.instanceMethod ({ cls := "Publicanry", name := "remit", desc := "(I)I" } : Jvm.MethodName)) ∈ lw_all := lw_g (lw_at lw_m6 203 rfl) rfl
theorem q1477 : (Jvm.Cond.selects "Publicanry" ({ cls := "Publicanry", name := "remit", desc := "(I)I" } : Jvm.MethodName) ({ cls := "Publicanry", name := "remit", desc := "(I)I" } : Jvm.MethodName)) ∈ lw_all := lw_g (lw_at lw_m6 204 rfl) rfl
theorem q1478 : (Jvm.Cond.code ({ cls := "Publicanry", name := "remit", desc := "(I)I" } : Jvm.MethodName) prog_1_method_44_code (6 : Nat) (Option.some Jvm.ClassFile.FieldType.int)) ∈ lw_all := lw_g (lw_at lw_m6 205 rfl) rfl
theorem q1479 : (Jvm.Cond.methodLink "Publicanry" (472 : Nat) ({ cls := "Publicanry", name := "part", desc := "()I" } : Jvm.MethodName)) ∈ lw_all := lw_g (lw_at lw_m6 206 rfl) rfl
theorem q1480 : (Jvm.Cond.privateMethod ({ cls := "Publicanry", name := "part", desc := "()I" } : Jvm.MethodName)) ∈ lw_tbl := lw_at lw_m6 207 rfl
theorem q1481 : (Jvm.Cond.instanceMethod ({ cls := "Publicanry", name := "part", desc := "()I" } : Jvm.MethodName)) ∈ lw_all := lw_g (lw_at lw_m6 208 rfl) rfl
theorem q1482 : (Jvm.Cond.code ({ cls := "Publicanry", name := "part", desc := "()I" } : Jvm.MethodName) prog_1_method_14_code (1 : Nat) (Option.some Jvm.ClassFile.FieldType.int)) ∈ lw_all := lw_g (lw_at lw_m6 209 rfl) rfl
theorem q1483 : (Jvm.Cond.stringRef "Publicanry" (478 : Nat) "remission") ∈ lw_tbl := lw_at lw_m6 210 rfl
theorem q1484 : (Jvm.Cond.methodLink "Publicanry" (480 : Nat) ({ cls := "Publicanry", name := "isBad", desc := "(LPublicanry$Village;)Z" } : Jvm.MethodName)) ∈ lw_all := lw_g (lw_at lw_m6 211 rfl) rfl
theorem q1485 : (Jvm.Cond.static ({ cls := "Publicanry", name := "isBad", desc := "(LPublicanry$Village;)Z" } : Jvm.MethodName)) ∈ lw_all := lw_g (lw_at lw_m6 212 rfl) rfl
theorem q1486 : (Jvm.Cond.code ({ cls := "Publicanry", name := "isBad", desc := "(LPublicanry$Village;)Z" } : Jvm.MethodName) prog_1_method_43_code (1 : Nat) (Option.some Jvm.ClassFile.FieldType.boolean)) ∈ lw_all := lw_g (lw_at lw_m6 213 rfl) rfl
theorem q1487 : (Jvm.Cond.methodLink "Publicanry" (484 : Nat) ({ cls := "java/lang/Integer", name := "bitCount", desc := "(I)I" } : Jvm.MethodName)) ∈ lw_all := lw_g (lw_at lw_m6 214 rfl) rfl
theorem q1497 : (Jvm.Cond.instanceMethod ({ cls := "Publicanry", name := "clerks", desc := "(IZ)Z" } : Jvm.MethodName)) ∈ lw_all := lw_g (lw_at lw_m6 224 rfl) rfl
theorem q1498 : (Jvm.Cond.selects "Publicanry" ({ cls := "Publicanry", name := "clerks", desc := "(IZ)Z" } : Jvm.MethodName) ({ cls := "Publicanry", name := "clerks", desc := "(IZ)Z" } : Jvm.MethodName)) ∈ lw_all := lw_g (lw_at lw_m6 225 rfl) rfl
theorem q1499 : (Jvm.Cond.code ({ cls := "Publicanry", name := "clerks", desc := "(IZ)Z" } : Jvm.MethodName) prog_1_method_46_code (4 : Nat) (Option.some Jvm.ClassFile.FieldType.boolean)) ∈ lw_all := lw_g (lw_at lw_m6 226 rfl) rfl
theorem q1504 : (Jvm.Cond.instanceMethod ({ cls := "Publicanry", name := "pass", desc := "(I)I" } : Jvm.MethodName)) ∈ lw_all := lw_g (lw_at lw_m6 231 rfl) rfl
theorem q1505 : (Jvm.Cond.selects "Publicanry" ({ cls := "Publicanry", name := "pass", desc := "(I)I" } : Jvm.MethodName) ({ cls := "Publicanry", name := "pass", desc := "(I)I" } : Jvm.MethodName)) ∈ lw_all := lw_g (lw_at lw_m6 232 rfl) rfl
theorem q1506 : (Jvm.Cond.code ({ cls := "Publicanry", name := "pass", desc := "(I)I" } : Jvm.MethodName) prog_1_method_53_code (3 : Nat) (Option.some Jvm.ClassFile.FieldType.int)) ∈ lw_all := lw_g (lw_at lw_m6 233 rfl) rfl
theorem q1507 : (Jvm.Cond.stringRef "Publicanry" (558 : Nat) "seasons") ∈ lw_tbl := lw_at lw_m6 234 rfl
theorem q1508 : (Jvm.Cond.stringRef "Publicanry" (560 : Nat) "over") ∈ lw_tbl := lw_at lw_m6 235 rfl
theorem q1509 : (Jvm.Cond.methodLink "Publicanry" (561 : Nat) ({ cls := "Publicanry", name := "begin", desc := "()V" } : Jvm.MethodName)) ∈ lw_all := lw_g (lw_at lw_m6 236 rfl) rfl
theorem q1510 : (Jvm.Cond.privateMethod ({ cls := "Publicanry", name := "begin", desc := "()V" } : Jvm.MethodName)) ∈ lw_tbl := lw_at lw_m6 237 rfl
theorem q1511 : (Jvm.Cond.instanceMethod ({ cls := "Publicanry", name := "begin", desc := "()V" } : Jvm.MethodName)) ∈ lw_all := lw_g (lw_at lw_m6 238 rfl) rfl
theorem q1512 : (Jvm.Cond.code ({ cls := "Publicanry", name := "begin", desc := "()V" } : Jvm.MethodName) prog_1_method_52_code (5 : Nat) (Option.none : Option Jvm.ClassFile.FieldType)) ∈ lw_all := lw_g (lw_at lw_m6 239 rfl) rfl
theorem q1513 : (Jvm.Cond.methodLink "Publicanry" (538 : Nat) ({ cls := "Publicanry", name := "spring", desc := "()V" } : Jvm.MethodName)) ∈ lw_all := lw_g (lw_at lw_m7 0 rfl) rfl
theorem q1514 : (Jvm.Cond.privateMethod ({ cls := "Publicanry", name := "spring", desc := "()V" } : Jvm.MethodName)) ∈ lw_tbl := lw_at lw_m7 1 rfl
theorem q1515 : (Jvm.Cond.instanceMethod ({ cls := "Publicanry", name := "spring", desc := "()V" } : Jvm.MethodName)) ∈ lw_all := lw_g (lw_at lw_m7 2 rfl) rfl
theorem q1516 : (Jvm.Cond.code ({ cls := "Publicanry", name := "spring", desc := "()V" } : Jvm.MethodName) prog_1_method_47_code (6 : Nat) (Option.none : Option Jvm.ClassFile.FieldType)) ∈ lw_all := lw_g (lw_at lw_m7 3 rfl) rfl
theorem q1517 : (Jvm.Cond.methodLink "Publicanry" (495 : Nat) ({ cls := "Publicanry$Rule", name := "become", desc := "()Z" } : Jvm.MethodName)) ∈ lw_all := lw_g (lw_at lw_m7 4 rfl) rfl
theorem q1521 : (Jvm.Cond.methodLink "Publicanry" (541 : Nat) ({ cls := "Publicanry$Village", name := "reap", desc := "(I)V" } : Jvm.MethodName)) ∈ lw_all := lw_g (lw_at lw_m7 8 rfl) rfl
theorem q1530 : (Jvm.Cond.methodLink "Publicanry" (544 : Nat) ({ cls := "Publicanry", name := "autumn", desc := "(LPublicanry$Lot;)V" } : Jvm.MethodName)) ∈ lw_all := lw_g (lw_at lw_m7 17 rfl) rfl
theorem q1531 : (Jvm.Cond.privateMethod ({ cls := "Publicanry", name := "autumn", desc := "(LPublicanry$Lot;)V" } : Jvm.MethodName)) ∈ lw_tbl := lw_at lw_m7 18 rfl
theorem q1532 : (Jvm.Cond.instanceMethod ({ cls := "Publicanry", name := "autumn", desc := "(LPublicanry$Lot;)V" } : Jvm.MethodName)) ∈ lw_all := lw_g (lw_at lw_m7 19 rfl) rfl
theorem q1533 : (Jvm.Cond.code ({ cls := "Publicanry", name := "autumn", desc := "(LPublicanry$Lot;)V" } : Jvm.MethodName) prog_1_method_49_code (4 : Nat) (Option.none : Option Jvm.ClassFile.FieldType)) ∈ lw_all := lw_g (lw_at lw_m7 20 rfl) rfl
theorem q1534 : (Jvm.Cond.methodLink "Publicanry" (529 : Nat) ({ cls := "Publicanry", name := "collect", desc := "(LPublicanry$Lot;LPublicanry$Village;)V" } : Jvm.MethodName)) ∈ lw_all := lw_g (lw_at lw_m7 21 rfl) rfl
theorem q1535 : (Jvm.Cond.privateMethod ({ cls := "Publicanry", name := "collect", desc := "(LPublicanry$Lot;LPublicanry$Village;)V" } : Jvm.MethodName)) ∈ lw_tbl := lw_at lw_m7 22 rfl
theorem q1536 : (Jvm.Cond.instanceMethod ({ cls := "Publicanry", name := "collect", desc := "(LPublicanry$Lot;LPublicanry$Village;)V" } : Jvm.MethodName)) ∈ lw_all := lw_g (lw_at lw_m7 23 rfl) rfl
theorem q1537 : (Jvm.Cond.code ({ cls := "Publicanry", name := "collect", desc := "(LPublicanry$Lot;LPublicanry$Village;)V" } : Jvm.MethodName) prog_1_method_48_code (11 : Nat) (Option.none : Option Jvm.ClassFile.FieldType)) ∈ lw_all := lw_g (lw_at lw_m7 24 rfl) rfl
theorem q1539 : (Jvm.Cond.methodLink "Publicanry" (521 : Nat) ({ cls := "Publicanry$Levy", name := "<init>", desc := "(IIIII)V" } : Jvm.MethodName)) ∈ lw_all := lw_g (lw_at lw_m7 26 rfl) rfl
theorem q1544 : (Jvm.Cond.fieldLink "Publicanry" (412 : Nat) "Publicanry$Levy" "year" "I") ∈ lw_all := lw_g (lw_at lw_m7 31 rfl) rfl
theorem q1548 : (Jvm.Cond.fieldLink "Publicanry" (429 : Nat) "Publicanry$Levy" "due" "I") ∈ lw_all := lw_g (lw_at lw_m7 35 rfl) rfl
theorem q1550 : (Jvm.Cond.fieldLink "Publicanry" (441 : Nat) "Publicanry$Levy" "lot" "I") ∈ lw_all := lw_g (lw_at lw_m7 37 rfl) rfl
theorem q1552 : (Jvm.Cond.fieldLink "Publicanry" (414 : Nat) "Publicanry$Levy" "isSued" "Z") ∈ lw_all := lw_g (lw_at lw_m7 39 rfl) rfl
theorem q1566 : (Jvm.Cond.methodLink "Publicanry" (522 : Nat) ({ cls := "java/util/ArrayList", name := "set", desc := "(ILjava/lang/Object;)Ljava/lang/Object;" } : Jvm.MethodName)) ∈ lw_all := lw_g (lw_at lw_m7 53 rfl) rfl
theorem q1570 : (Jvm.Cond.methodLink "Publicanry" (547 : Nat) ({ cls := "Publicanry", name := "clerks", desc := "(LPublicanry$Duty;)V" } : Jvm.MethodName)) ∈ lw_all := lw_g (lw_at lw_m7 57 rfl) rfl
theorem q1571 : (Jvm.Cond.privateMethod ({ cls := "Publicanry", name := "clerks", desc := "(LPublicanry$Duty;)V" } : Jvm.MethodName)) ∈ lw_tbl := lw_at lw_m7 58 rfl
theorem q1572 : (Jvm.Cond.instanceMethod ({ cls := "Publicanry", name := "clerks", desc := "(LPublicanry$Duty;)V" } : Jvm.MethodName)) ∈ lw_all := lw_g (lw_at lw_m7 59 rfl) rfl
theorem q1573 : (Jvm.Cond.code ({ cls := "Publicanry", name := "clerks", desc := "(LPublicanry$Duty;)V" } : Jvm.MethodName) prog_1_method_51_code (5 : Nat) (Option.none : Option Jvm.ClassFile.FieldType)) ∈ lw_all := lw_g (lw_at lw_m7 60 rfl) rfl
theorem q1574 : (Jvm.Cond.methodLink "Publicanry" (551 : Nat) ({ cls := "Publicanry$Village", name := "eat", desc := "(LPublicanry$Chest;)V" } : Jvm.MethodName)) ∈ lw_all := lw_g (lw_at lw_m7 61 rfl) rfl
theorem q1585 : (Jvm.Cond.methodLink "Publicanry" (555 : Nat) ({ cls := "Publicanry$Village", name := "sell", desc := "(LPublicanry$Chest;)V" } : Jvm.MethodName)) ∈ lw_all := lw_g (lw_at lw_m7 72 rfl) rfl
theorem q1593 : (Jvm.Cond.instanceMethod ({ cls := "Publicanry", name := "ofVillage", desc := "(II)I" } : Jvm.MethodName)) ∈ lw_all := lw_g (lw_at lw_m7 80 rfl) rfl
theorem q1594 : (Jvm.Cond.selects "Publicanry" ({ cls := "Publicanry", name := "ofVillage", desc := "(II)I" } : Jvm.MethodName) ({ cls := "Publicanry", name := "ofVillage", desc := "(II)I" } : Jvm.MethodName)) ∈ lw_all := lw_g (lw_at lw_m7 81 rfl) rfl
theorem q1595 : (Jvm.Cond.code ({ cls := "Publicanry", name := "ofVillage", desc := "(II)I" } : Jvm.MethodName) prog_1_method_56_code (4 : Nat) (Option.some Jvm.ClassFile.FieldType.int)) ∈ lw_all := lw_g (lw_at lw_m7 82 rfl) rfl
theorem q1596 : (Jvm.Cond.stringRef "Publicanry" (578 : Nat) "what") ∈ lw_tbl := lw_at lw_m7 83 rfl
theorem q1601 : (Jvm.Cond.instanceMethod ({ cls := "Publicanry", name := "due", desc := "(IIZ)I" } : Jvm.MethodName)) ∈ lw_all := lw_g (lw_at lw_m7 88 rfl) rfl
theorem q1602 : (Jvm.Cond.selects "Publicanry" ({ cls := "Publicanry", name := "due", desc := "(IIZ)I" } : Jvm.MethodName) ({ cls := "Publicanry", name := "due", desc := "(IIZ)I" } : Jvm.MethodName)) ∈ lw_all := lw_g (lw_at lw_m7 89 rfl) rfl
theorem q1603 : (Jvm.Cond.code ({ cls := "Publicanry", name := "due", desc := "(IIZ)I" } : Jvm.MethodName) prog_1_method_58_code (5 : Nat) (Option.some Jvm.ClassFile.FieldType.int)) ∈ lw_all := lw_g (lw_at lw_m7 90 rfl) rfl
theorem q1604 : (Jvm.Cond.methodLink "Publicanry" (583 : Nat) ({ cls := "Publicanry", name := "due", desc := "(LPublicanry$Village;LPublicanry$Duty;Z)I" } : Jvm.MethodName)) ∈ lw_all := lw_g (lw_at lw_m7 91 rfl) rfl
theorem q1605 : (Jvm.Cond.privateMethod ({ cls := "Publicanry", name := "due", desc := "(LPublicanry$Village;LPublicanry$Duty;Z)I" } : Jvm.MethodName)) ∈ lw_tbl := lw_at lw_m7 92 rfl
theorem q1606 : (Jvm.Cond.instanceMethod ({ cls := "Publicanry", name := "due", desc := "(LPublicanry$Village;LPublicanry$Duty;Z)I" } : Jvm.MethodName)) ∈ lw_all := lw_g (lw_at lw_m7 93 rfl) rfl
theorem q1607 : (Jvm.Cond.code ({ cls := "Publicanry", name := "due", desc := "(LPublicanry$Village;LPublicanry$Duty;Z)I" } : Jvm.MethodName) prog_1_method_57_code (4 : Nat) (Option.some Jvm.ClassFile.FieldType.int)) ∈ lw_all := lw_g (lw_at lw_m7 94 rfl) rfl
theorem q1612 : (Jvm.Cond.instanceMethod ({ cls := "Publicanry", name := "levy", desc := "(III)I" } : Jvm.MethodName)) ∈ lw_all := lw_g (lw_at lw_m7 99 rfl) rfl
theorem q1613 : (Jvm.Cond.selects "Publicanry" ({ cls := "Publicanry", name := "levy", desc := "(III)I" } : Jvm.MethodName) ({ cls := "Publicanry", name := "levy", desc := "(III)I" } : Jvm.MethodName)) ∈ lw_all := lw_g (lw_at lw_m7 100 rfl) rfl
theorem q1614 : (Jvm.Cond.code ({ cls := "Publicanry", name := "levy", desc := "(III)I" } : Jvm.MethodName) prog_1_method_60_code (5 : Nat) (Option.some Jvm.ClassFile.FieldType.int)) ∈ lw_all := lw_g (lw_at lw_m7 101 rfl) rfl
theorem q1619 : (Jvm.Cond.instanceMethod ({ cls := "Publicanry", name := "law", desc := "(II)I" } : Jvm.MethodName)) ∈ lw_all := lw_g (lw_at lw_m7 106 rfl) rfl
theorem q1620 : (Jvm.Cond.selects "Publicanry" ({ cls := "Publicanry", name := "law", desc := "(II)I" } : Jvm.MethodName) ({ cls := "Publicanry", name := "law", desc := "(II)I" } : Jvm.MethodName)) ∈ lw_all := lw_g (lw_at lw_m7 107 rfl) rfl
theorem q1621 : (Jvm.Cond.code ({ cls := "Publicanry", name := "law", desc := "(II)I" } : Jvm.MethodName) prog_1_method_62_code (3 : Nat) (Option.some Jvm.ClassFile.FieldType.int)) ∈ lw_all := lw_g (lw_at lw_m7 108 rfl) rfl
theorem q1626 : (Jvm.Cond.instanceMethod ({ cls := "Publicanry", name := "ofCompany", desc := "(II)I" } : Jvm.MethodName)) ∈ lw_all := lw_g (lw_at lw_m7 113 rfl) rfl
theorem q1627 : (Jvm.Cond.selects "Publicanry" ({ cls := "Publicanry", name := "ofCompany", desc := "(II)I" } : Jvm.MethodName) ({ cls := "Publicanry", name := "ofCompany", desc := "(II)I" } : Jvm.MethodName)) ∈ lw_all := lw_g (lw_at lw_m7 114 rfl) rfl
theorem q1628 : (Jvm.Cond.code ({ cls := "Publicanry", name := "ofCompany", desc := "(II)I" } : Jvm.MethodName) prog_1_method_65_code (4 : Nat) (Option.some Jvm.ClassFile.FieldType.int)) ∈ lw_all := lw_g (lw_at lw_m7 115 rfl) rfl
theorem q1633 : (Jvm.Cond.instanceMethod ({ cls := "Publicanry", name := "partner", desc := "(IIZ)I" } : Jvm.MethodName)) ∈ lw_all := lw_g (lw_at lw_m7 120 rfl) rfl
theorem q1634 : (Jvm.Cond.selects "Publicanry" ({ cls := "Publicanry", name := "partner", desc := "(IIZ)I" } : Jvm.MethodName) ({ cls := "Publicanry", name := "partner", desc := "(IIZ)I" } : Jvm.MethodName)) ∈ lw_all := lw_g (lw_at lw_m7 121 rfl) rfl
theorem q1635 : (Jvm.Cond.code ({ cls := "Publicanry", name := "partner", desc := "(IIZ)I" } : Jvm.MethodName) prog_1_method_66_code (5 : Nat) (Option.some Jvm.ClassFile.FieldType.int)) ∈ lw_all := lw_g (lw_at lw_m7 122 rfl) rfl
theorem q1636 : (Jvm.Cond.stringRef "Publicanry" (606 : Nat) "partner") ∈ lw_tbl := lw_at lw_m7 123 rfl
theorem q1641 : (Jvm.Cond.instanceMethod ({ cls := "Publicanry", name := "ofLot", desc := "(II)I" } : Jvm.MethodName)) ∈ lw_all := lw_g (lw_at lw_m7 128 rfl) rfl
theorem q1642 : (Jvm.Cond.selects "Publicanry" ({ cls := "Publicanry", name := "ofLot", desc := "(II)I" } : Jvm.MethodName) ({ cls := "Publicanry", name := "ofLot", desc := "(II)I" } : Jvm.MethodName)) ∈ lw_all := lw_g (lw_at lw_m7 129 rfl) rfl
theorem q1643 : (Jvm.Cond.code ({ cls := "Publicanry", name := "ofLot", desc := "(II)I" } : Jvm.MethodName) prog_1_method_68_code (4 : Nat) (Option.some Jvm.ClassFile.FieldType.int)) ∈ lw_all := lw_g (lw_at lw_m7 130 rfl) rfl
theorem q1648 : (Jvm.Cond.instanceMethod ({ cls := "Publicanry", name := "land", desc := "(I)I" } : Jvm.MethodName)) ∈ lw_all := lw_g (lw_at lw_m7 135 rfl) rfl
theorem q1649 : (Jvm.Cond.selects "Publicanry" ({ cls := "Publicanry", name := "land", desc := "(I)I" } : Jvm.MethodName) ({ cls := "Publicanry", name := "land", desc := "(I)I" } : Jvm.MethodName)) ∈ lw_all := lw_g (lw_at lw_m7 136 rfl) rfl
theorem q1650 : (Jvm.Cond.code ({ cls := "Publicanry", name := "land", desc := "(I)I" } : Jvm.MethodName) prog_1_method_72_code (2 : Nat) (Option.some Jvm.ClassFile.FieldType.int)) ∈ lw_all := lw_g (lw_at lw_m7 137 rfl) rfl
theorem q1655 : (Jvm.Cond.instanceMethod ({ cls := "Publicanry", name := "tell", desc := "(I)Ljava/lang/String;" } : Jvm.MethodName)) ∈ lw_all := lw_g (lw_at lw_m7 142 rfl) rfl
theorem q1656 : (Jvm.Cond.selects "Publicanry" ({ cls := "Publicanry", name := "tell", desc := "(I)Ljava/lang/String;" } : Jvm.MethodName) ({ cls := "Publicanry", name := "tell", desc := "(I)Ljava/lang/String;" } : Jvm.MethodName)) ∈ lw_all := lw_g (lw_at lw_m7 143 rfl) rfl
theorem q1657 : (Jvm.Cond.code ({ cls := "Publicanry", name := "tell", desc := "(I)Ljava/lang/String;" } : Jvm.MethodName) prog_1_method_73_code (4 : Nat) (Option.some (Jvm.ClassFile.FieldType.object "java/lang/String"))) ∈ lw_all := lw_g (lw_at lw_m7 144 rfl) rfl
theorem q1658 : (Jvm.Cond.classLink "Publicanry" (625 : Nat) "java/lang/StringBuilder") ∈ lw_all := lw_g (lw_at lw_m7 145 rfl) rfl
theorem q1660 : (Jvm.Cond.methodLink "Publicanry" (627 : Nat) ({ cls := "java/lang/StringBuilder", name := "<init>", desc := "()V" } : Jvm.MethodName)) ∈ lw_all := lw_g (lw_at lw_m7 147 rfl) rfl
theorem q1689 : (Jvm.Cond.methodLink "Publicanry" (628 : Nat) ({ cls := "java/lang/StringBuilder", name := "append", desc := "(I)Ljava/lang/StringBuilder;" } : Jvm.MethodName)) ∈ lw_all := lw_g (lw_at lw_m7 176 rfl) rfl
theorem q1760 : (Jvm.Cond.stringRef "Publicanry" (632 : Nat) ": ") ∈ lw_tbl := lw_at lw_m8 7 rfl
theorem q1761 : (Jvm.Cond.methodLink "Publicanry" (634 : Nat) ({ cls := "java/lang/StringBuilder", name := "append", desc := "(Ljava/lang/String;)Ljava/lang/StringBuilder;" } : Jvm.MethodName)) ∈ lw_all := lw_g (lw_at lw_m8 8 rfl) rfl
theorem q1818 : (Jvm.Cond.stringRef "Publicanry" (637 : Nat) " houses") ∈ lw_tbl := lw_at lw_m8 65 rfl
theorem q1819 : (Jvm.Cond.stringRef "Publicanry" (639 : Nat) ", revolt") ∈ lw_tbl := lw_at lw_m8 66 rfl
theorem q1820 : (Jvm.Cond.stringRef "Publicanry" (641 : Nat) ", burnt") ∈ lw_tbl := lw_at lw_m8 67 rfl
theorem q1821 : (Jvm.Cond.stringRef "Publicanry" (643 : Nat) ", owes ") ∈ lw_tbl := lw_at lw_m8 68 rfl
theorem q1822 : (Jvm.Cond.methodLink "Publicanry" (645 : Nat) ({ cls := "java/lang/StringBuilder", name := "toString", desc := "()Ljava/lang/String;" } : Jvm.MethodName)) ∈ lw_all := lw_g (lw_at lw_m8 69 rfl) rfl
theorem q1889 : (Jvm.Cond.instanceMethod ({ cls := "Publicanry", name := "gain", desc := "(I)D" } : Jvm.MethodName)) ∈ lw_all := lw_g (lw_at lw_m8 136 rfl) rfl
theorem q1890 : (Jvm.Cond.selects "Publicanry" ({ cls := "Publicanry", name := "gain", desc := "(I)D" } : Jvm.MethodName) ({ cls := "Publicanry", name := "gain", desc := "(I)D" } : Jvm.MethodName)) ∈ lw_all := lw_g (lw_at lw_m8 137 rfl) rfl
theorem q1891 : (Jvm.Cond.code ({ cls := "Publicanry", name := "gain", desc := "(I)D" } : Jvm.MethodName) prog_1_method_74_code (2 : Nat) (Option.some Jvm.ClassFile.FieldType.double)) ∈ lw_all := lw_g (lw_at lw_m8 138 rfl) rfl
theorem q1896 : (Jvm.Cond.instanceMethod ({ cls := "Publicanry", name := "wouldBring", desc := "(II)I" } : Jvm.MethodName)) ∈ lw_all := lw_g (lw_at lw_m8 143 rfl) rfl
theorem q1897 : (Jvm.Cond.selects "Publicanry" ({ cls := "Publicanry", name := "wouldBring", desc := "(II)I" } : Jvm.MethodName) ({ cls := "Publicanry", name := "wouldBring", desc := "(II)I" } : Jvm.MethodName)) ∈ lw_all := lw_g (lw_at lw_m8 144 rfl) rfl
theorem q1898 : (Jvm.Cond.code ({ cls := "Publicanry", name := "wouldBring", desc := "(II)I" } : Jvm.MethodName) prog_1_method_76_code (4 : Nat) (Option.some Jvm.ClassFile.FieldType.int)) ∈ lw_all := lw_g (lw_at lw_m8 145 rfl) rfl
theorem q1903 : (Jvm.Cond.instanceMethod ({ cls := "Publicanry", name := "bestForce", desc := "(I)I" } : Jvm.MethodName)) ∈ lw_all := lw_g (lw_at lw_m8 150 rfl) rfl
theorem q1904 : (Jvm.Cond.selects "Publicanry" ({ cls := "Publicanry", name := "bestForce", desc := "(I)I" } : Jvm.MethodName) ({ cls := "Publicanry", name := "bestForce", desc := "(I)I" } : Jvm.MethodName)) ∈ lw_all := lw_g (lw_at lw_m8 151 rfl) rfl
theorem q1905 : (Jvm.Cond.code ({ cls := "Publicanry", name := "bestForce", desc := "(I)I" } : Jvm.MethodName) prog_1_method_78_code (2 : Nat) (Option.some Jvm.ClassFile.FieldType.int)) ∈ lw_all := lw_g (lw_at lw_m8 152 rfl) rfl
theorem q1910 : (Jvm.Cond.instanceMethod ({ cls := "Publicanry", name := "votes", desc := "(IIII)I" } : Jvm.MethodName)) ∈ lw_all := lw_g (lw_at lw_m8 157 rfl) rfl
theorem q1911 : (Jvm.Cond.selects "Publicanry" ({ cls := "Publicanry", name := "votes", desc := "(IIII)I" } : Jvm.MethodName) ({ cls := "Publicanry", name := "votes", desc := "(IIII)I" } : Jvm.MethodName)) ∈ lw_all := lw_g (lw_at lw_m8 158 rfl) rfl
theorem q1912 : (Jvm.Cond.code ({ cls := "Publicanry", name := "votes", desc := "(IIII)I" } : Jvm.MethodName) prog_1_method_79_code (7 : Nat) (Option.some Jvm.ClassFile.FieldType.int)) ∈ lw_all := lw_g (lw_at lw_m8 159 rfl) rfl
theorem q1913 : (Jvm.Cond.stringRef "Publicanry" (659 : Nat) "got") ∈ lw_tbl := lw_at lw_m8 160 rfl
theorem q1918 : (Jvm.Cond.instanceMethod ({ cls := "Publicanry", name := "harvest", desc := "(II)I" } : Jvm.MethodName)) ∈ lw_all := lw_g (lw_at lw_m8 165 rfl) rfl
theorem q1919 : (Jvm.Cond.selects "Publicanry" ({ cls := "Publicanry", name := "harvest", desc := "(II)I" } : Jvm.MethodName) ({ cls := "Publicanry", name := "harvest", desc := "(II)I" } : Jvm.MethodName)) ∈ lw_all := lw_g (lw_at lw_m8 166 rfl) rfl
theorem q1920 : (Jvm.Cond.code ({ cls := "Publicanry", name := "harvest", desc := "(II)I" } : Jvm.MethodName) prog_1_method_80_code (4 : Nat) (Option.some Jvm.ClassFile.FieldType.int)) ∈ lw_all := lw_g (lw_at lw_m8 167 rfl) rfl
theorem q1921 : (Jvm.Cond.stringRef "Publicanry" (660 : Nat) "sky") ∈ lw_tbl := lw_at lw_m8 168 rfl
theorem q1922 : (Jvm.Cond.methodLink "Publicanry" (661 : Nat) ({ cls := "Publicanry$Village", name := "harvest", desc := "(I)I" } : Jvm.MethodName)) ∈ lw_all := lw_g (lw_at lw_m8 169 rfl) rfl
theorem q1927 : (Jvm.Cond.instanceMethod ({ cls := "Publicanry", name := "direct", desc := "(I)I" } : Jvm.MethodName)) ∈ lw_all := lw_g (lw_at lw_m8 174 rfl) rfl
theorem q1928 : (Jvm.Cond.selects "Publicanry" ({ cls := "Publicanry", name := "direct", desc := "(I)I" } : Jvm.MethodName) ({ cls := "Publicanry", name := "direct", desc := "(I)I" } : Jvm.MethodName)) ∈ lw_all := lw_g (lw_at lw_m8 175 rfl) rfl
theorem q1929 : (Jvm.Cond.code ({ cls := "Publicanry", name := "direct", desc := "(I)I" } : Jvm.MethodName) prog_1_method_82_code (2 : Nat) (Option.some Jvm.ClassFile.FieldType.int)) ∈ lw_all := lw_g (lw_at lw_m8 176 rfl) rfl
theorem q1934 : (Jvm.Cond.instanceMethod ({ cls := "Publicanry", name := "wouldWin", desc := "(I)I" } : Jvm.MethodName)) ∈ lw_all := lw_g (lw_at lw_m8 181 rfl) rfl
theorem q1935 : (Jvm.Cond.selects "Publicanry" ({ cls := "Publicanry", name := "wouldWin", desc := "(I)I" } : Jvm.MethodName) ({ cls := "Publicanry", name := "wouldWin", desc := "(I)I" } : Jvm.MethodName)) ∈ lw_all := lw_g (lw_at lw_m8 182 rfl) rfl
theorem q1936 : (Jvm.Cond.code ({ cls := "Publicanry", name := "wouldWin", desc := "(I)I" } : Jvm.MethodName) prog_1_method_83_code (3 : Nat) (Option.some Jvm.ClassFile.FieldType.int)) ∈ lw_all := lw_g (lw_at lw_m8 183 rfl) rfl
theorem q2428 : (Jvm.Cond.selects "Publicanry" ({ cls := "java/lang/Object", name := "equals", desc := "(Ljava/lang/Object;)Z" } : Jvm.MethodName) ({ cls := "java/lang/Object", name := "equals", desc := "(Ljava/lang/Object;)Z" } : Jvm.MethodName)) ∈ lw_all := lw_g (lw_at lw_m10 195 rfl) rfl
theorem q2654 : (Jvm.Cond.castable "Publicanry" "java/lang/Object") ∈ lw_tbl := lw_at lw_m11 181 rfl
theorem q2699 : (Jvm.Cond.fieldLink "Publicanry" (77 : Nat) "Publicanry$Duty" "first" "I") ∈ lw_all := lw_g (lw_at lw_m11 226 rfl) rfl
theorem in_X1 : ∀ w ∈ wsX10, w ∈ lw_all := lw_in wsX10 [263, 265, 267, 269, 271, 273, 275, 277, 279, 281, 283, 285, 287, 289, 291, 293] (by decide +kernel) (by decide +kernel)
