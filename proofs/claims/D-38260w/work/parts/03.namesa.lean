/-! Publicanry$Chest -/
set_option maxRecDepth 100000
def RX2 : String := "Publicanry$Chest"
def TX2 : u_T := fun k => match k with
  | _ => ("Publicanry$Chest", "coins", "I", false)
def tyX2 : Nat → FieldType := fun k => match k with
  | _ => .int
abbrev wsX20 : List Cond := u_ws RX2 TX2 1
theorem nmX2 : ∀ a, a < 1 → ∀ b, b < 1 → a ≠ b → (TX2 a).2.1 ≠ (TX2 b).2.1 := by decide +kernel
theorem tyX2_ok : ∀ k, k < 1 → parseFieldDescriptor (TX2 k).2.2.1 = some (tyX2 k) := by decide +kernel
abbrev cX2_init : ByteArray := prog_2_method_1_code
def yX2_init : MethodName := ⟨RX2, "<init>", "()V"⟩
theorem dX2_init_0 : decode cX2_init 0 = .ok (.aload_n 0, 1) := by decide +kernel
theorem dX2_init_1 : decode cX2_init 1 = .ok (.invokespecial 1, 3) := by decide +kernel
theorem dX2_init_4 : decode cX2_init 4 = .ok (.return_, 1) := by decide +kernel
abbrev cX2_coins : ByteArray := prog_2_method_2_code
def yX2_coins : MethodName := ⟨RX2, "coins", "()I"⟩
theorem dX2_coins_0 : decode cX2_coins 0 = .ok (.aload_n 0, 1) := by decide +kernel
theorem dX2_coins_1 : decode cX2_coins 1 = .ok (.getfield 7, 3) := by decide +kernel
theorem dX2_coins_4 : decode cX2_coins 4 = .ok (.ireturn, 1) := by decide +kernel
abbrev cX2_take : ByteArray := prog_2_method_5_code
def yX2_take : MethodName := ⟨RX2, "take", "(I)V"⟩
def dkwX2_take_0 : List UInt8 := [42, 89, 180, 0, 7, 27, 96, 181, 0, 7, 177]
abbrev dktX2_take_0 : List UInt8 := dkwX2_take_0 ++ []
theorem dksX2_take_0 : cX2_take.data.toList.drop 0 = dktX2_take_0 := by decide +kernel
theorem dX2_take_0 : decode cX2_take 0 = .ok (.aload_n 0, 1) := dk_42 (dk_at dksX2_take_0 0 rfl rfl)
theorem dX2_take_1 : decode cX2_take 1 = .ok (.dup, 1) := dk_89 (dk_at dksX2_take_0 1 rfl rfl)
theorem dX2_take_2 : decode cX2_take 2 = .ok (.getfield 7, 3) := dk_180 0 7 (dk_at dksX2_take_0 2 rfl rfl)
theorem dX2_take_5 : decode cX2_take 5 = .ok (.iload_n 1, 1) := dk_27 (dk_at dksX2_take_0 5 rfl rfl)
theorem dX2_take_6 : decode cX2_take 6 = .ok (.iadd, 1) := dk_96 (dk_at dksX2_take_0 6 rfl rfl)
theorem dX2_take_7 : decode cX2_take 7 = .ok (.putfield 7, 3) := dk_181 0 7 (dk_at dksX2_take_0 7 rfl rfl)
theorem dX2_take_10 : decode cX2_take 10 = .ok (.return_, 1) := dk_177 (dk_at dksX2_take_0 10 rfl rfl)
abbrev cX2_pay : ByteArray := prog_2_method_4_code
def yX2_pay : MethodName := ⟨RX2, "pay", "(LPublicanry$Chest;I)I"⟩
def dkwX2_pay_1 : List UInt8 := [29, 172]
abbrev dktX2_pay_1 : List UInt8 := dkwX2_pay_1 ++ []
def dkwX2_pay_0 : List UInt8 := [42, 180, 0, 7, 28, 184, 0, 13, 62, 42, 89, 180, 0, 7, 29, 100, 181, 0, 7, 43, 29, 182, 0, 19]
abbrev dktX2_pay_0 : List UInt8 := dkwX2_pay_0 ++ dktX2_pay_1
theorem dksX2_pay_0 : cX2_pay.data.toList.drop 0 = dktX2_pay_0 := by decide +kernel
theorem dksX2_pay_1 : cX2_pay.data.toList.drop 24 = dktX2_pay_1 := dk_seg dksX2_pay_0 24 rfl rfl
theorem dX2_pay_0 : decode cX2_pay 0 = .ok (.aload_n 0, 1) := dk_42 (dk_at dksX2_pay_0 0 rfl rfl)
theorem dX2_pay_1 : decode cX2_pay 1 = .ok (.getfield 7, 3) := dk_180 0 7 (dk_at dksX2_pay_0 1 rfl rfl)
theorem dX2_pay_4 : decode cX2_pay 4 = .ok (.iload_n 2, 1) := dk_28 (dk_at dksX2_pay_0 4 rfl rfl)
theorem dX2_pay_5 : decode cX2_pay 5 = .ok (.invokestatic 13, 3) := dk_184 0 13 (dk_at dksX2_pay_0 5 rfl rfl)
theorem dX2_pay_8 : decode cX2_pay 8 = .ok (.istore_n 3, 1) := dk_62 (dk_at dksX2_pay_0 8 rfl rfl)
theorem dX2_pay_9 : decode cX2_pay 9 = .ok (.aload_n 0, 1) := dk_42 (dk_at dksX2_pay_0 9 rfl rfl)
theorem dX2_pay_10 : decode cX2_pay 10 = .ok (.dup, 1) := dk_89 (dk_at dksX2_pay_0 10 rfl rfl)
theorem dX2_pay_11 : decode cX2_pay 11 = .ok (.getfield 7, 3) := dk_180 0 7 (dk_at dksX2_pay_0 11 rfl rfl)
theorem dX2_pay_14 : decode cX2_pay 14 = .ok (.iload_n 3, 1) := dk_29 (dk_at dksX2_pay_0 14 rfl rfl)
theorem dX2_pay_15 : decode cX2_pay 15 = .ok (.isub, 1) := dk_100 (dk_at dksX2_pay_0 15 rfl rfl)
theorem dX2_pay_16 : decode cX2_pay 16 = .ok (.putfield 7, 3) := dk_181 0 7 (dk_at dksX2_pay_0 16 rfl rfl)
theorem dX2_pay_19 : decode cX2_pay 19 = .ok (.aload_n 1, 1) := dk_43 (dk_at dksX2_pay_0 19 rfl rfl)
theorem dX2_pay_20 : decode cX2_pay 20 = .ok (.iload_n 3, 1) := dk_29 (dk_at dksX2_pay_0 20 rfl rfl)
theorem dX2_pay_21 : decode cX2_pay 21 = .ok (.invokevirtual 19, 3) := dk_182 0 19 (dk_at dksX2_pay_0 21 rfl rfl)
theorem dX2_pay_24 : decode cX2_pay 24 = .ok (.iload_n 3, 1) := dk_29 (dk_at dksX2_pay_1 0 rfl rfl)
theorem dX2_pay_25 : decode cX2_pay 25 = .ok (.ireturn, 1) := dk_172 (dk_at dksX2_pay_1 1 rfl rfl)
abbrev cX2_hasAll : ByteArray := prog_2_method_3_code
def yX2_hasAll : MethodName := ⟨RX2, "hasAll", "(I)Z"⟩
def dkwX2_hasAll_0 : List UInt8 := [42, 180, 0, 7, 27, 161, 0, 7, 4, 167, 0, 4, 3, 172]
abbrev dktX2_hasAll_0 : List UInt8 := dkwX2_hasAll_0 ++ []
theorem dksX2_hasAll_0 : cX2_hasAll.data.toList.drop 0 = dktX2_hasAll_0 := by decide +kernel
theorem dX2_hasAll_0 : decode cX2_hasAll 0 = .ok (.aload_n 0, 1) := dk_42 (dk_at dksX2_hasAll_0 0 rfl rfl)
theorem dX2_hasAll_1 : decode cX2_hasAll 1 = .ok (.getfield 7, 3) := dk_180 0 7 (dk_at dksX2_hasAll_0 1 rfl rfl)
theorem dX2_hasAll_4 : decode cX2_hasAll 4 = .ok (.iload_n 1, 1) := dk_27 (dk_at dksX2_hasAll_0 4 rfl rfl)
theorem dX2_hasAll_5 : decode cX2_hasAll 5 = .ok (.if_icmp .lt 7, 3) := dk_161 0 7 (dk_at dksX2_hasAll_0 5 rfl rfl)
theorem dX2_hasAll_8 : decode cX2_hasAll 8 = .ok (.iconst 1, 1) := dk_4 (dk_at dksX2_hasAll_0 8 rfl rfl)
theorem dX2_hasAll_9 : decode cX2_hasAll 9 = .ok (.goto 4, 3) := dk_167 0 4 (dk_at dksX2_hasAll_0 9 rfl rfl)
theorem dX2_hasAll_12 : decode cX2_hasAll 12 = .ok (.iconst 0, 1) := dk_3 (dk_at dksX2_hasAll_0 12 rfl rfl)
theorem dX2_hasAll_13 : decode cX2_hasAll 13 = .ok (.ireturn, 1) := dk_172 (dk_at dksX2_hasAll_0 13 rfl rfl)
theorem q78 : (Jvm.Cond.initialized "Publicanry$Chest") ∈ lw_all := lw_g (lw_at lw_m1 5 rfl) rfl
theorem q166 : (Jvm.Cond.instanceMethod ({ cls := "Publicanry$Chest", name := "<init>", desc := "()V" } : Jvm.MethodName)) ∈ lw_all := lw_g (lw_at lw_m1 93 rfl) rfl
theorem q167 : (Jvm.Cond.code ({ cls := "Publicanry$Chest", name := "<init>", desc := "()V" } : Jvm.MethodName) prog_2_method_1_code (1 : Nat) (Option.none : Option Jvm.ClassFile.FieldType)) ∈ lw_all := lw_g (lw_at lw_m1 94 rfl) rfl
theorem q168 : (Jvm.Cond.methodLink "Publicanry$Chest" (1 : Nat) ({ cls := "java/lang/Object", name := "<init>", desc := "()V" } : Jvm.MethodName)) ∈ lw_all := lw_g (lw_at lw_m1 95 rfl) rfl
theorem q169 : (Jvm.Cond.fieldLink "Publicanry$Chest" (7 : Nat) "Publicanry$Chest" "coins" "I") ∈ lw_all := lw_g (lw_at lw_m1 96 rfl) rfl
theorem q171 : (Jvm.Cond.soleField "Publicanry$Chest" "coins") ∈ lw_all := lw_g (lw_at lw_m1 98 rfl) rfl
theorem q174 : (Jvm.Cond.instantiable "Publicanry$Chest" (1 : Nat)) ∈ lw_all := lw_g (lw_at lw_m1 101 rfl) rfl
theorem q176 : (Jvm.Cond.lays "Publicanry$Chest" "Publicanry$Chest" "coins" "I") ∈ lw_all := lw_g (lw_at lw_m1 103 rfl) rfl
theorem q177 : (Jvm.Cond.superclass "Publicanry$Chest" "java/lang/Object") ∈ lw_all := lw_g (lw_at lw_m1 104 rfl) rfl
theorem q301 : (Jvm.Cond.instanceMethod ({ cls := "Publicanry$Chest", name := "coins", desc := "()I" } : Jvm.MethodName)) ∈ lw_all := lw_g (lw_at lw_m1 228 rfl) rfl
theorem q302 : (Jvm.Cond.selects "Publicanry$Chest" ({ cls := "Publicanry$Chest", name := "coins", desc := "()I" } : Jvm.MethodName) ({ cls := "Publicanry$Chest", name := "coins", desc := "()I" } : Jvm.MethodName)) ∈ lw_all := lw_g (lw_at lw_m1 229 rfl) rfl
theorem q303 : (Jvm.Cond.sameMethod "Publicanry$Chest" "Publicanry$Chest" "coins" "()I") ∈ lw_all := lw_g (lw_at lw_m1 230 rfl) rfl
theorem q305 : (Jvm.Cond.code ({ cls := "Publicanry$Chest", name := "coins", desc := "()I" } : Jvm.MethodName) prog_2_method_2_code (1 : Nat) (Option.some Jvm.ClassFile.FieldType.int)) ∈ lw_all := lw_g (lw_at lw_m1 232 rfl) rfl
theorem q307 : (Jvm.Cond.instanceMethod ({ cls := "Publicanry$Chest", name := "pay", desc := "(LPublicanry$Chest;I)I" } : Jvm.MethodName)) ∈ lw_all := lw_g (lw_at lw_m1 234 rfl) rfl
theorem q308 : (Jvm.Cond.selects "Publicanry$Chest" ({ cls := "Publicanry$Chest", name := "pay", desc := "(LPublicanry$Chest;I)I" } : Jvm.MethodName) ({ cls := "Publicanry$Chest", name := "pay", desc := "(LPublicanry$Chest;I)I" } : Jvm.MethodName)) ∈ lw_all := lw_g (lw_at lw_m1 235 rfl) rfl
theorem q309 : (Jvm.Cond.sameMethod "Publicanry$Chest" "Publicanry$Chest" "pay" "(LPublicanry$Chest;I)I") ∈ lw_all := lw_g (lw_at lw_m1 236 rfl) rfl
theorem q315 : (Jvm.Cond.declares ({ cls := "Publicanry$Chest", name := "take", desc := "(I)V" } : Jvm.MethodName)) ∈ lw_tbl := lw_at lw_m2 2 rfl
theorem q317 : (Jvm.Cond.instanceMethod ({ cls := "Publicanry$Chest", name := "take", desc := "(I)V" } : Jvm.MethodName)) ∈ lw_all := lw_g (lw_at lw_m2 4 rfl) rfl
theorem q318 : (Jvm.Cond.code ({ cls := "Publicanry$Chest", name := "take", desc := "(I)V" } : Jvm.MethodName) prog_2_method_5_code (2 : Nat) (Option.none : Option Jvm.ClassFile.FieldType)) ∈ lw_all := lw_g (lw_at lw_m2 5 rfl) rfl
theorem q320 : (Jvm.Cond.code ({ cls := "Publicanry$Chest", name := "pay", desc := "(LPublicanry$Chest;I)I" } : Jvm.MethodName) prog_2_method_4_code (4 : Nat) (Option.some Jvm.ClassFile.FieldType.int)) ∈ lw_all := lw_g (lw_at lw_m2 7 rfl) rfl
theorem q321 : (Jvm.Cond.methodLink "Publicanry$Chest" (13 : Nat) ({ cls := "java/lang/Math", name := "min", desc := "(II)I" } : Jvm.MethodName)) ∈ lw_all := lw_g (lw_at lw_m2 8 rfl) rfl
theorem q324 : (Jvm.Cond.methodLink "Publicanry$Chest" (19 : Nat) ({ cls := "Publicanry$Chest", name := "take", desc := "(I)V" } : Jvm.MethodName)) ∈ lw_all := lw_g (lw_at lw_m2 11 rfl) rfl
theorem q457 : (Jvm.Cond.selects "Publicanry$Chest" ({ cls := "java/lang/Object", name := "notifyAll", desc := "()V" } : Jvm.MethodName) ({ cls := "java/lang/Object", name := "notifyAll", desc := "()V" } : Jvm.MethodName)) ∈ lw_all := lw_g (lw_at lw_m2 144 rfl) rfl
theorem q559 : (Jvm.Cond.selects "Publicanry$Chest" ({ cls := "java/lang/Object", name := "notify", desc := "()V" } : Jvm.MethodName) ({ cls := "java/lang/Object", name := "notify", desc := "()V" } : Jvm.MethodName)) ∈ lw_all := lw_g (lw_at lw_m3 6 rfl) rfl
theorem q876 : (Jvm.Cond.selects "Publicanry$Chest" ({ cls := "java/lang/Object", name := "getClass", desc := "()Ljava/lang/Class;" } : Jvm.MethodName) ({ cls := "java/lang/Object", name := "getClass", desc := "()Ljava/lang/Class;" } : Jvm.MethodName)) ∈ lw_all := lw_g (lw_at lw_m4 83 rfl) rfl
theorem q1209 : (Jvm.Cond.instanceMethod ({ cls := "Publicanry$Chest", name := "hasAll", desc := "(I)Z" } : Jvm.MethodName)) ∈ lw_all := lw_g (lw_at lw_m5 176 rfl) rfl
theorem q1210 : (Jvm.Cond.selects "Publicanry$Chest" ({ cls := "Publicanry$Chest", name := "hasAll", desc := "(I)Z" } : Jvm.MethodName) ({ cls := "Publicanry$Chest", name := "hasAll", desc := "(I)Z" } : Jvm.MethodName)) ∈ lw_all := lw_g (lw_at lw_m5 177 rfl) rfl
theorem q1211 : (Jvm.Cond.sameMethod "Publicanry$Chest" "Publicanry$Chest" "hasAll" "(I)Z") ∈ lw_all := lw_g (lw_at lw_m5 178 rfl) rfl
theorem q1215 : (Jvm.Cond.code ({ cls := "Publicanry$Chest", name := "hasAll", desc := "(I)Z" } : Jvm.MethodName) prog_2_method_3_code (2 : Nat) (Option.some Jvm.ClassFile.FieldType.boolean)) ∈ lw_all := lw_g (lw_at lw_m5 182 rfl) rfl
theorem q2429 : (Jvm.Cond.selects "Publicanry$Chest" ({ cls := "java/lang/Object", name := "equals", desc := "(Ljava/lang/Object;)Z" } : Jvm.MethodName) ({ cls := "java/lang/Object", name := "equals", desc := "(Ljava/lang/Object;)Z" } : Jvm.MethodName)) ∈ lw_all := lw_g (lw_at lw_m10 196 rfl) rfl
theorem q2637 : (Jvm.Cond.sameMethod "Publicanry$Chest" "Publicanry$Chest" "take" "(I)V") ∈ lw_all := lw_g (lw_at lw_m11 164 rfl) rfl
theorem q2638 : (Jvm.Cond.selects "Publicanry$Chest" ({ cls := "Publicanry$Chest", name := "take", desc := "(I)V" } : Jvm.MethodName) ({ cls := "Publicanry$Chest", name := "take", desc := "(I)V" } : Jvm.MethodName)) ∈ lw_all := lw_g (lw_at lw_m11 165 rfl) rfl
theorem q2657 : (Jvm.Cond.castable "Publicanry$Chest" "java/lang/Object") ∈ lw_tbl := lw_at lw_m11 184 rfl
theorem in_X2 : ∀ w ∈ wsX20, w ∈ lw_all := lw_in wsX20 [176] (by decide +kernel) (by decide +kernel)
/-! Publicanry$World -/
set_option maxRecDepth 100000
def RX3 : String := "Publicanry$World"
def TX3 : u_T := fun k => match k with
  | _ => ("Publicanry$Chest", "coins", "I", false)
def tyX3 : Nat → FieldType := fun k => match k with
  | _ => .int
abbrev wsX30 : List Cond := u_ws RX3 TX3 1
theorem nmX3 : ∀ a, a < 1 → ∀ b, b < 1 → a ≠ b → (TX3 a).2.1 ≠ (TX3 b).2.1 := by decide +kernel
theorem tyX3_ok : ∀ k, k < 1 → parseFieldDescriptor (TX3 k).2.2.1 = some (tyX3 k) := by decide +kernel
abbrev cX3_init : ByteArray := prog_16_method_1_code
def yX3_init : MethodName := ⟨RX3, "<init>", "()V"⟩
theorem dX3_init_0 : decode cX3_init 0 = .ok (.aload_n 0, 1) := by decide +kernel
theorem dX3_init_1 : decode cX3_init 1 = .ok (.invokespecial 1, 3) := by decide +kernel
theorem dX3_init_4 : decode cX3_init 4 = .ok (.return_, 1) := by decide +kernel
abbrev cX3_pay : ByteArray := prog_16_method_3_code
def yX3_pay : MethodName := ⟨RX3, "pay", "(LPublicanry$Chest;I)I"⟩
def dkwX3_pay_0 : List UInt8 := [42, 28, 116, 182, 0, 7, 43, 28, 182, 0, 13, 28, 172]
abbrev dktX3_pay_0 : List UInt8 := dkwX3_pay_0 ++ []
theorem dksX3_pay_0 : cX3_pay.data.toList.drop 0 = dktX3_pay_0 := by decide +kernel
theorem dX3_pay_0 : decode cX3_pay 0 = .ok (.aload_n 0, 1) := dk_42 (dk_at dksX3_pay_0 0 rfl rfl)
theorem dX3_pay_1 : decode cX3_pay 1 = .ok (.iload_n 2, 1) := dk_28 (dk_at dksX3_pay_0 1 rfl rfl)
theorem dX3_pay_2 : decode cX3_pay 2 = .ok (.ineg, 1) := dk_116 (dk_at dksX3_pay_0 2 rfl rfl)
theorem dX3_pay_3 : decode cX3_pay 3 = .ok (.invokevirtual 7, 3) := dk_182 0 7 (dk_at dksX3_pay_0 3 rfl rfl)
theorem dX3_pay_6 : decode cX3_pay 6 = .ok (.aload_n 1, 1) := dk_43 (dk_at dksX3_pay_0 6 rfl rfl)
theorem dX3_pay_7 : decode cX3_pay 7 = .ok (.iload_n 2, 1) := dk_28 (dk_at dksX3_pay_0 7 rfl rfl)
theorem dX3_pay_8 : decode cX3_pay 8 = .ok (.invokevirtual 13, 3) := dk_182 0 13 (dk_at dksX3_pay_0 8 rfl rfl)
theorem dX3_pay_11 : decode cX3_pay 11 = .ok (.iload_n 2, 1) := dk_28 (dk_at dksX3_pay_0 11 rfl rfl)
theorem dX3_pay_12 : decode cX3_pay 12 = .ok (.ireturn, 1) := dk_172 (dk_at dksX3_pay_0 12 rfl rfl)
abbrev cX3_hasAll : ByteArray := prog_16_method_2_code
def yX3_hasAll : MethodName := ⟨RX3, "hasAll", "(I)Z"⟩
theorem dX3_hasAll_0 : decode cX3_hasAll 0 = .ok (.iconst 1, 1) := by decide +kernel
theorem dX3_hasAll_1 : decode cX3_hasAll 1 = .ok (.ireturn, 1) := by decide +kernel
theorem q79 : (Jvm.Cond.initialized "Publicanry$World") ∈ lw_all := lw_g (lw_at lw_m1 6 rfl) rfl
theorem q161 : (Jvm.Cond.instantiable "Publicanry$World" (1 : Nat)) ∈ lw_all := lw_g (lw_at lw_m1 88 rfl) rfl
theorem q163 : (Jvm.Cond.instanceMethod ({ cls := "Publicanry$World", name := "<init>", desc := "()V" } : Jvm.MethodName)) ∈ lw_all := lw_g (lw_at lw_m1 90 rfl) rfl
theorem q164 : (Jvm.Cond.code ({ cls := "Publicanry$World", name := "<init>", desc := "()V" } : Jvm.MethodName) prog_16_method_1_code (1 : Nat) (Option.none : Option Jvm.ClassFile.FieldType)) ∈ lw_all := lw_g (lw_at lw_m1 91 rfl) rfl
theorem q165 : (Jvm.Cond.methodLinkNest "Publicanry$World" (1 : Nat) ({ cls := "Publicanry$Chest", name := "<init>", desc := "()V" } : Jvm.MethodName) "Publicanry") ∈ lw_tbl := lw_at lw_m1 92 rfl
theorem q170 : (Jvm.Cond.lays "Publicanry$World" "Publicanry$Chest" "coins" "I") ∈ lw_all := lw_g (lw_at lw_m1 97 rfl) rfl
theorem q172 : (Jvm.Cond.superclass "Publicanry$World" "Publicanry$Chest") ∈ lw_all := lw_g (lw_at lw_m1 99 rfl) rfl
theorem q304 : (Jvm.Cond.selects "Publicanry$World" ({ cls := "Publicanry$Chest", name := "coins", desc := "()I" } : Jvm.MethodName) ({ cls := "Publicanry$Chest", name := "coins", desc := "()I" } : Jvm.MethodName)) ∈ lw_all := lw_g (lw_at lw_m1 231 rfl) rfl
theorem q310 : (Jvm.Cond.selects "Publicanry$World" ({ cls := "Publicanry$Chest", name := "pay", desc := "(LPublicanry$Chest;I)I" } : Jvm.MethodName) ({ cls := "Publicanry$World", name := "pay", desc := "(LPublicanry$Chest;I)I" } : Jvm.MethodName)) ∈ lw_all := lw_g (lw_at lw_m1 237 rfl) rfl
theorem q311 : (Jvm.Cond.instanceMethod ({ cls := "Publicanry$World", name := "pay", desc := "(LPublicanry$Chest;I)I" } : Jvm.MethodName)) ∈ lw_all := lw_g (lw_at lw_m1 238 rfl) rfl
theorem q312 : (Jvm.Cond.code ({ cls := "Publicanry$World", name := "pay", desc := "(LPublicanry$Chest;I)I" } : Jvm.MethodName) prog_16_method_3_code (3 : Nat) (Option.some Jvm.ClassFile.FieldType.int)) ∈ lw_all := lw_g (lw_at lw_m1 239 rfl) rfl
theorem q313 : (Jvm.Cond.methodLink "Publicanry$World" (7 : Nat) ({ cls := "Publicanry$World", name := "take", desc := "(I)V" } : Jvm.MethodName)) ∈ lw_all := lw_g (lw_at lw_m2 0 rfl) rfl
theorem q314 : (Jvm.Cond.sameMethod "Publicanry$World" "Publicanry$Chest" "take" "(I)V") ∈ lw_all := lw_g (lw_at lw_m2 1 rfl) rfl
theorem q316 : (Jvm.Cond.selects "Publicanry$World" ({ cls := "Publicanry$World", name := "take", desc := "(I)V" } : Jvm.MethodName) ({ cls := "Publicanry$Chest", name := "take", desc := "(I)V" } : Jvm.MethodName)) ∈ lw_all := lw_g (lw_at lw_m2 3 rfl) rfl
theorem q319 : (Jvm.Cond.methodLink "Publicanry$World" (13 : Nat) ({ cls := "Publicanry$Chest", name := "take", desc := "(I)V" } : Jvm.MethodName)) ∈ lw_all := lw_g (lw_at lw_m2 6 rfl) rfl
theorem q470 : (Jvm.Cond.selects "Publicanry$World" ({ cls := "java/lang/Object", name := "notifyAll", desc := "()V" } : Jvm.MethodName) ({ cls := "java/lang/Object", name := "notifyAll", desc := "()V" } : Jvm.MethodName)) ∈ lw_all := lw_g (lw_at lw_m2 157 rfl) rfl
theorem q572 : (Jvm.Cond.selects "Publicanry$World" ({ cls := "java/lang/Object", name := "notify", desc := "()V" } : Jvm.MethodName) ({ cls := "java/lang/Object", name := "notify", desc := "()V" } : Jvm.MethodName)) ∈ lw_all := lw_g (lw_at lw_m3 19 rfl) rfl
theorem q889 : (Jvm.Cond.selects "Publicanry$World" ({ cls := "java/lang/Object", name := "getClass", desc := "()Ljava/lang/Class;" } : Jvm.MethodName) ({ cls := "java/lang/Object", name := "getClass", desc := "()Ljava/lang/Class;" } : Jvm.MethodName)) ∈ lw_all := lw_g (lw_at lw_m4 96 rfl) rfl
theorem q1212 : (Jvm.Cond.selects "Publicanry$World" ({ cls := "Publicanry$Chest", name := "hasAll", desc := "(I)Z" } : Jvm.MethodName) ({ cls := "Publicanry$World", name := "hasAll", desc := "(I)Z" } : Jvm.MethodName)) ∈ lw_all := lw_g (lw_at lw_m5 179 rfl) rfl
theorem q1213 : (Jvm.Cond.instanceMethod ({ cls := "Publicanry$World", name := "hasAll", desc := "(I)Z" } : Jvm.MethodName)) ∈ lw_all := lw_g (lw_at lw_m5 180 rfl) rfl
theorem q1214 : (Jvm.Cond.code ({ cls := "Publicanry$World", name := "hasAll", desc := "(I)Z" } : Jvm.MethodName) prog_16_method_2_code (2 : Nat) (Option.some Jvm.ClassFile.FieldType.boolean)) ∈ lw_all := lw_g (lw_at lw_m5 181 rfl) rfl
theorem q2444 : (Jvm.Cond.selects "Publicanry$World" ({ cls := "java/lang/Object", name := "equals", desc := "(Ljava/lang/Object;)Z" } : Jvm.MethodName) ({ cls := "java/lang/Object", name := "equals", desc := "(Ljava/lang/Object;)Z" } : Jvm.MethodName)) ∈ lw_all := lw_g (lw_at lw_m10 211 rfl) rfl
theorem q2639 : (Jvm.Cond.selects "Publicanry$World" ({ cls := "Publicanry$Chest", name := "take", desc := "(I)V" } : Jvm.MethodName) ({ cls := "Publicanry$Chest", name := "take", desc := "(I)V" } : Jvm.MethodName)) ∈ lw_all := lw_g (lw_at lw_m11 166 rfl) rfl
theorem q2656 : (Jvm.Cond.castable "Publicanry$World" "java/lang/Object") ∈ lw_tbl := lw_at lw_m11 183 rfl
theorem in_X3 : ∀ w ∈ wsX30, w ∈ lw_all := lw_in wsX30 [170] (by decide +kernel) (by decide +kernel)
/-! Publicanry$Governor -/
set_option maxRecDepth 100000
def RX4 : String := "Publicanry$Governor"
def TX4 : u_T := fun k => match k with
  | 0 => ("Publicanry$Governor", "chest", "LPublicanry$Chest;", true)
  | _ => ("Publicanry$Governor", "evidence", "I", false)
def tyX4 : Nat → FieldType := fun k => match k with
  | 0 => .object "Publicanry$Chest"
  | _ => .int
abbrev wsX40 : List Cond := u_ws RX4 TX4 2
theorem nmX4 : ∀ a, a < 2 → ∀ b, b < 2 → a ≠ b → (TX4 a).2.1 ≠ (TX4 b).2.1 := by decide +kernel
theorem tyX4_ok : ∀ k, k < 2 → parseFieldDescriptor (TX4 k).2.2.1 = some (tyX4 k) := by decide +kernel
abbrev cX4_init : ByteArray := prog_8_method_1_code
def yX4_init : MethodName := ⟨RX4, "<init>", "()V"⟩
def dkwX4_init_0 : List UInt8 := [42, 183, 0, 1, 42, 187, 0, 7, 89, 183, 0, 9, 181, 0, 10, 177]
abbrev dktX4_init_0 : List UInt8 := dkwX4_init_0 ++ []
theorem dksX4_init_0 : cX4_init.data.toList.drop 0 = dktX4_init_0 := by decide +kernel
theorem dX4_init_0 : decode cX4_init 0 = .ok (.aload_n 0, 1) := dk_42 (dk_at dksX4_init_0 0 rfl rfl)
theorem dX4_init_1 : decode cX4_init 1 = .ok (.invokespecial 1, 3) := dk_183 0 1 (dk_at dksX4_init_0 1 rfl rfl)
theorem dX4_init_4 : decode cX4_init 4 = .ok (.aload_n 0, 1) := dk_42 (dk_at dksX4_init_0 4 rfl rfl)
theorem dX4_init_5 : decode cX4_init 5 = .ok (.new 7, 3) := dk_187 0 7 (dk_at dksX4_init_0 5 rfl rfl)
theorem dX4_init_8 : decode cX4_init 8 = .ok (.dup, 1) := dk_89 (dk_at dksX4_init_0 8 rfl rfl)
theorem dX4_init_9 : decode cX4_init 9 = .ok (.invokespecial 9, 3) := dk_183 0 9 (dk_at dksX4_init_0 9 rfl rfl)
theorem dX4_init_12 : decode cX4_init 12 = .ok (.putfield 10, 3) := dk_181 0 10 (dk_at dksX4_init_0 12 rfl rfl)
theorem dX4_init_15 : decode cX4_init 15 = .ok (.return_, 1) := dk_177 (dk_at dksX4_init_0 15 rfl rfl)
abbrev cX4_does : ByteArray := prog_8_method_2_code
def yX4_does : MethodName := ⟨RX4, "does", "(LPublicanry$Company;I)Z"⟩
def dkwX4_does_1 : List UInt8 := [180, 0, 22, 4, 96, 181, 0, 22, 4, 172]
abbrev dktX4_does_1 : List UInt8 := dkwX4_does_1 ++ []
def dkwX4_does_0 : List UInt8 := [43, 180, 0, 16, 28, 162, 0, 5, 3, 172, 43, 89, 180, 0, 16, 28, 100, 181, 0, 16, 42, 89]
abbrev dktX4_does_0 : List UInt8 := dkwX4_does_0 ++ dktX4_does_1
theorem dksX4_does_0 : cX4_does.data.toList.drop 0 = dktX4_does_0 := by decide +kernel
theorem dksX4_does_1 : cX4_does.data.toList.drop 22 = dktX4_does_1 := dk_seg dksX4_does_0 22 rfl rfl
theorem dX4_does_0 : decode cX4_does 0 = .ok (.aload_n 1, 1) := dk_43 (dk_at dksX4_does_0 0 rfl rfl)
theorem dX4_does_1 : decode cX4_does 1 = .ok (.getfield 16, 3) := dk_180 0 16 (dk_at dksX4_does_0 1 rfl rfl)
theorem dX4_does_4 : decode cX4_does 4 = .ok (.iload_n 2, 1) := dk_28 (dk_at dksX4_does_0 4 rfl rfl)
theorem dX4_does_5 : decode cX4_does 5 = .ok (.if_icmp .ge 5, 3) := dk_162 0 5 (dk_at dksX4_does_0 5 rfl rfl)
theorem dX4_does_8 : decode cX4_does 8 = .ok (.iconst 0, 1) := dk_3 (dk_at dksX4_does_0 8 rfl rfl)
theorem dX4_does_9 : decode cX4_does 9 = .ok (.ireturn, 1) := dk_172 (dk_at dksX4_does_0 9 rfl rfl)
theorem dX4_does_10 : decode cX4_does 10 = .ok (.aload_n 1, 1) := dk_43 (dk_at dksX4_does_0 10 rfl rfl)
theorem dX4_does_11 : decode cX4_does 11 = .ok (.dup, 1) := dk_89 (dk_at dksX4_does_0 11 rfl rfl)
theorem dX4_does_12 : decode cX4_does 12 = .ok (.getfield 16, 3) := dk_180 0 16 (dk_at dksX4_does_0 12 rfl rfl)
theorem dX4_does_15 : decode cX4_does 15 = .ok (.iload_n 2, 1) := dk_28 (dk_at dksX4_does_0 15 rfl rfl)
theorem dX4_does_16 : decode cX4_does 16 = .ok (.isub, 1) := dk_100 (dk_at dksX4_does_0 16 rfl rfl)
theorem dX4_does_17 : decode cX4_does 17 = .ok (.putfield 16, 3) := dk_181 0 16 (dk_at dksX4_does_0 17 rfl rfl)
theorem dX4_does_20 : decode cX4_does 20 = .ok (.aload_n 0, 1) := dk_42 (dk_at dksX4_does_0 20 rfl rfl)
theorem dX4_does_21 : decode cX4_does 21 = .ok (.dup, 1) := dk_89 (dk_at dksX4_does_0 21 rfl rfl)
theorem dX4_does_22 : decode cX4_does 22 = .ok (.getfield 22, 3) := dk_180 0 22 (dk_at dksX4_does_1 0 rfl rfl)
theorem dX4_does_25 : decode cX4_does 25 = .ok (.iconst 1, 1) := dk_4 (dk_at dksX4_does_1 3 rfl rfl)
theorem dX4_does_26 : decode cX4_does 26 = .ok (.iadd, 1) := dk_96 (dk_at dksX4_does_1 4 rfl rfl)
theorem dX4_does_27 : decode cX4_does 27 = .ok (.putfield 22, 3) := dk_181 0 22 (dk_at dksX4_does_1 5 rfl rfl)
theorem dX4_does_30 : decode cX4_does 30 = .ok (.iconst 1, 1) := dk_4 (dk_at dksX4_does_1 8 rfl rfl)
theorem dX4_does_31 : decode cX4_does 31 = .ok (.ireturn, 1) := dk_172 (dk_at dksX4_does_1 9 rfl rfl)
theorem q80 : (Jvm.Cond.initialized "Publicanry$Governor") ∈ lw_all := lw_g (lw_at lw_m1 7 rfl) rfl
theorem q179 : (Jvm.Cond.instantiable "Publicanry$Governor" (2 : Nat)) ∈ lw_all := lw_g (lw_at lw_m1 106 rfl) rfl
theorem q181 : (Jvm.Cond.instanceMethod ({ cls := "Publicanry$Governor", name := "<init>", desc := "()V" } : Jvm.MethodName)) ∈ lw_all := lw_g (lw_at lw_m1 108 rfl) rfl
theorem q182 : (Jvm.Cond.code ({ cls := "Publicanry$Governor", name := "<init>", desc := "()V" } : Jvm.MethodName) prog_8_method_1_code (1 : Nat) (Option.none : Option Jvm.ClassFile.FieldType)) ∈ lw_all := lw_g (lw_at lw_m1 109 rfl) rfl
theorem q183 : (Jvm.Cond.methodLink "Publicanry$Governor" (1 : Nat) ({ cls := "java/lang/Object", name := "<init>", desc := "()V" } : Jvm.MethodName)) ∈ lw_all := lw_g (lw_at lw_m1 110 rfl) rfl
theorem q184 : (Jvm.Cond.classLink "Publicanry$Governor" (7 : Nat) "Publicanry$Chest") ∈ lw_all := lw_g (lw_at lw_m1 111 rfl) rfl
theorem q185 : (Jvm.Cond.methodLinkNest "Publicanry$Governor" (9 : Nat) ({ cls := "Publicanry$Chest", name := "<init>", desc := "()V" } : Jvm.MethodName) "Publicanry") ∈ lw_tbl := lw_at lw_m1 112 rfl
theorem q186 : (Jvm.Cond.fieldLink "Publicanry$Governor" (10 : Nat) "Publicanry$Governor" "chest" "LPublicanry$Chest;") ∈ lw_all := lw_g (lw_at lw_m1 113 rfl) rfl
theorem q188 : (Jvm.Cond.fieldLink "Publicanry$Governor" (22 : Nat) "Publicanry$Governor" "evidence" "I") ∈ lw_all := lw_g (lw_at lw_m1 115 rfl) rfl
theorem q190 : (Jvm.Cond.laysFinal "Publicanry$Governor" "Publicanry$Governor" "chest" "LPublicanry$Chest;") ∈ lw_all := lw_g (lw_at lw_m1 117 rfl) rfl
theorem q191 : (Jvm.Cond.soleField "Publicanry$Governor" "chest") ∈ lw_all := lw_g (lw_at lw_m1 118 rfl) rfl
theorem q192 : (Jvm.Cond.lays "Publicanry$Governor" "Publicanry$Governor" "evidence" "I") ∈ lw_all := lw_g (lw_at lw_m1 119 rfl) rfl
theorem q193 : (Jvm.Cond.soleField "Publicanry$Governor" "evidence") ∈ lw_all := lw_g (lw_at lw_m1 120 rfl) rfl
theorem q194 : (Jvm.Cond.superclass "Publicanry$Governor" "java/lang/Object") ∈ lw_all := lw_g (lw_at lw_m1 121 rfl) rfl
theorem q462 : (Jvm.Cond.selects "Publicanry$Governor" ({ cls := "java/lang/Object", name := "notifyAll", desc := "()V" } : Jvm.MethodName) ({ cls := "java/lang/Object", name := "notifyAll", desc := "()V" } : Jvm.MethodName)) ∈ lw_all := lw_g (lw_at lw_m2 149 rfl) rfl
theorem q564 : (Jvm.Cond.selects "Publicanry$Governor" ({ cls := "java/lang/Object", name := "notify", desc := "()V" } : Jvm.MethodName) ({ cls := "java/lang/Object", name := "notify", desc := "()V" } : Jvm.MethodName)) ∈ lw_all := lw_g (lw_at lw_m3 11 rfl) rfl
theorem q881 : (Jvm.Cond.selects "Publicanry$Governor" ({ cls := "java/lang/Object", name := "getClass", desc := "()Ljava/lang/Class;" } : Jvm.MethodName) ({ cls := "java/lang/Object", name := "getClass", desc := "()Ljava/lang/Class;" } : Jvm.MethodName)) ∈ lw_all := lw_g (lw_at lw_m4 88 rfl) rfl
theorem q1136 : (Jvm.Cond.fieldLink "Publicanry$Governor" (16 : Nat) "Publicanry$Company" "gifts" "I") ∈ lw_all := lw_g (lw_at lw_m5 103 rfl) rfl
theorem q1447 : (Jvm.Cond.instanceMethod ({ cls := "Publicanry$Governor", name := "does", desc := "(LPublicanry$Company;I)Z" } : Jvm.MethodName)) ∈ lw_all := lw_g (lw_at lw_m6 174 rfl) rfl
theorem q1448 : (Jvm.Cond.selects "Publicanry$Governor" ({ cls := "Publicanry$Governor", name := "does", desc := "(LPublicanry$Company;I)Z" } : Jvm.MethodName) ({ cls := "Publicanry$Governor", name := "does", desc := "(LPublicanry$Company;I)Z" } : Jvm.MethodName)) ∈ lw_all := lw_g (lw_at lw_m6 175 rfl) rfl
theorem q1449 : (Jvm.Cond.code ({ cls := "Publicanry$Governor", name := "does", desc := "(LPublicanry$Company;I)Z" } : Jvm.MethodName) prog_8_method_2_code (3 : Nat) (Option.some Jvm.ClassFile.FieldType.boolean)) ∈ lw_all := lw_g (lw_at lw_m6 176 rfl) rfl
theorem q2436 : (Jvm.Cond.selects "Publicanry$Governor" ({ cls := "java/lang/Object", name := "equals", desc := "(Ljava/lang/Object;)Z" } : Jvm.MethodName) ({ cls := "java/lang/Object", name := "equals", desc := "(Ljava/lang/Object;)Z" } : Jvm.MethodName)) ∈ lw_all := lw_g (lw_at lw_m10 203 rfl) rfl
theorem q2658 : (Jvm.Cond.castable "Publicanry$Governor" "java/lang/Object") ∈ lw_tbl := lw_at lw_m11 185 rfl
theorem in_X4 : ∀ w ∈ wsX40, w ∈ lw_all := lw_in wsX40 [190, 192] (by decide +kernel) (by decide +kernel)
/-! Publicanry$Guard -/
set_option maxRecDepth 100000
def RX5 : String := "Publicanry$Guard"
def TX5 : u_T := fun k => match k with
  | _ => ("Publicanry$Guard", "refused", "I", false)
def tyX5 : Nat → FieldType := fun k => match k with
  | _ => .int
abbrev wsX50 : List Cond := u_ws RX5 TX5 1
theorem nmX5 : ∀ a, a < 1 → ∀ b, b < 1 → a ≠ b → (TX5 a).2.1 ≠ (TX5 b).2.1 := by decide +kernel
theorem tyX5_ok : ∀ k, k < 1 → parseFieldDescriptor (TX5 k).2.2.1 = some (tyX5 k) := by decide +kernel
abbrev cX5_init : ByteArray := prog_9_method_1_code
def yX5_init : MethodName := ⟨RX5, "<init>", "()V"⟩
theorem dX5_init_0 : decode cX5_init 0 = .ok (.aload_n 0, 1) := by decide +kernel
theorem dX5_init_1 : decode cX5_init 1 = .ok (.invokespecial 1, 3) := by decide +kernel
theorem dX5_init_4 : decode cX5_init 4 = .ok (.return_, 1) := by decide +kernel
abbrev cX5_call : ByteArray := prog_9_method_2_code
def yX5_call : MethodName := ⟨RX5, "call", "()I"⟩
def dkwX5_call_0 : List UInt8 := [42, 182, 0, 7, 167, 0, 14, 76, 42, 89, 180, 0, 12, 4, 96, 181, 0, 12, 42, 180, 0, 12, 172]
abbrev dktX5_call_0 : List UInt8 := dkwX5_call_0 ++ []
theorem dksX5_call_0 : cX5_call.data.toList.drop 0 = dktX5_call_0 := by decide +kernel
theorem dX5_call_0 : decode cX5_call 0 = .ok (.aload_n 0, 1) := dk_42 (dk_at dksX5_call_0 0 rfl rfl)
theorem dX5_call_1 : decode cX5_call 1 = .ok (.invokevirtual 7, 3) := dk_182 0 7 (dk_at dksX5_call_0 1 rfl rfl)
theorem dX5_call_4 : decode cX5_call 4 = .ok (.goto 14, 3) := dk_167 0 14 (dk_at dksX5_call_0 4 rfl rfl)
theorem dX5_call_7 : decode cX5_call 7 = .ok (.astore_n 1, 1) := dk_76 (dk_at dksX5_call_0 7 rfl rfl)
theorem dX5_call_8 : decode cX5_call 8 = .ok (.aload_n 0, 1) := dk_42 (dk_at dksX5_call_0 8 rfl rfl)
theorem dX5_call_9 : decode cX5_call 9 = .ok (.dup, 1) := dk_89 (dk_at dksX5_call_0 9 rfl rfl)
theorem dX5_call_10 : decode cX5_call 10 = .ok (.getfield 12, 3) := dk_180 0 12 (dk_at dksX5_call_0 10 rfl rfl)
theorem dX5_call_13 : decode cX5_call 13 = .ok (.iconst 1, 1) := dk_4 (dk_at dksX5_call_0 13 rfl rfl)
theorem dX5_call_14 : decode cX5_call 14 = .ok (.iadd, 1) := dk_96 (dk_at dksX5_call_0 14 rfl rfl)
theorem dX5_call_15 : decode cX5_call 15 = .ok (.putfield 12, 3) := dk_181 0 12 (dk_at dksX5_call_0 15 rfl rfl)
theorem dX5_call_18 : decode cX5_call 18 = .ok (.aload_n 0, 1) := dk_42 (dk_at dksX5_call_0 18 rfl rfl)
theorem dX5_call_19 : decode cX5_call 19 = .ok (.getfield 12, 3) := dk_180 0 12 (dk_at dksX5_call_0 19 rfl rfl)
theorem dX5_call_22 : decode cX5_call 22 = .ok (.ireturn, 1) := dk_172 (dk_at dksX5_call_0 22 rfl rfl)
theorem q81 : (Jvm.Cond.initialized "Publicanry$Guard") ∈ lw_all := lw_g (lw_at lw_m1 8 rfl) rfl
theorem q196 : (Jvm.Cond.instantiable "Publicanry$Guard" (1 : Nat)) ∈ lw_all := lw_g (lw_at lw_m1 123 rfl) rfl
theorem q198 : (Jvm.Cond.instanceMethod ({ cls := "Publicanry$Guard", name := "<init>", desc := "()V" } : Jvm.MethodName)) ∈ lw_all := lw_g (lw_at lw_m1 125 rfl) rfl
theorem q199 : (Jvm.Cond.code ({ cls := "Publicanry$Guard", name := "<init>", desc := "()V" } : Jvm.MethodName) prog_9_method_1_code (1 : Nat) (Option.none : Option Jvm.ClassFile.FieldType)) ∈ lw_all := lw_g (lw_at lw_m1 126 rfl) rfl
theorem q200 : (Jvm.Cond.methodLink "Publicanry$Guard" (1 : Nat) ({ cls := "java/lang/Object", name := "<init>", desc := "()V" } : Jvm.MethodName)) ∈ lw_all := lw_g (lw_at lw_m1 127 rfl) rfl
theorem q201 : (Jvm.Cond.fieldLink "Publicanry$Guard" (12 : Nat) "Publicanry$Guard" "refused" "I") ∈ lw_all := lw_g (lw_at lw_m1 128 rfl) rfl
theorem q202 : (Jvm.Cond.lays "Publicanry$Guard" "Publicanry$Guard" "refused" "I") ∈ lw_all := lw_g (lw_at lw_m1 129 rfl) rfl
theorem q203 : (Jvm.Cond.soleField "Publicanry$Guard" "refused") ∈ lw_all := lw_g (lw_at lw_m1 130 rfl) rfl
theorem q204 : (Jvm.Cond.superclass "Publicanry$Guard" "java/lang/Object") ∈ lw_all := lw_g (lw_at lw_m1 131 rfl) rfl
theorem q377 : (Jvm.Cond.instanceMethod ({ cls := "Publicanry$Guard", name := "call", desc := "()I" } : Jvm.MethodName)) ∈ lw_all := lw_g (lw_at lw_m2 64 rfl) rfl
theorem q378 : (Jvm.Cond.selects "Publicanry$Guard" ({ cls := "Publicanry$Guard", name := "call", desc := "()I" } : Jvm.MethodName) ({ cls := "Publicanry$Guard", name := "call", desc := "()I" } : Jvm.MethodName)) ∈ lw_all := lw_g (lw_at lw_m2 65 rfl) rfl
theorem q379 : (Jvm.Cond.codeWith ({ cls := "Publicanry$Guard", name := "call", desc := "()I" } : Jvm.MethodName) prog_9_method_2_code (2 : Nat) (Option.some Jvm.ClassFile.FieldType.int) [((0 : Nat), (4 : Nat), (7 : Nat), (10 : Nat))]) ∈ lw_all := lw_g (lw_at lw_m2 66 rfl) rfl
theorem q380 : (Jvm.Cond.classLink "Publicanry$Guard" (10 : Nat) "java/lang/IllegalMonitorStateException") ∈ lw_all := lw_g (lw_at lw_m2 67 rfl) rfl
theorem q453 : (Jvm.Cond.methodLink "Publicanry$Guard" (7 : Nat) ({ cls := "java/lang/Object", name := "notifyAll", desc := "()V" } : Jvm.MethodName)) ∈ lw_all := lw_g (lw_at lw_m2 140 rfl) rfl
theorem q463 : (Jvm.Cond.selects "Publicanry$Guard" ({ cls := "java/lang/Object", name := "notifyAll", desc := "()V" } : Jvm.MethodName) ({ cls := "java/lang/Object", name := "notifyAll", desc := "()V" } : Jvm.MethodName)) ∈ lw_all := lw_g (lw_at lw_m2 150 rfl) rfl
theorem q552 : (Jvm.Cond.instanceMethod ({ cls := "Publicanry$Guard", name := "refused", desc := "()I" } : Jvm.MethodName)) ∈ lw_all := lw_g (lw_at lw_m2 239 rfl) rfl
theorem q553 : (Jvm.Cond.selects "Publicanry$Guard" ({ cls := "Publicanry$Guard", name := "refused", desc := "()I" } : Jvm.MethodName) ({ cls := "Publicanry$Guard", name := "refused", desc := "()I" } : Jvm.MethodName)) ∈ lw_all := lw_g (lw_at lw_m3 0 rfl) rfl
theorem q554 : (Jvm.Cond.codeSync ({ cls := "Publicanry$Guard", name := "refused", desc := "()I" } : Jvm.MethodName) prog_9_method_3_code (1 : Nat) (Option.some Jvm.ClassFile.FieldType.int)) ∈ lw_all := lw_g (lw_at lw_m3 1 rfl) rfl
theorem q555 : (Jvm.Cond.methodLink "Publicanry$Guard" (18 : Nat) ({ cls := "java/lang/Object", name := "notify", desc := "()V" } : Jvm.MethodName)) ∈ lw_all := lw_g (lw_at lw_m3 2 rfl) rfl
theorem q565 : (Jvm.Cond.selects "Publicanry$Guard" ({ cls := "java/lang/Object", name := "notify", desc := "()V" } : Jvm.MethodName) ({ cls := "java/lang/Object", name := "notify", desc := "()V" } : Jvm.MethodName)) ∈ lw_all := lw_g (lw_at lw_m3 12 rfl) rfl
theorem q882 : (Jvm.Cond.selects "Publicanry$Guard" ({ cls := "java/lang/Object", name := "getClass", desc := "()Ljava/lang/Class;" } : Jvm.MethodName) ({ cls := "java/lang/Object", name := "getClass", desc := "()Ljava/lang/Class;" } : Jvm.MethodName)) ∈ lw_all := lw_g (lw_at lw_m4 89 rfl) rfl
theorem q2437 : (Jvm.Cond.selects "Publicanry$Guard" ({ cls := "java/lang/Object", name := "equals", desc := "(Ljava/lang/Object;)Z" } : Jvm.MethodName) ({ cls := "java/lang/Object", name := "equals", desc := "(Ljava/lang/Object;)Z" } : Jvm.MethodName)) ∈ lw_all := lw_g (lw_at lw_m10 204 rfl) rfl
theorem q2659 : (Jvm.Cond.castable "Publicanry$Guard" "java/lang/Object") ∈ lw_tbl := lw_at lw_m11 186 rfl
theorem in_X5 : ∀ w ∈ wsX50, w ∈ lw_all := lw_in wsX50 [202] (by decide +kernel) (by decide +kernel)
/-! Publicanry$Rule -/
set_option maxRecDepth 100000
def RX6 : String := "Publicanry$Rule"
def TX6 : u_T := fun k => match k with
  | 0 => ("Publicanry$Rule", "rate", "I", false)
  | 1 => ("Publicanry$Rule", "exempt", "I", false)
  | 2 => ("Publicanry$Rule", "nextRate", "I", false)
  | 3 => ("Publicanry$Rule", "nextExempt", "I", false)
  | 4 => ("Publicanry$Rule", "isByClerks", "Z", false)
  | _ => ("Publicanry$Rule", "brought", "I", false)
def tyX6 : Nat → FieldType := fun k => match k with
  | 0 => .int
  | 1 => .int
  | 2 => .int
  | 3 => .int
  | 4 => .boolean
  | _ => .int
abbrev wsX60 : List Cond := u_ws RX6 TX6 6
theorem nmX6 : ∀ a, a < 6 → ∀ b, b < 6 → a ≠ b → (TX6 a).2.1 ≠ (TX6 b).2.1 := by decide +kernel
theorem tyX6_ok : ∀ k, k < 6 → parseFieldDescriptor (TX6 k).2.2.1 = some (tyX6 k) := by decide +kernel
abbrev cX6_init : ByteArray := prog_13_method_1_code
def yX6_init : MethodName := ⟨RX6, "<init>", "(I)V"⟩
def dkwX6_init_0 : List UInt8 := [42, 183, 0, 3, 42, 2, 181, 0, 9, 42, 27, 181, 0, 15, 177]
abbrev dktX6_init_0 : List UInt8 := dkwX6_init_0 ++ []
theorem dksX6_init_0 : cX6_init.data.toList.drop 0 = dktX6_init_0 := by decide +kernel
theorem dX6_init_0 : decode cX6_init 0 = .ok (.aload_n 0, 1) := dk_42 (dk_at dksX6_init_0 0 rfl rfl)
theorem dX6_init_1 : decode cX6_init 1 = .ok (.invokespecial 3, 3) := dk_183 0 3 (dk_at dksX6_init_0 1 rfl rfl)
theorem dX6_init_4 : decode cX6_init 4 = .ok (.aload_n 0, 1) := dk_42 (dk_at dksX6_init_0 4 rfl rfl)
theorem dX6_init_5 : decode cX6_init 5 = .ok (.iconst (-1), 1) := dk_2 (dk_at dksX6_init_0 5 rfl rfl)
theorem dX6_init_6 : decode cX6_init 6 = .ok (.putfield 9, 3) := dk_181 0 9 (dk_at dksX6_init_0 6 rfl rfl)
theorem dX6_init_9 : decode cX6_init 9 = .ok (.aload_n 0, 1) := dk_42 (dk_at dksX6_init_0 9 rfl rfl)
theorem dX6_init_10 : decode cX6_init 10 = .ok (.iload_n 1, 1) := dk_27 (dk_at dksX6_init_0 10 rfl rfl)
theorem dX6_init_11 : decode cX6_init 11 = .ok (.putfield 15, 3) := dk_181 0 15 (dk_at dksX6_init_0 11 rfl rfl)
theorem dX6_init_14 : decode cX6_init 14 = .ok (.return_, 1) := dk_177 (dk_at dksX6_init_0 14 rfl rfl)
abbrev cX6_tell : ByteArray := prog_13_method_2_code
def yX6_tell : MethodName := ⟨RX6, "tell", "(II)V"⟩
def dkwX6_tell_0 : List UInt8 := [42, 27, 181, 0, 9, 42, 28, 181, 0, 18, 177]
abbrev dktX6_tell_0 : List UInt8 := dkwX6_tell_0 ++ []
theorem dksX6_tell_0 : cX6_tell.data.toList.drop 0 = dktX6_tell_0 := by decide +kernel
theorem dX6_tell_0 : decode cX6_tell 0 = .ok (.aload_n 0, 1) := dk_42 (dk_at dksX6_tell_0 0 rfl rfl)
theorem dX6_tell_1 : decode cX6_tell 1 = .ok (.iload_n 1, 1) := dk_27 (dk_at dksX6_tell_0 1 rfl rfl)
theorem dX6_tell_2 : decode cX6_tell 2 = .ok (.putfield 9, 3) := dk_181 0 9 (dk_at dksX6_tell_0 2 rfl rfl)
theorem dX6_tell_5 : decode cX6_tell 5 = .ok (.aload_n 0, 1) := dk_42 (dk_at dksX6_tell_0 5 rfl rfl)
theorem dX6_tell_6 : decode cX6_tell 6 = .ok (.iload_n 2, 1) := dk_28 (dk_at dksX6_tell_0 6 rfl rfl)
theorem dX6_tell_7 : decode cX6_tell 7 = .ok (.putfield 18, 3) := dk_181 0 18 (dk_at dksX6_tell_0 7 rfl rfl)
theorem dX6_tell_10 : decode cX6_tell 10 = .ok (.return_, 1) := dk_177 (dk_at dksX6_tell_0 10 rfl rfl)
abbrev cX6_become : ByteArray := prog_13_method_3_code
def yX6_become : MethodName := ⟨RX6, "become", "()Z"⟩
def dkwX6_become_1 : List UInt8 := [181, 0, 21, 42, 2, 181, 0, 9, 4, 172]
abbrev dktX6_become_1 : List UInt8 := dkwX6_become_1 ++ []
def dkwX6_become_0 : List UInt8 := [42, 180, 0, 9, 2, 160, 0, 5, 3, 172, 42, 42, 180, 0, 9, 181, 0, 15, 42, 42, 180, 0, 18]
abbrev dktX6_become_0 : List UInt8 := dkwX6_become_0 ++ dktX6_become_1
theorem dksX6_become_0 : cX6_become.data.toList.drop 0 = dktX6_become_0 := by decide +kernel
theorem dksX6_become_1 : cX6_become.data.toList.drop 23 = dktX6_become_1 := dk_seg dksX6_become_0 23 rfl rfl
theorem dX6_become_0 : decode cX6_become 0 = .ok (.aload_n 0, 1) := dk_42 (dk_at dksX6_become_0 0 rfl rfl)
theorem dX6_become_1 : decode cX6_become 1 = .ok (.getfield 9, 3) := dk_180 0 9 (dk_at dksX6_become_0 1 rfl rfl)
theorem dX6_become_4 : decode cX6_become 4 = .ok (.iconst (-1), 1) := dk_2 (dk_at dksX6_become_0 4 rfl rfl)
theorem dX6_become_5 : decode cX6_become 5 = .ok (.if_icmp .ne 5, 3) := dk_160 0 5 (dk_at dksX6_become_0 5 rfl rfl)
theorem dX6_become_8 : decode cX6_become 8 = .ok (.iconst 0, 1) := dk_3 (dk_at dksX6_become_0 8 rfl rfl)
theorem dX6_become_9 : decode cX6_become 9 = .ok (.ireturn, 1) := dk_172 (dk_at dksX6_become_0 9 rfl rfl)
theorem dX6_become_10 : decode cX6_become 10 = .ok (.aload_n 0, 1) := dk_42 (dk_at dksX6_become_0 10 rfl rfl)
theorem dX6_become_11 : decode cX6_become 11 = .ok (.aload_n 0, 1) := dk_42 (dk_at dksX6_become_0 11 rfl rfl)
theorem dX6_become_12 : decode cX6_become 12 = .ok (.getfield 9, 3) := dk_180 0 9 (dk_at dksX6_become_0 12 rfl rfl)
theorem dX6_become_15 : decode cX6_become 15 = .ok (.putfield 15, 3) := dk_181 0 15 (dk_at dksX6_become_0 15 rfl rfl)
theorem dX6_become_18 : decode cX6_become 18 = .ok (.aload_n 0, 1) := dk_42 (dk_at dksX6_become_0 18 rfl rfl)
theorem dX6_become_19 : decode cX6_become 19 = .ok (.aload_n 0, 1) := dk_42 (dk_at dksX6_become_0 19 rfl rfl)
theorem dX6_become_20 : decode cX6_become 20 = .ok (.getfield 18, 3) := dk_180 0 18 (dk_at dksX6_become_0 20 rfl rfl)
theorem dX6_become_23 : decode cX6_become 23 = .ok (.putfield 21, 3) := dk_181 0 21 (dk_at dksX6_become_1 0 rfl rfl)
theorem dX6_become_26 : decode cX6_become 26 = .ok (.aload_n 0, 1) := dk_42 (dk_at dksX6_become_1 3 rfl rfl)
theorem dX6_become_27 : decode cX6_become 27 = .ok (.iconst (-1), 1) := dk_2 (dk_at dksX6_become_1 4 rfl rfl)
theorem dX6_become_28 : decode cX6_become 28 = .ok (.putfield 9, 3) := dk_181 0 9 (dk_at dksX6_become_1 5 rfl rfl)
theorem dX6_become_31 : decode cX6_become 31 = .ok (.iconst 1, 1) := dk_4 (dk_at dksX6_become_1 8 rfl rfl)
theorem dX6_become_32 : decode cX6_become 32 = .ok (.ireturn, 1) := dk_172 (dk_at dksX6_become_1 9 rfl rfl)
theorem q82 : (Jvm.Cond.initialized "Publicanry$Rule") ∈ lw_all := lw_g (lw_at lw_m1 9 rfl) rfl
theorem q205 : (Jvm.Cond.instantiable "Publicanry$Rule" (6 : Nat)) ∈ lw_all := lw_g (lw_at lw_m1 132 rfl) rfl
theorem q220 : (Jvm.Cond.instanceMethod ({ cls := "Publicanry$Rule", name := "<init>", desc := "(I)V" } : Jvm.MethodName)) ∈ lw_all := lw_g (lw_at lw_m1 147 rfl) rfl
theorem q221 : (Jvm.Cond.code ({ cls := "Publicanry$Rule", name := "<init>", desc := "(I)V" } : Jvm.MethodName) prog_13_method_1_code (2 : Nat) (Option.none : Option Jvm.ClassFile.FieldType)) ∈ lw_all := lw_g (lw_at lw_m1 148 rfl) rfl
theorem q222 : (Jvm.Cond.methodLink "Publicanry$Rule" (3 : Nat) ({ cls := "java/lang/Object", name := "<init>", desc := "()V" } : Jvm.MethodName)) ∈ lw_all := lw_g (lw_at lw_m1 149 rfl) rfl
theorem q223 : (Jvm.Cond.fieldLink "Publicanry$Rule" (15 : Nat) "Publicanry$Rule" "rate" "I") ∈ lw_all := lw_g (lw_at lw_m1 150 rfl) rfl
theorem q227 : (Jvm.Cond.fieldLink "Publicanry$Rule" (21 : Nat) "Publicanry$Rule" "exempt" "I") ∈ lw_all := lw_g (lw_at lw_m1 154 rfl) rfl
theorem q229 : (Jvm.Cond.fieldLink "Publicanry$Rule" (9 : Nat) "Publicanry$Rule" "nextRate" "I") ∈ lw_all := lw_g (lw_at lw_m1 156 rfl) rfl
theorem q231 : (Jvm.Cond.fieldLink "Publicanry$Rule" (18 : Nat) "Publicanry$Rule" "nextExempt" "I") ∈ lw_all := lw_g (lw_at lw_m1 158 rfl) rfl
theorem q234 : (Jvm.Cond.lays "Publicanry$Rule" "Publicanry$Rule" "rate" "I") ∈ lw_all := lw_g (lw_at lw_m1 161 rfl) rfl
theorem q235 : (Jvm.Cond.soleField "Publicanry$Rule" "rate") ∈ lw_all := lw_g (lw_at lw_m1 162 rfl) rfl
theorem q236 : (Jvm.Cond.lays "Publicanry$Rule" "Publicanry$Rule" "exempt" "I") ∈ lw_all := lw_g (lw_at lw_m1 163 rfl) rfl
theorem q237 : (Jvm.Cond.soleField "Publicanry$Rule" "exempt") ∈ lw_all := lw_g (lw_at lw_m1 164 rfl) rfl
theorem q238 : (Jvm.Cond.lays "Publicanry$Rule" "Publicanry$Rule" "nextRate" "I") ∈ lw_all := lw_g (lw_at lw_m1 165 rfl) rfl
theorem q239 : (Jvm.Cond.soleField "Publicanry$Rule" "nextRate") ∈ lw_all := lw_g (lw_at lw_m1 166 rfl) rfl
theorem q240 : (Jvm.Cond.lays "Publicanry$Rule" "Publicanry$Rule" "nextExempt" "I") ∈ lw_all := lw_g (lw_at lw_m1 167 rfl) rfl
theorem q241 : (Jvm.Cond.soleField "Publicanry$Rule" "nextExempt") ∈ lw_all := lw_g (lw_at lw_m1 168 rfl) rfl
theorem q242 : (Jvm.Cond.lays "Publicanry$Rule" "Publicanry$Rule" "isByClerks" "Z") ∈ lw_all := lw_g (lw_at lw_m1 169 rfl) rfl
theorem q243 : (Jvm.Cond.soleField "Publicanry$Rule" "isByClerks") ∈ lw_all := lw_g (lw_at lw_m1 170 rfl) rfl
theorem q244 : (Jvm.Cond.lays "Publicanry$Rule" "Publicanry$Rule" "brought" "I") ∈ lw_all := lw_g (lw_at lw_m1 171 rfl) rfl
theorem q245 : (Jvm.Cond.soleField "Publicanry$Rule" "brought") ∈ lw_all := lw_g (lw_at lw_m1 172 rfl) rfl
theorem q246 : (Jvm.Cond.superclass "Publicanry$Rule" "java/lang/Object") ∈ lw_all := lw_g (lw_at lw_m1 173 rfl) rfl
theorem q467 : (Jvm.Cond.selects "Publicanry$Rule" ({ cls := "java/lang/Object", name := "notifyAll", desc := "()V" } : Jvm.MethodName) ({ cls := "java/lang/Object", name := "notifyAll", desc := "()V" } : Jvm.MethodName)) ∈ lw_all := lw_g (lw_at lw_m2 154 rfl) rfl
theorem q569 : (Jvm.Cond.selects "Publicanry$Rule" ({ cls := "java/lang/Object", name := "notify", desc := "()V" } : Jvm.MethodName) ({ cls := "java/lang/Object", name := "notify", desc := "()V" } : Jvm.MethodName)) ∈ lw_all := lw_g (lw_at lw_m3 16 rfl) rfl
theorem q886 : (Jvm.Cond.selects "Publicanry$Rule" ({ cls := "java/lang/Object", name := "getClass", desc := "()Ljava/lang/Class;" } : Jvm.MethodName) ({ cls := "java/lang/Object", name := "getClass", desc := "()Ljava/lang/Class;" } : Jvm.MethodName)) ∈ lw_all := lw_g (lw_at lw_m4 93 rfl) rfl
theorem q1093 : (Jvm.Cond.instanceMethod ({ cls := "Publicanry$Rule", name := "tell", desc := "(II)V" } : Jvm.MethodName)) ∈ lw_all := lw_g (lw_at lw_m5 60 rfl) rfl
theorem q1094 : (Jvm.Cond.selects "Publicanry$Rule" ({ cls := "Publicanry$Rule", name := "tell", desc := "(II)V" } : Jvm.MethodName) ({ cls := "Publicanry$Rule", name := "tell", desc := "(II)V" } : Jvm.MethodName)) ∈ lw_all := lw_g (lw_at lw_m5 61 rfl) rfl
theorem q1095 : (Jvm.Cond.code ({ cls := "Publicanry$Rule", name := "tell", desc := "(II)V" } : Jvm.MethodName) prog_13_method_2_code (3 : Nat) (Option.none : Option Jvm.ClassFile.FieldType)) ∈ lw_all := lw_g (lw_at lw_m5 62 rfl) rfl
theorem q1518 : (Jvm.Cond.instanceMethod ({ cls := "Publicanry$Rule", name := "become", desc := "()Z" } : Jvm.MethodName)) ∈ lw_all := lw_g (lw_at lw_m7 5 rfl) rfl
theorem q1519 : (Jvm.Cond.selects "Publicanry$Rule" ({ cls := "Publicanry$Rule", name := "become", desc := "()Z" } : Jvm.MethodName) ({ cls := "Publicanry$Rule", name := "become", desc := "()Z" } : Jvm.MethodName)) ∈ lw_all := lw_g (lw_at lw_m7 6 rfl) rfl
theorem q1520 : (Jvm.Cond.code ({ cls := "Publicanry$Rule", name := "become", desc := "()Z" } : Jvm.MethodName) prog_13_method_3_code (1 : Nat) (Option.some Jvm.ClassFile.FieldType.boolean)) ∈ lw_all := lw_g (lw_at lw_m7 7 rfl) rfl
theorem q2441 : (Jvm.Cond.selects "Publicanry$Rule" ({ cls := "java/lang/Object", name := "equals", desc := "(Ljava/lang/Object;)Z" } : Jvm.MethodName) ({ cls := "java/lang/Object", name := "equals", desc := "(Ljava/lang/Object;)Z" } : Jvm.MethodName)) ∈ lw_all := lw_g (lw_at lw_m10 208 rfl) rfl
theorem q2652 : (Jvm.Cond.castable "Publicanry$Rule" "java/lang/Object") ∈ lw_tbl := lw_at lw_m11 179 rfl
theorem in_X6 : ∀ w ∈ wsX60, w ∈ lw_all := lw_in wsX60 [234, 236, 238, 240, 242, 244] (by decide +kernel) (by decide +kernel)
/-! Publicanry$Duty -/
set_option maxRecDepth 100000
def RX7 : String := "Publicanry$Duty"
abbrev cX7_values : ByteArray := prog_4_method_1_code
def yX7_values : MethodName := ⟨RX7, "values", "()[LPublicanry$Duty;"⟩
def dkwX7_values_0 : List UInt8 := [178, 0, 13, 182, 0, 17, 192, 0, 18, 176]
abbrev dktX7_values_0 : List UInt8 := dkwX7_values_0 ++ []
theorem dksX7_values_0 : cX7_values.data.toList.drop 0 = dktX7_values_0 := by decide +kernel
theorem dX7_values_0 : decode cX7_values 0 = .ok (.getstatic 13, 3) := dk_178 0 13 (dk_at dksX7_values_0 0 rfl rfl)
theorem dX7_values_3 : decode cX7_values 3 = .ok (.invokevirtual 17, 3) := dk_182 0 17 (dk_at dksX7_values_0 3 rfl rfl)
theorem dX7_values_6 : decode cX7_values 6 = .ok (.checkcast 18, 3) := dk_192 0 18 (dk_at dksX7_values_0 6 rfl rfl)
theorem dX7_values_9 : decode cX7_values 9 = .ok (.areturn, 1) := dk_176 (dk_at dksX7_values_0 9 rfl rfl)
abbrev cX7_got : ByteArray := prog_4_method_7_code
def yX7_got : MethodName := ⟨RX7, "got", "(LPublicanry$Village;IZLPublicanry$Chest;LPublicanry$Chest;Z)I"⟩
def dkwX7_got_2 : List UInt8 := [153, 0, 15, 43, 28, 21, 7, 100, 25, 4, 25, 5, 182, 0, 58, 21, 8, 172]
abbrev dktX7_got_2 : List UInt8 := dkwX7_got_2 ++ []
def dkwX7_got_1 : List UInt8 := [54, 8, 21, 6, 154, 0, 6, 21, 8, 172, 43, 180, 0, 36, 25, 4, 21, 7, 182, 0, 54, 87, 29]
abbrev dktX7_got_1 : List UInt8 := dkwX7_got_1 ++ dktX7_got_2
def dkwX7_got_0 : List UInt8 := [43, 180, 0, 36, 182, 0, 42, 28, 184, 0, 48, 54, 7, 29, 153, 0, 7, 28, 167, 0, 5, 21, 7]
abbrev dktX7_got_0 : List UInt8 := dkwX7_got_0 ++ dktX7_got_1
theorem dksX7_got_0 : cX7_got.data.toList.drop 0 = dktX7_got_0 := by decide +kernel
theorem dksX7_got_1 : cX7_got.data.toList.drop 23 = dktX7_got_1 := dk_seg dksX7_got_0 23 rfl rfl
theorem dksX7_got_2 : cX7_got.data.toList.drop 46 = dktX7_got_2 := dk_seg dksX7_got_1 23 rfl rfl
theorem dX7_got_0 : decode cX7_got 0 = .ok (.aload_n 1, 1) := dk_43 (dk_at dksX7_got_0 0 rfl rfl)
theorem dX7_got_1 : decode cX7_got 1 = .ok (.getfield 36, 3) := dk_180 0 36 (dk_at dksX7_got_0 1 rfl rfl)
theorem dX7_got_4 : decode cX7_got 4 = .ok (.invokevirtual 42, 3) := dk_182 0 42 (dk_at dksX7_got_0 4 rfl rfl)
theorem dX7_got_7 : decode cX7_got 7 = .ok (.iload_n 2, 1) := dk_28 (dk_at dksX7_got_0 7 rfl rfl)
theorem dX7_got_8 : decode cX7_got 8 = .ok (.invokestatic 48, 3) := dk_184 0 48 (dk_at dksX7_got_0 8 rfl rfl)
theorem dX7_got_11 : decode cX7_got 11 = .ok (.istore 7, 2) := dk_54 7 (dk_at dksX7_got_0 11 rfl rfl)
theorem dX7_got_13 : decode cX7_got 13 = .ok (.iload_n 3, 1) := dk_29 (dk_at dksX7_got_0 13 rfl rfl)
theorem dX7_got_14 : decode cX7_got 14 = .ok (.ifCond .eq 7, 3) := dk_153 0 7 (dk_at dksX7_got_0 14 rfl rfl)
theorem dX7_got_17 : decode cX7_got 17 = .ok (.iload_n 2, 1) := dk_28 (dk_at dksX7_got_0 17 rfl rfl)
theorem dX7_got_18 : decode cX7_got 18 = .ok (.goto 5, 3) := dk_167 0 5 (dk_at dksX7_got_0 18 rfl rfl)
theorem dX7_got_21 : decode cX7_got 21 = .ok (.iload 7, 2) := dk_21 7 (dk_at dksX7_got_0 21 rfl rfl)
theorem dX7_got_23 : decode cX7_got 23 = .ok (.istore 8, 2) := dk_54 8 (dk_at dksX7_got_1 0 rfl rfl)
theorem dX7_got_25 : decode cX7_got 25 = .ok (.iload 6, 2) := dk_21 6 (dk_at dksX7_got_1 2 rfl rfl)
theorem dX7_got_27 : decode cX7_got 27 = .ok (.ifCond .ne 6, 3) := dk_154 0 6 (dk_at dksX7_got_1 4 rfl rfl)
theorem dX7_got_30 : decode cX7_got 30 = .ok (.iload 8, 2) := dk_21 8 (dk_at dksX7_got_1 7 rfl rfl)
theorem dX7_got_32 : decode cX7_got 32 = .ok (.ireturn, 1) := dk_172 (dk_at dksX7_got_1 9 rfl rfl)
theorem dX7_got_33 : decode cX7_got 33 = .ok (.aload_n 1, 1) := dk_43 (dk_at dksX7_got_1 10 rfl rfl)
theorem dX7_got_34 : decode cX7_got 34 = .ok (.getfield 36, 3) := dk_180 0 36 (dk_at dksX7_got_1 11 rfl rfl)
theorem dX7_got_37 : decode cX7_got 37 = .ok (.aload 4, 2) := dk_25 4 (dk_at dksX7_got_1 14 rfl rfl)
theorem dX7_got_39 : decode cX7_got 39 = .ok (.iload 7, 2) := dk_21 7 (dk_at dksX7_got_1 16 rfl rfl)
theorem dX7_got_41 : decode cX7_got 41 = .ok (.invokevirtual 54, 3) := dk_182 0 54 (dk_at dksX7_got_1 18 rfl rfl)
theorem dX7_got_44 : decode cX7_got 44 = .ok (.pop, 1) := dk_87 (dk_at dksX7_got_1 21 rfl rfl)
theorem dX7_got_45 : decode cX7_got 45 = .ok (.iload_n 3, 1) := dk_29 (dk_at dksX7_got_1 22 rfl rfl)
theorem dX7_got_46 : decode cX7_got 46 = .ok (.ifCond .eq 15, 3) := dk_153 0 15 (dk_at dksX7_got_2 0 rfl rfl)
theorem dX7_got_49 : decode cX7_got 49 = .ok (.aload_n 1, 1) := dk_43 (dk_at dksX7_got_2 3 rfl rfl)
theorem dX7_got_50 : decode cX7_got 50 = .ok (.iload_n 2, 1) := dk_28 (dk_at dksX7_got_2 4 rfl rfl)
theorem dX7_got_51 : decode cX7_got 51 = .ok (.iload 7, 2) := dk_21 7 (dk_at dksX7_got_2 5 rfl rfl)
theorem dX7_got_53 : decode cX7_got 53 = .ok (.isub, 1) := dk_100 (dk_at dksX7_got_2 7 rfl rfl)
theorem dX7_got_54 : decode cX7_got 54 = .ok (.aload 4, 2) := dk_25 4 (dk_at dksX7_got_2 8 rfl rfl)
theorem dX7_got_56 : decode cX7_got 56 = .ok (.aload 5, 2) := dk_25 5 (dk_at dksX7_got_2 10 rfl rfl)
theorem dX7_got_58 : decode cX7_got 58 = .ok (.invokevirtual 58, 3) := dk_182 0 58 (dk_at dksX7_got_2 12 rfl rfl)
theorem dX7_got_61 : decode cX7_got 61 = .ok (.iload 8, 2) := dk_21 8 (dk_at dksX7_got_2 15 rfl rfl)
theorem dX7_got_63 : decode cX7_got 63 = .ok (.ireturn, 1) := dk_172 (dk_at dksX7_got_2 17 rfl rfl)
abbrev cX7_worth : ByteArray := prog_4_method_6_code
def yX7_worth : MethodName := ⟨RX7, "worth", "(I)I"⟩
theorem dX7_worth_0 : decode cX7_worth 0 = .ok (.iload_n 1, 1) := by decide +kernel
theorem dX7_worth_1 : decode cX7_worth 1 = .ok (.ireturn, 1) := by decide +kernel
theorem q84 : (Jvm.Cond.initialized "Publicanry$Duty") ∈ lw_all := lw_g (lw_at lw_m1 11 rfl) rfl
theorem q207 : (Jvm.Cond.static ({ cls := "Publicanry$Duty", name := "values", desc := "()[LPublicanry$Duty;" } : Jvm.MethodName)) ∈ lw_all := lw_g (lw_at lw_m1 134 rfl) rfl
theorem q208 : (Jvm.Cond.code ({ cls := "Publicanry$Duty", name := "values", desc := "()[LPublicanry$Duty;" } : Jvm.MethodName) prog_4_method_1_code (0 : Nat) (Option.some (Jvm.ClassFile.FieldType.array (Jvm.ClassFile.FieldType.object "Publicanry$Duty")))) ∈ lw_all := lw_g (lw_at lw_m1 135 rfl) rfl
theorem q209 : (Jvm.Cond.fieldLink "Publicanry$Duty" (13 : Nat) "Publicanry$Duty" "$VALUES" "[LPublicanry$Duty;") ∈ lw_all := lw_g (lw_at lw_m1 136 rfl) rfl
theorem q210 : (Jvm.Cond.laysStatic "Publicanry$Duty" "$VALUES" "[LPublicanry$Duty;") ∈ lw_tbl := lw_at lw_m1 137 rfl
theorem q211 : (Jvm.Cond.methodLink "Publicanry$Duty" (17 : Nat) ({ cls := "[LPublicanry$Duty;", name := "clone", desc := "()Ljava/lang/Object;" } : Jvm.MethodName)) ∈ lw_all := lw_g (lw_at lw_m1 138 rfl) rfl
theorem q218 : (Jvm.Cond.classLink "Publicanry$Duty" (18 : Nat) "[LPublicanry$Duty;") ∈ lw_all := lw_g (lw_at lw_m1 145 rfl) rfl
theorem q596 : (Jvm.Cond.sameMethod "Publicanry$Duty" "java/lang/Enum" "ordinal" "()I") ∈ lw_all := lw_g (lw_at lw_m3 43 rfl) rfl
theorem q622 : (Jvm.Cond.declares ({ cls := "Publicanry$Duty", name := "due", desc := "(LPublicanry$Village;I)I" } : Jvm.MethodName)) ∈ lw_tbl := lw_at lw_m3 69 rfl
theorem q623 : (Jvm.Cond.sameMethod "Publicanry$Duty" "Publicanry$Duty" "due" "(LPublicanry$Village;I)I") ∈ lw_all := lw_g (lw_at lw_m3 70 rfl) rfl
theorem q645 : (Jvm.Cond.instanceMethod ({ cls := "Publicanry$Duty", name := "got", desc := "(LPublicanry$Village;IZLPublicanry$Chest;LPublicanry$Chest;Z)I" } : Jvm.MethodName)) ∈ lw_all := lw_g (lw_at lw_m3 92 rfl) rfl
theorem q646 : (Jvm.Cond.sameMethod "Publicanry$Duty" "Publicanry$Duty" "got" "(LPublicanry$Village;IZLPublicanry$Chest;LPublicanry$Chest;Z)I") ∈ lw_all := lw_g (lw_at lw_m3 93 rfl) rfl
theorem q654 : (Jvm.Cond.code ({ cls := "Publicanry$Duty", name := "got", desc := "(LPublicanry$Village;IZLPublicanry$Chest;LPublicanry$Chest;Z)I" } : Jvm.MethodName) prog_4_method_7_code (9 : Nat) (Option.some Jvm.ClassFile.FieldType.int)) ∈ lw_all := lw_g (lw_at lw_m3 101 rfl) rfl
theorem q655 : (Jvm.Cond.methodLink "Publicanry$Duty" (42 : Nat) ({ cls := "Publicanry$Chest", name := "coins", desc := "()I" } : Jvm.MethodName)) ∈ lw_all := lw_g (lw_at lw_m3 102 rfl) rfl
theorem q656 : (Jvm.Cond.methodLink "Publicanry$Duty" (48 : Nat) ({ cls := "java/lang/Math", name := "min", desc := "(II)I" } : Jvm.MethodName)) ∈ lw_all := lw_g (lw_at lw_m3 103 rfl) rfl
theorem q657 : (Jvm.Cond.methodLink "Publicanry$Duty" (54 : Nat) ({ cls := "Publicanry$Chest", name := "pay", desc := "(LPublicanry$Chest;I)I" } : Jvm.MethodName)) ∈ lw_all := lw_g (lw_at lw_m3 104 rfl) rfl
theorem q658 : (Jvm.Cond.methodLink "Publicanry$Duty" (58 : Nat) ({ cls := "Publicanry$Village", name := "borrow", desc := "(ILPublicanry$Chest;LPublicanry$Chest;)V" } : Jvm.MethodName)) ∈ lw_all := lw_g (lw_at lw_m3 105 rfl) rfl
theorem q664 : (Jvm.Cond.instanceMethod ({ cls := "Publicanry$Duty", name := "worth", desc := "(I)I" } : Jvm.MethodName)) ∈ lw_all := lw_g (lw_at lw_m3 111 rfl) rfl
theorem q665 : (Jvm.Cond.sameMethod "Publicanry$Duty" "Publicanry$Duty" "worth" "(I)I") ∈ lw_all := lw_g (lw_at lw_m3 112 rfl) rfl
theorem q671 : (Jvm.Cond.code ({ cls := "Publicanry$Duty", name := "worth", desc := "(I)I" } : Jvm.MethodName) prog_4_method_6_code (2 : Nat) (Option.some Jvm.ClassFile.FieldType.int)) ∈ lw_all := lw_g (lw_at lw_m3 118 rfl) rfl
theorem q924 : (Jvm.Cond.fieldLink "Publicanry$Duty" (36 : Nat) "Publicanry$Village" "chest" "LPublicanry$Chest;") ∈ lw_all := lw_g (lw_at lw_m4 131 rfl) rfl
theorem q1080 : (Jvm.Cond.declares ({ cls := "Publicanry$Duty", name := "mostRate", desc := "()I" } : Jvm.MethodName)) ∈ lw_tbl := lw_at lw_m5 47 rfl
theorem q1081 : (Jvm.Cond.sameMethod "Publicanry$Duty" "Publicanry$Duty" "mostRate" "()I") ∈ lw_all := lw_g (lw_at lw_m5 48 rfl) rfl
theorem q2653 : (Jvm.Cond.castable "Publicanry$Duty" "java/lang/Object") ∈ lw_tbl := lw_at lw_m11 180 rfl
theorem q2702 : (Jvm.Cond.laysStatic "Publicanry$Duty" "TENTH" "LPublicanry$Duty;") ∈ lw_tbl := lw_at lw_m11 229 rfl
theorem q2703 : (Jvm.Cond.laysStatic "Publicanry$Duty" "PASTURE" "LPublicanry$Duty;") ∈ lw_tbl := lw_at lw_m11 230 rfl
theorem q2704 : (Jvm.Cond.laysStatic "Publicanry$Duty" "HEARTH" "LPublicanry$Duty;") ∈ lw_tbl := lw_at lw_m11 231 rfl
/-! PublicanryLaw$Out -/
set_option maxRecDepth 100000
def RX9 : String := "PublicanryLaw$Out"
def TX9 : u_T := fun k => match k with
  | 0 => ("PublicanryLaw$Out", "n", "J", false)
  | 1 => ("PublicanryLaw$Out", "d", "D", false)
  | _ => ("PublicanryLaw$Out", "s", "Ljava/lang/String;", false)
def tyX9 : Nat → FieldType := fun k => match k with
  | 0 => .long
  | 1 => .double
  | _ => .object "java/lang/String"
abbrev wsX90 : List Cond := u_ws RX9 TX9 3
theorem nmX9 : ∀ a, a < 3 → ∀ b, b < 3 → a ≠ b → (TX9 a).2.1 ≠ (TX9 b).2.1 := by decide +kernel
theorem tyX9_ok : ∀ k, k < 3 → parseFieldDescriptor (TX9 k).2.2.1 = some (tyX9 k) := by decide +kernel
abbrev cX9_init : ByteArray := prog_18_method_1_code
def yX9_init : MethodName := ⟨RX9, "<init>", "()V"⟩
theorem dX9_init_0 : decode cX9_init 0 = .ok (.aload_n 0, 1) := by decide +kernel
theorem dX9_init_1 : decode cX9_init 1 = .ok (.invokespecial 1, 3) := by decide +kernel
theorem dX9_init_4 : decode cX9_init 4 = .ok (.return_, 1) := by decide +kernel
theorem q86 : (Jvm.Cond.initialized "PublicanryLaw$Out") ∈ lw_all := lw_g (lw_at lw_m1 13 rfl) rfl
theorem q471 : (Jvm.Cond.selects "PublicanryLaw$Out" ({ cls := "java/lang/Object", name := "notifyAll", desc := "()V" } : Jvm.MethodName) ({ cls := "java/lang/Object", name := "notifyAll", desc := "()V" } : Jvm.MethodName)) ∈ lw_all := lw_g (lw_at lw_m2 158 rfl) rfl
theorem q573 : (Jvm.Cond.selects "PublicanryLaw$Out" ({ cls := "java/lang/Object", name := "notify", desc := "()V" } : Jvm.MethodName) ({ cls := "java/lang/Object", name := "notify", desc := "()V" } : Jvm.MethodName)) ∈ lw_all := lw_g (lw_at lw_m3 20 rfl) rfl
theorem q766 : (Jvm.Cond.instantiable "PublicanryLaw$Out" (3 : Nat)) ∈ lw_all := lw_g (lw_at lw_m3 213 rfl) rfl
theorem q768 : (Jvm.Cond.instanceMethod ({ cls := "PublicanryLaw$Out", name := "<init>", desc := "()V" } : Jvm.MethodName)) ∈ lw_all := lw_g (lw_at lw_m3 215 rfl) rfl
theorem q769 : (Jvm.Cond.code ({ cls := "PublicanryLaw$Out", name := "<init>", desc := "()V" } : Jvm.MethodName) prog_18_method_1_code (1 : Nat) (Option.none : Option Jvm.ClassFile.FieldType)) ∈ lw_all := lw_g (lw_at lw_m3 216 rfl) rfl
theorem q770 : (Jvm.Cond.methodLink "PublicanryLaw$Out" (1 : Nat) ({ cls := "java/lang/Object", name := "<init>", desc := "()V" } : Jvm.MethodName)) ∈ lw_all := lw_g (lw_at lw_m3 217 rfl) rfl
theorem q774 : (Jvm.Cond.lays "PublicanryLaw$Out" "PublicanryLaw$Out" "n" "J") ∈ lw_all := lw_g (lw_at lw_m3 221 rfl) rfl
theorem q775 : (Jvm.Cond.soleField "PublicanryLaw$Out" "n") ∈ lw_all := lw_g (lw_at lw_m3 222 rfl) rfl
theorem q776 : (Jvm.Cond.lays "PublicanryLaw$Out" "PublicanryLaw$Out" "d" "D") ∈ lw_all := lw_g (lw_at lw_m3 223 rfl) rfl
theorem q777 : (Jvm.Cond.soleField "PublicanryLaw$Out" "d") ∈ lw_all := lw_g (lw_at lw_m3 224 rfl) rfl
theorem q778 : (Jvm.Cond.lays "PublicanryLaw$Out" "PublicanryLaw$Out" "s" "Ljava/lang/String;") ∈ lw_all := lw_g (lw_at lw_m3 225 rfl) rfl
theorem q779 : (Jvm.Cond.soleField "PublicanryLaw$Out" "s") ∈ lw_all := lw_g (lw_at lw_m3 226 rfl) rfl
theorem q780 : (Jvm.Cond.superclass "PublicanryLaw$Out" "java/lang/Object") ∈ lw_all := lw_g (lw_at lw_m3 227 rfl) rfl
theorem q890 : (Jvm.Cond.selects "PublicanryLaw$Out" ({ cls := "java/lang/Object", name := "getClass", desc := "()Ljava/lang/Class;" } : Jvm.MethodName) ({ cls := "java/lang/Object", name := "getClass", desc := "()Ljava/lang/Class;" } : Jvm.MethodName)) ∈ lw_all := lw_g (lw_at lw_m4 97 rfl) rfl
theorem q2445 : (Jvm.Cond.selects "PublicanryLaw$Out" ({ cls := "java/lang/Object", name := "equals", desc := "(Ljava/lang/Object;)Z" } : Jvm.MethodName) ({ cls := "java/lang/Object", name := "equals", desc := "(Ljava/lang/Object;)Z" } : Jvm.MethodName)) ∈ lw_all := lw_g (lw_at lw_m10 212 rfl) rfl
theorem q2664 : (Jvm.Cond.castable "PublicanryLaw$Out" "java/lang/Object") ∈ lw_tbl := lw_at lw_m11 191 rfl
theorem in_X9 : ∀ w ∈ wsX90, w ∈ lw_all := lw_in wsX90 [774, 776, 778] (by decide +kernel) (by decide +kernel)
/-! Publicanry$Village -/
set_option maxRecDepth 100000
def RX10 : String := "Publicanry$Village"
def TX10 : u_T := fun k => match k with
  | 0 => ("Publicanry$Village", "number", "I", true)
  | 1 => ("Publicanry$Village", "soil", "I", true)
  | 2 => ("Publicanry$Village", "chest", "LPublicanry$Chest;", true)
  | 3 => ("Publicanry$Village", "rates", "[I", true)
  | 4 => ("Publicanry$Village", "areExempt", "[Z", true)
  | 5 => ("Publicanry$Village", "levies", "Ljava/util/ArrayList;", true)
  | 6 => ("Publicanry$Village", "houses", "I", false)
  | 7 => ("Publicanry$Village", "fields", "I", false)
  | 8 => ("Publicanry$Village", "herd", "I", false)
  | 9 => ("Publicanry$Village", "grain", "I", false)
  | 10 => ("Publicanry$Village", "debt", "I", false)
  | 11 => ("Publicanry$Village", "unrest", "I", false)
  | 12 => ("Publicanry$Village", "register", "I", false)
  | 13 => ("Publicanry$Village", "yield", "I", false)
  | 14 => ("Publicanry$Village", "fled", "I", false)
  | 15 => ("Publicanry$Village", "law", "I", false)
  | 16 => ("Publicanry$Village", "isInRevolt", "Z", false)
  | _ => ("Publicanry$Village", "isBurnt", "Z", false)
def tyX10 : Nat → FieldType := fun k => match k with
  | 0 => .int
  | 1 => .int
  | 2 => .object "Publicanry$Chest"
  | 3 => .array .int
  | 4 => .array .boolean
  | 5 => .object "java/util/ArrayList"
  | 6 => .int
  | 7 => .int
  | 8 => .int
  | 9 => .int
  | 10 => .int
  | 11 => .int
  | 12 => .int
  | 13 => .int
  | 14 => .int
  | 15 => .int
  | 16 => .boolean
  | _ => .boolean
abbrev wsX100 : List Cond := u_ws RX10 TX10 18
set_option maxRecDepth 100000 in
theorem nmX10 : ∀ a, a < 18 → ∀ b, b < 18 → a ≠ b → (TX10 a).2.1 ≠ (TX10 b).2.1 := by decide +kernel
set_option maxRecDepth 100000 in
theorem tyX10_ok : ∀ k, k < 18 → parseFieldDescriptor (TX10 k).2.2.1 = some (tyX10 k) := by decide +kernel
abbrev cX10_shown : ByteArray := prog_15_method_11_code
def yX10_shown : MethodName := ⟨RX10, "shown", "(II)I"⟩
def dkwX10_shown_1 : List UInt8 := [108, 100, 172]
abbrev dktX10_shown_1 : List UInt8 := dkwX10_shown_1 ++ []
def dkwX10_shown_0 : List UInt8 := [27, 27, 16, 6, 42, 180, 0, 104, 7, 108, 96, 5, 28, 104, 100, 3, 16, 12, 184, 0, 107, 104, 16, 16]
abbrev dktX10_shown_0 : List UInt8 := dkwX10_shown_0 ++ dktX10_shown_1
theorem dksX10_shown_0 : cX10_shown.data.toList.drop 0 = dktX10_shown_0 := by decide +kernel
theorem dksX10_shown_1 : cX10_shown.data.toList.drop 24 = dktX10_shown_1 := dk_seg dksX10_shown_0 24 rfl rfl
theorem dX10_shown_0 : decode cX10_shown 0 = .ok (.iload_n 1, 1) := dk_27 (dk_at dksX10_shown_0 0 rfl rfl)
theorem dX10_shown_1 : decode cX10_shown 1 = .ok (.iload_n 1, 1) := dk_27 (dk_at dksX10_shown_0 1 rfl rfl)
theorem dX10_shown_2 : decode cX10_shown 2 = .ok (.bipush 6, 2) := dk_16 6 (dk_at dksX10_shown_0 2 rfl rfl)
theorem dX10_shown_4 : decode cX10_shown 4 = .ok (.aload_n 0, 1) := dk_42 (dk_at dksX10_shown_0 4 rfl rfl)
theorem dX10_shown_5 : decode cX10_shown 5 = .ok (.getfield 104, 3) := dk_180 0 104 (dk_at dksX10_shown_0 5 rfl rfl)
theorem dX10_shown_8 : decode cX10_shown 8 = .ok (.iconst 4, 1) := dk_7 (dk_at dksX10_shown_0 8 rfl rfl)
theorem dX10_shown_9 : decode cX10_shown 9 = .ok (.idiv, 1) := dk_108 (dk_at dksX10_shown_0 9 rfl rfl)
theorem dX10_shown_10 : decode cX10_shown 10 = .ok (.iadd, 1) := dk_96 (dk_at dksX10_shown_0 10 rfl rfl)
theorem dX10_shown_11 : decode cX10_shown 11 = .ok (.iconst 2, 1) := dk_5 (dk_at dksX10_shown_0 11 rfl rfl)
theorem dX10_shown_12 : decode cX10_shown 12 = .ok (.iload_n 2, 1) := dk_28 (dk_at dksX10_shown_0 12 rfl rfl)
theorem dX10_shown_13 : decode cX10_shown 13 = .ok (.imul, 1) := dk_104 (dk_at dksX10_shown_0 13 rfl rfl)
theorem dX10_shown_14 : decode cX10_shown 14 = .ok (.isub, 1) := dk_100 (dk_at dksX10_shown_0 14 rfl rfl)
theorem dX10_shown_15 : decode cX10_shown 15 = .ok (.iconst 0, 1) := dk_3 (dk_at dksX10_shown_0 15 rfl rfl)
theorem dX10_shown_16 : decode cX10_shown 16 = .ok (.bipush 12, 2) := dk_16 12 (dk_at dksX10_shown_0 16 rfl rfl)
theorem dX10_shown_18 : decode cX10_shown 18 = .ok (.invokestatic 107, 3) := dk_184 0 107 (dk_at dksX10_shown_0 18 rfl rfl)
theorem dX10_shown_21 : decode cX10_shown 21 = .ok (.imul, 1) := dk_104 (dk_at dksX10_shown_0 21 rfl rfl)
theorem dX10_shown_22 : decode cX10_shown 22 = .ok (.bipush 16, 2) := dk_16 16 (dk_at dksX10_shown_0 22 rfl rfl)
theorem dX10_shown_24 : decode cX10_shown 24 = .ok (.idiv, 1) := dk_108 (dk_at dksX10_shown_1 0 rfl rfl)
theorem dX10_shown_25 : decode cX10_shown 25 = .ok (.isub, 1) := dk_100 (dk_at dksX10_shown_1 1 rfl rfl)
theorem dX10_shown_26 : decode cX10_shown 26 = .ok (.ireturn, 1) := dk_172 (dk_at dksX10_shown_1 2 rfl rfl)
abbrev cX10_borrow : ByteArray := prog_15_method_5_code
def yX10_borrow : MethodName := ⟨RX10, "borrow", "(ILPublicanry$Chest;LPublicanry$Chest;)V"⟩
def dkwX10_borrow_0 : List UInt8 := [42, 89, 180, 0, 97, 27, 96, 181, 0, 97, 45, 44, 27, 182, 0, 100, 87, 177]
abbrev dktX10_borrow_0 : List UInt8 := dkwX10_borrow_0 ++ []
theorem dksX10_borrow_0 : cX10_borrow.data.toList.drop 0 = dktX10_borrow_0 := by decide +kernel
theorem dX10_borrow_0 : decode cX10_borrow 0 = .ok (.aload_n 0, 1) := dk_42 (dk_at dksX10_borrow_0 0 rfl rfl)
theorem dX10_borrow_1 : decode cX10_borrow 1 = .ok (.dup, 1) := dk_89 (dk_at dksX10_borrow_0 1 rfl rfl)
theorem dX10_borrow_2 : decode cX10_borrow 2 = .ok (.getfield 97, 3) := dk_180 0 97 (dk_at dksX10_borrow_0 2 rfl rfl)
theorem dX10_borrow_5 : decode cX10_borrow 5 = .ok (.iload_n 1, 1) := dk_27 (dk_at dksX10_borrow_0 5 rfl rfl)
theorem dX10_borrow_6 : decode cX10_borrow 6 = .ok (.iadd, 1) := dk_96 (dk_at dksX10_borrow_0 6 rfl rfl)
theorem dX10_borrow_7 : decode cX10_borrow 7 = .ok (.putfield 97, 3) := dk_181 0 97 (dk_at dksX10_borrow_0 7 rfl rfl)
theorem dX10_borrow_10 : decode cX10_borrow 10 = .ok (.aload_n 3, 1) := dk_45 (dk_at dksX10_borrow_0 10 rfl rfl)
theorem dX10_borrow_11 : decode cX10_borrow 11 = .ok (.aload_n 2, 1) := dk_44 (dk_at dksX10_borrow_0 11 rfl rfl)
theorem dX10_borrow_12 : decode cX10_borrow 12 = .ok (.iload_n 1, 1) := dk_27 (dk_at dksX10_borrow_0 12 rfl rfl)
theorem dX10_borrow_13 : decode cX10_borrow 13 = .ok (.invokevirtual 100, 3) := dk_182 0 100 (dk_at dksX10_borrow_0 13 rfl rfl)
theorem dX10_borrow_16 : decode cX10_borrow 16 = .ok (.pop, 1) := dk_87 (dk_at dksX10_borrow_0 16 rfl rfl)
theorem dX10_borrow_17 : decode cX10_borrow 17 = .ok (.return_, 1) := dk_177 (dk_at dksX10_borrow_0 17 rfl rfl)
abbrev cX10_due : ByteArray := prog_15_method_10_code
def yX10_due : MethodName := ⟨RX10, "due", "(LPublicanry$Duty;)I"⟩
def dkwX10_due_1 : List UInt8 := [182, 0, 131, 46, 182, 0, 136, 172]
abbrev dktX10_due_1 : List UInt8 := dkwX10_due_1 ++ []
def dkwX10_due_0 : List UInt8 := [42, 180, 0, 22, 43, 182, 0, 131, 51, 153, 0, 7, 3, 167, 0, 17, 43, 42, 42, 180, 0, 18, 43]
abbrev dktX10_due_0 : List UInt8 := dkwX10_due_0 ++ dktX10_due_1
theorem dksX10_due_0 : cX10_due.data.toList.drop 0 = dktX10_due_0 := by decide +kernel
theorem dksX10_due_1 : cX10_due.data.toList.drop 23 = dktX10_due_1 := dk_seg dksX10_due_0 23 rfl rfl
theorem dX10_due_0 : decode cX10_due 0 = .ok (.aload_n 0, 1) := dk_42 (dk_at dksX10_due_0 0 rfl rfl)
theorem dX10_due_1 : decode cX10_due 1 = .ok (.getfield 22, 3) := dk_180 0 22 (dk_at dksX10_due_0 1 rfl rfl)
theorem dX10_due_4 : decode cX10_due 4 = .ok (.aload_n 1, 1) := dk_43 (dk_at dksX10_due_0 4 rfl rfl)
theorem dX10_due_5 : decode cX10_due 5 = .ok (.invokevirtual 131, 3) := dk_182 0 131 (dk_at dksX10_due_0 5 rfl rfl)
theorem dX10_due_8 : decode cX10_due 8 = .ok (.baload, 1) := dk_51 (dk_at dksX10_due_0 8 rfl rfl)
theorem dX10_due_9 : decode cX10_due 9 = .ok (.ifCond .eq 7, 3) := dk_153 0 7 (dk_at dksX10_due_0 9 rfl rfl)
theorem dX10_due_12 : decode cX10_due 12 = .ok (.iconst 0, 1) := dk_3 (dk_at dksX10_due_0 12 rfl rfl)
theorem dX10_due_13 : decode cX10_due 13 = .ok (.goto 17, 3) := dk_167 0 17 (dk_at dksX10_due_0 13 rfl rfl)
theorem dX10_due_16 : decode cX10_due 16 = .ok (.aload_n 1, 1) := dk_43 (dk_at dksX10_due_0 16 rfl rfl)
theorem dX10_due_17 : decode cX10_due 17 = .ok (.aload_n 0, 1) := dk_42 (dk_at dksX10_due_0 17 rfl rfl)
theorem dX10_due_18 : decode cX10_due 18 = .ok (.aload_n 0, 1) := dk_42 (dk_at dksX10_due_0 18 rfl rfl)
theorem dX10_due_19 : decode cX10_due 19 = .ok (.getfield 18, 3) := dk_180 0 18 (dk_at dksX10_due_0 19 rfl rfl)
theorem dX10_due_22 : decode cX10_due 22 = .ok (.aload_n 1, 1) := dk_43 (dk_at dksX10_due_0 22 rfl rfl)
theorem dX10_due_23 : decode cX10_due 23 = .ok (.invokevirtual 131, 3) := dk_182 0 131 (dk_at dksX10_due_1 0 rfl rfl)
theorem dX10_due_26 : decode cX10_due 26 = .ok (.iaload, 1) := dk_46 (dk_at dksX10_due_1 3 rfl rfl)
theorem dX10_due_27 : decode cX10_due 27 = .ok (.invokevirtual 136, 3) := dk_182 0 136 (dk_at dksX10_due_1 4 rfl rfl)
theorem dX10_due_30 : decode cX10_due 30 = .ok (.ireturn, 1) := dk_172 (dk_at dksX10_due_1 7 rfl rfl)
abbrev cX10_init : ByteArray := prog_15_method_1_code
def yX10_init : MethodName := ⟨RX10, "<init>", "(IIIII)V"⟩
def dkwX10_init_4 : List UInt8 := [182, 0, 61, 87, 132, 6, 1, 167, 255, 236, 177]
abbrev dktX10_init_4 : List UInt8 := dkwX10_init_4 ++ []
def dkwX10_init_3 : List UInt8 := [181, 0, 49, 42, 29, 181, 0, 52, 3, 54, 6, 21, 6, 6, 162, 0, 20, 42, 180, 0, 29, 184, 0, 55]
abbrev dktX10_init_3 : List UInt8 := dkwX10_init_3 ++ dktX10_init_4
def dkwX10_init_2 : List UInt8 := [181, 0, 37, 42, 29, 181, 0, 40, 42, 21, 4, 181, 0, 43, 42, 21, 5, 181, 0, 46, 42, 7, 28, 104]
abbrev dktX10_init_2 : List UInt8 := dkwX10_init_2 ++ dktX10_init_3
def dkwX10_init_1 : List UInt8 := [188, 4, 181, 0, 22, 42, 187, 0, 26, 89, 183, 0, 28, 181, 0, 29, 42, 27, 181, 0, 33, 42, 28]
abbrev dktX10_init_1 : List UInt8 := dkwX10_init_1 ++ dktX10_init_2
def dkwX10_init_0 : List UInt8 := [42, 183, 0, 3, 42, 187, 0, 9, 89, 183, 0, 11, 181, 0, 12, 42, 6, 188, 10, 181, 0, 18, 42, 6]
abbrev dktX10_init_0 : List UInt8 := dkwX10_init_0 ++ dktX10_init_1
theorem dksX10_init_0 : cX10_init.data.toList.drop 0 = dktX10_init_0 := by decide +kernel
theorem dksX10_init_1 : cX10_init.data.toList.drop 24 = dktX10_init_1 := dk_seg dksX10_init_0 24 rfl rfl
theorem dksX10_init_2 : cX10_init.data.toList.drop 47 = dktX10_init_2 := dk_seg dksX10_init_1 23 rfl rfl
theorem dksX10_init_3 : cX10_init.data.toList.drop 71 = dktX10_init_3 := dk_seg dksX10_init_2 24 rfl rfl
theorem dksX10_init_4 : cX10_init.data.toList.drop 95 = dktX10_init_4 := dk_seg dksX10_init_3 24 rfl rfl
theorem dX10_init_0 : decode cX10_init 0 = .ok (.aload_n 0, 1) := dk_42 (dk_at dksX10_init_0 0 rfl rfl)
theorem dX10_init_1 : decode cX10_init 1 = .ok (.invokespecial 3, 3) := dk_183 0 3 (dk_at dksX10_init_0 1 rfl rfl)
theorem dX10_init_4 : decode cX10_init 4 = .ok (.aload_n 0, 1) := dk_42 (dk_at dksX10_init_0 4 rfl rfl)
theorem dX10_init_5 : decode cX10_init 5 = .ok (.new 9, 3) := dk_187 0 9 (dk_at dksX10_init_0 5 rfl rfl)
theorem dX10_init_8 : decode cX10_init 8 = .ok (.dup, 1) := dk_89 (dk_at dksX10_init_0 8 rfl rfl)
theorem dX10_init_9 : decode cX10_init 9 = .ok (.invokespecial 11, 3) := dk_183 0 11 (dk_at dksX10_init_0 9 rfl rfl)
theorem dX10_init_12 : decode cX10_init 12 = .ok (.putfield 12, 3) := dk_181 0 12 (dk_at dksX10_init_0 12 rfl rfl)
theorem dX10_init_15 : decode cX10_init 15 = .ok (.aload_n 0, 1) := dk_42 (dk_at dksX10_init_0 15 rfl rfl)
theorem dX10_init_16 : decode cX10_init 16 = .ok (.iconst 3, 1) := dk_6 (dk_at dksX10_init_0 16 rfl rfl)
theorem dX10_init_17 : decode cX10_init 17 = .ok (.newarray .int, 2) := dk_188_10 (dk_at dksX10_init_0 17 rfl rfl)
theorem dX10_init_19 : decode cX10_init 19 = .ok (.putfield 18, 3) := dk_181 0 18 (dk_at dksX10_init_0 19 rfl rfl)
theorem dX10_init_22 : decode cX10_init 22 = .ok (.aload_n 0, 1) := dk_42 (dk_at dksX10_init_0 22 rfl rfl)
theorem dX10_init_23 : decode cX10_init 23 = .ok (.iconst 3, 1) := dk_6 (dk_at dksX10_init_0 23 rfl rfl)
theorem dX10_init_24 : decode cX10_init 24 = .ok (.newarray .boolean, 2) := dk_188_4 (dk_at dksX10_init_1 0 rfl rfl)
theorem dX10_init_26 : decode cX10_init 26 = .ok (.putfield 22, 3) := dk_181 0 22 (dk_at dksX10_init_1 2 rfl rfl)
theorem dX10_init_29 : decode cX10_init 29 = .ok (.aload_n 0, 1) := dk_42 (dk_at dksX10_init_1 5 rfl rfl)
theorem dX10_init_30 : decode cX10_init 30 = .ok (.new 26, 3) := dk_187 0 26 (dk_at dksX10_init_1 6 rfl rfl)
theorem dX10_init_33 : decode cX10_init 33 = .ok (.dup, 1) := dk_89 (dk_at dksX10_init_1 9 rfl rfl)
theorem dX10_init_34 : decode cX10_init 34 = .ok (.invokespecial 28, 3) := dk_183 0 28 (dk_at dksX10_init_1 10 rfl rfl)
theorem dX10_init_37 : decode cX10_init 37 = .ok (.putfield 29, 3) := dk_181 0 29 (dk_at dksX10_init_1 13 rfl rfl)
theorem dX10_init_40 : decode cX10_init 40 = .ok (.aload_n 0, 1) := dk_42 (dk_at dksX10_init_1 16 rfl rfl)
theorem dX10_init_41 : decode cX10_init 41 = .ok (.iload_n 1, 1) := dk_27 (dk_at dksX10_init_1 17 rfl rfl)
theorem dX10_init_42 : decode cX10_init 42 = .ok (.putfield 33, 3) := dk_181 0 33 (dk_at dksX10_init_1 18 rfl rfl)
theorem dX10_init_45 : decode cX10_init 45 = .ok (.aload_n 0, 1) := dk_42 (dk_at dksX10_init_1 21 rfl rfl)
theorem dX10_init_46 : decode cX10_init 46 = .ok (.iload_n 2, 1) := dk_28 (dk_at dksX10_init_1 22 rfl rfl)
theorem dX10_init_47 : decode cX10_init 47 = .ok (.putfield 37, 3) := dk_181 0 37 (dk_at dksX10_init_2 0 rfl rfl)
theorem dX10_init_50 : decode cX10_init 50 = .ok (.aload_n 0, 1) := dk_42 (dk_at dksX10_init_2 3 rfl rfl)
theorem dX10_init_51 : decode cX10_init 51 = .ok (.iload_n 3, 1) := dk_29 (dk_at dksX10_init_2 4 rfl rfl)
theorem dX10_init_52 : decode cX10_init 52 = .ok (.putfield 40, 3) := dk_181 0 40 (dk_at dksX10_init_2 5 rfl rfl)
theorem dX10_init_55 : decode cX10_init 55 = .ok (.aload_n 0, 1) := dk_42 (dk_at dksX10_init_2 8 rfl rfl)
theorem dX10_init_56 : decode cX10_init 56 = .ok (.iload 4, 2) := dk_21 4 (dk_at dksX10_init_2 9 rfl rfl)
theorem dX10_init_58 : decode cX10_init 58 = .ok (.putfield 43, 3) := dk_181 0 43 (dk_at dksX10_init_2 11 rfl rfl)
theorem dX10_init_61 : decode cX10_init 61 = .ok (.aload_n 0, 1) := dk_42 (dk_at dksX10_init_2 14 rfl rfl)
theorem dX10_init_62 : decode cX10_init 62 = .ok (.iload 5, 2) := dk_21 5 (dk_at dksX10_init_2 15 rfl rfl)
theorem dX10_init_64 : decode cX10_init 64 = .ok (.putfield 46, 3) := dk_181 0 46 (dk_at dksX10_init_2 17 rfl rfl)
theorem dX10_init_67 : decode cX10_init 67 = .ok (.aload_n 0, 1) := dk_42 (dk_at dksX10_init_2 20 rfl rfl)
theorem dX10_init_68 : decode cX10_init 68 = .ok (.iconst 4, 1) := dk_7 (dk_at dksX10_init_2 21 rfl rfl)
theorem dX10_init_69 : decode cX10_init 69 = .ok (.iload_n 2, 1) := dk_28 (dk_at dksX10_init_2 22 rfl rfl)
theorem dX10_init_70 : decode cX10_init 70 = .ok (.imul, 1) := dk_104 (dk_at dksX10_init_2 23 rfl rfl)
theorem dX10_init_71 : decode cX10_init 71 = .ok (.putfield 49, 3) := dk_181 0 49 (dk_at dksX10_init_3 0 rfl rfl)
theorem dX10_init_74 : decode cX10_init 74 = .ok (.aload_n 0, 1) := dk_42 (dk_at dksX10_init_3 3 rfl rfl)
theorem dX10_init_75 : decode cX10_init 75 = .ok (.iload_n 3, 1) := dk_29 (dk_at dksX10_init_3 4 rfl rfl)
theorem dX10_init_76 : decode cX10_init 76 = .ok (.putfield 52, 3) := dk_181 0 52 (dk_at dksX10_init_3 5 rfl rfl)
theorem dX10_init_79 : decode cX10_init 79 = .ok (.iconst 0, 1) := dk_3 (dk_at dksX10_init_3 8 rfl rfl)
theorem dX10_init_80 : decode cX10_init 80 = .ok (.istore 6, 2) := dk_54 6 (dk_at dksX10_init_3 9 rfl rfl)
theorem dX10_init_82 : decode cX10_init 82 = .ok (.iload 6, 2) := dk_21 6 (dk_at dksX10_init_3 11 rfl rfl)
theorem dX10_init_84 : decode cX10_init 84 = .ok (.iconst 3, 1) := dk_6 (dk_at dksX10_init_3 13 rfl rfl)
theorem dX10_init_85 : decode cX10_init 85 = .ok (.if_icmp .ge 20, 3) := dk_162 0 20 (dk_at dksX10_init_3 14 rfl rfl)
theorem dX10_init_88 : decode cX10_init 88 = .ok (.aload_n 0, 1) := dk_42 (dk_at dksX10_init_3 17 rfl rfl)
theorem dX10_init_89 : decode cX10_init 89 = .ok (.getfield 29, 3) := dk_180 0 29 (dk_at dksX10_init_3 18 rfl rfl)
theorem dX10_init_92 : decode cX10_init 92 = .ok (.invokestatic 55, 3) := dk_184 0 55 (dk_at dksX10_init_3 21 rfl rfl)
theorem dX10_init_95 : decode cX10_init 95 = .ok (.invokevirtual 61, 3) := dk_182 0 61 (dk_at dksX10_init_4 0 rfl rfl)
theorem dX10_init_98 : decode cX10_init 98 = .ok (.pop, 1) := dk_87 (dk_at dksX10_init_4 3 rfl rfl)
theorem dX10_init_99 : decode cX10_init 99 = .ok (.iinc 6 1, 3) := dk_132 6 1 (dk_at dksX10_init_4 4 rfl rfl)
theorem dX10_init_102 : decode cX10_init 102 = .ok (.goto (-20), 3) := dk_167 255 236 (dk_at dksX10_init_4 7 rfl rfl)
theorem dX10_init_105 : decode cX10_init 105 = .ok (.return_, 1) := dk_177 (dk_at dksX10_init_4 10 rfl rfl)
abbrev cX10_cut : ByteArray := prog_15_method_2_code
def yX10_cut : MethodName := ⟨RX10, "cut", "([LPublicanry$Rule;I)V"⟩
def dkwX10_cut_2 : List UInt8 := [181, 0, 77, 177]
abbrev dktX10_cut_2 : List UInt8 := dkwX10_cut_2 ++ []
def dkwX10_cut_1 : List UInt8 := [43, 29, 50, 180, 0, 70, 42, 180, 0, 33, 184, 0, 73, 84, 132, 3, 1, 167, 255, 217, 42, 28]
abbrev dktX10_cut_1 : List UInt8 := dkwX10_cut_1 ++ dktX10_cut_2
def dkwX10_cut_0 : List UInt8 := [3, 62, 29, 6, 162, 0, 40, 42, 180, 0, 18, 29, 43, 29, 50, 180, 0, 65, 79, 42, 180, 0, 22, 29]
abbrev dktX10_cut_0 : List UInt8 := dkwX10_cut_0 ++ dktX10_cut_1
theorem dksX10_cut_0 : cX10_cut.data.toList.drop 0 = dktX10_cut_0 := by decide +kernel
theorem dksX10_cut_1 : cX10_cut.data.toList.drop 24 = dktX10_cut_1 := dk_seg dksX10_cut_0 24 rfl rfl
theorem dksX10_cut_2 : cX10_cut.data.toList.drop 46 = dktX10_cut_2 := dk_seg dksX10_cut_1 22 rfl rfl
theorem dX10_cut_0 : decode cX10_cut 0 = .ok (.iconst 0, 1) := dk_3 (dk_at dksX10_cut_0 0 rfl rfl)
theorem dX10_cut_1 : decode cX10_cut 1 = .ok (.istore_n 3, 1) := dk_62 (dk_at dksX10_cut_0 1 rfl rfl)
theorem dX10_cut_2 : decode cX10_cut 2 = .ok (.iload_n 3, 1) := dk_29 (dk_at dksX10_cut_0 2 rfl rfl)
theorem dX10_cut_3 : decode cX10_cut 3 = .ok (.iconst 3, 1) := dk_6 (dk_at dksX10_cut_0 3 rfl rfl)
theorem dX10_cut_4 : decode cX10_cut 4 = .ok (.if_icmp .ge 40, 3) := dk_162 0 40 (dk_at dksX10_cut_0 4 rfl rfl)
theorem dX10_cut_7 : decode cX10_cut 7 = .ok (.aload_n 0, 1) := dk_42 (dk_at dksX10_cut_0 7 rfl rfl)
theorem dX10_cut_8 : decode cX10_cut 8 = .ok (.getfield 18, 3) := dk_180 0 18 (dk_at dksX10_cut_0 8 rfl rfl)
theorem dX10_cut_11 : decode cX10_cut 11 = .ok (.iload_n 3, 1) := dk_29 (dk_at dksX10_cut_0 11 rfl rfl)
theorem dX10_cut_12 : decode cX10_cut 12 = .ok (.aload_n 1, 1) := dk_43 (dk_at dksX10_cut_0 12 rfl rfl)
theorem dX10_cut_13 : decode cX10_cut 13 = .ok (.iload_n 3, 1) := dk_29 (dk_at dksX10_cut_0 13 rfl rfl)
theorem dX10_cut_14 : decode cX10_cut 14 = .ok (.aaload, 1) := dk_50 (dk_at dksX10_cut_0 14 rfl rfl)
theorem dX10_cut_15 : decode cX10_cut 15 = .ok (.getfield 65, 3) := dk_180 0 65 (dk_at dksX10_cut_0 15 rfl rfl)
theorem dX10_cut_18 : decode cX10_cut 18 = .ok (.iastore, 1) := dk_79 (dk_at dksX10_cut_0 18 rfl rfl)
theorem dX10_cut_19 : decode cX10_cut 19 = .ok (.aload_n 0, 1) := dk_42 (dk_at dksX10_cut_0 19 rfl rfl)
theorem dX10_cut_20 : decode cX10_cut 20 = .ok (.getfield 22, 3) := dk_180 0 22 (dk_at dksX10_cut_0 20 rfl rfl)
theorem dX10_cut_23 : decode cX10_cut 23 = .ok (.iload_n 3, 1) := dk_29 (dk_at dksX10_cut_0 23 rfl rfl)
theorem dX10_cut_24 : decode cX10_cut 24 = .ok (.aload_n 1, 1) := dk_43 (dk_at dksX10_cut_1 0 rfl rfl)
theorem dX10_cut_25 : decode cX10_cut 25 = .ok (.iload_n 3, 1) := dk_29 (dk_at dksX10_cut_1 1 rfl rfl)
theorem dX10_cut_26 : decode cX10_cut 26 = .ok (.aaload, 1) := dk_50 (dk_at dksX10_cut_1 2 rfl rfl)
theorem dX10_cut_27 : decode cX10_cut 27 = .ok (.getfield 70, 3) := dk_180 0 70 (dk_at dksX10_cut_1 3 rfl rfl)
theorem dX10_cut_30 : decode cX10_cut 30 = .ok (.aload_n 0, 1) := dk_42 (dk_at dksX10_cut_1 6 rfl rfl)
theorem dX10_cut_31 : decode cX10_cut 31 = .ok (.getfield 33, 3) := dk_180 0 33 (dk_at dksX10_cut_1 7 rfl rfl)
theorem dX10_cut_34 : decode cX10_cut 34 = .ok (.invokestatic 73, 3) := dk_184 0 73 (dk_at dksX10_cut_1 10 rfl rfl)
theorem dX10_cut_37 : decode cX10_cut 37 = .ok (.bastore, 1) := dk_84 (dk_at dksX10_cut_1 13 rfl rfl)
theorem dX10_cut_38 : decode cX10_cut 38 = .ok (.iinc 3 1, 3) := dk_132 3 1 (dk_at dksX10_cut_1 14 rfl rfl)
theorem dX10_cut_41 : decode cX10_cut 41 = .ok (.goto (-39), 3) := dk_167 255 217 (dk_at dksX10_cut_1 17 rfl rfl)
theorem dX10_cut_44 : decode cX10_cut 44 = .ok (.aload_n 0, 1) := dk_42 (dk_at dksX10_cut_1 20 rfl rfl)
theorem dX10_cut_45 : decode cX10_cut 45 = .ok (.iload_n 2, 1) := dk_28 (dk_at dksX10_cut_1 21 rfl rfl)
theorem dX10_cut_46 : decode cX10_cut 46 = .ok (.putfield 77, 3) := dk_181 0 77 (dk_at dksX10_cut_2 0 rfl rfl)
theorem dX10_cut_49 : decode cX10_cut 49 = .ok (.return_, 1) := dk_177 (dk_at dksX10_cut_2 3 rfl rfl)
abbrev cX10_stir : ByteArray := prog_15_method_6_code
def yX10_stir : MethodName := ⟨RX10, "stir", "(I)V"⟩
def dkwX10_stir_0 : List UInt8 := [42, 42, 180, 0, 104, 27, 96, 3, 16, 20, 184, 0, 107, 181, 0, 104, 177]
abbrev dktX10_stir_0 : List UInt8 := dkwX10_stir_0 ++ []
theorem dksX10_stir_0 : cX10_stir.data.toList.drop 0 = dktX10_stir_0 := by decide +kernel
theorem dX10_stir_0 : decode cX10_stir 0 = .ok (.aload_n 0, 1) := dk_42 (dk_at dksX10_stir_0 0 rfl rfl)
theorem dX10_stir_1 : decode cX10_stir 1 = .ok (.aload_n 0, 1) := dk_42 (dk_at dksX10_stir_0 1 rfl rfl)
theorem dX10_stir_2 : decode cX10_stir 2 = .ok (.getfield 104, 3) := dk_180 0 104 (dk_at dksX10_stir_0 2 rfl rfl)
theorem dX10_stir_5 : decode cX10_stir 5 = .ok (.iload_n 1, 1) := dk_27 (dk_at dksX10_stir_0 5 rfl rfl)
theorem dX10_stir_6 : decode cX10_stir 6 = .ok (.iadd, 1) := dk_96 (dk_at dksX10_stir_0 6 rfl rfl)
theorem dX10_stir_7 : decode cX10_stir 7 = .ok (.iconst 0, 1) := dk_3 (dk_at dksX10_stir_0 7 rfl rfl)
theorem dX10_stir_8 : decode cX10_stir 8 = .ok (.bipush 20, 2) := dk_16 20 (dk_at dksX10_stir_0 8 rfl rfl)
theorem dX10_stir_10 : decode cX10_stir 10 = .ok (.invokestatic 107, 3) := dk_184 0 107 (dk_at dksX10_stir_0 10 rfl rfl)
theorem dX10_stir_13 : decode cX10_stir 13 = .ok (.putfield 104, 3) := dk_181 0 104 (dk_at dksX10_stir_0 13 rfl rfl)
theorem dX10_stir_16 : decode cX10_stir 16 = .ok (.return_, 1) := dk_177 (dk_at dksX10_stir_0 16 rfl rfl)
abbrev cX10_reap : ByteArray := prog_15_method_4_code
def yX10_reap : MethodName := ⟨RX10, "reap", "(I)V"⟩
def dkwX10_reap_1 : List UInt8 := [17, 2, 88, 42, 180, 0, 43, 42, 180, 0, 43, 16, 10, 108, 96, 184, 0, 91, 181, 0, 43, 177]
abbrev dktX10_reap_1 : List UInt8 := dkwX10_reap_1 ++ []
def dkwX10_reap_0 : List UInt8 := [42, 42, 27, 182, 0, 84, 181, 0, 88, 42, 89, 180, 0, 49, 42, 180, 0, 88, 96, 181, 0, 49, 42]
abbrev dktX10_reap_0 : List UInt8 := dkwX10_reap_0 ++ dktX10_reap_1
theorem dksX10_reap_0 : cX10_reap.data.toList.drop 0 = dktX10_reap_0 := by decide +kernel
theorem dksX10_reap_1 : cX10_reap.data.toList.drop 23 = dktX10_reap_1 := dk_seg dksX10_reap_0 23 rfl rfl
theorem dX10_reap_0 : decode cX10_reap 0 = .ok (.aload_n 0, 1) := dk_42 (dk_at dksX10_reap_0 0 rfl rfl)
theorem dX10_reap_1 : decode cX10_reap 1 = .ok (.aload_n 0, 1) := dk_42 (dk_at dksX10_reap_0 1 rfl rfl)
theorem dX10_reap_2 : decode cX10_reap 2 = .ok (.iload_n 1, 1) := dk_27 (dk_at dksX10_reap_0 2 rfl rfl)
theorem dX10_reap_3 : decode cX10_reap 3 = .ok (.invokevirtual 84, 3) := dk_182 0 84 (dk_at dksX10_reap_0 3 rfl rfl)
theorem dX10_reap_6 : decode cX10_reap 6 = .ok (.putfield 88, 3) := dk_181 0 88 (dk_at dksX10_reap_0 6 rfl rfl)
theorem dX10_reap_9 : decode cX10_reap 9 = .ok (.aload_n 0, 1) := dk_42 (dk_at dksX10_reap_0 9 rfl rfl)
theorem dX10_reap_10 : decode cX10_reap 10 = .ok (.dup, 1) := dk_89 (dk_at dksX10_reap_0 10 rfl rfl)
theorem dX10_reap_11 : decode cX10_reap 11 = .ok (.getfield 49, 3) := dk_180 0 49 (dk_at dksX10_reap_0 11 rfl rfl)
theorem dX10_reap_14 : decode cX10_reap 14 = .ok (.aload_n 0, 1) := dk_42 (dk_at dksX10_reap_0 14 rfl rfl)
theorem dX10_reap_15 : decode cX10_reap 15 = .ok (.getfield 88, 3) := dk_180 0 88 (dk_at dksX10_reap_0 15 rfl rfl)
theorem dX10_reap_18 : decode cX10_reap 18 = .ok (.iadd, 1) := dk_96 (dk_at dksX10_reap_0 18 rfl rfl)
theorem dX10_reap_19 : decode cX10_reap 19 = .ok (.putfield 49, 3) := dk_181 0 49 (dk_at dksX10_reap_0 19 rfl rfl)
theorem dX10_reap_22 : decode cX10_reap 22 = .ok (.aload_n 0, 1) := dk_42 (dk_at dksX10_reap_0 22 rfl rfl)
theorem dX10_reap_23 : decode cX10_reap 23 = .ok (.sipush 600, 3) := dk_17 2 88 (dk_at dksX10_reap_1 0 rfl rfl)
theorem dX10_reap_26 : decode cX10_reap 26 = .ok (.aload_n 0, 1) := dk_42 (dk_at dksX10_reap_1 3 rfl rfl)
theorem dX10_reap_27 : decode cX10_reap 27 = .ok (.getfield 43, 3) := dk_180 0 43 (dk_at dksX10_reap_1 4 rfl rfl)
theorem dX10_reap_30 : decode cX10_reap 30 = .ok (.aload_n 0, 1) := dk_42 (dk_at dksX10_reap_1 7 rfl rfl)
theorem dX10_reap_31 : decode cX10_reap 31 = .ok (.getfield 43, 3) := dk_180 0 43 (dk_at dksX10_reap_1 8 rfl rfl)
theorem dX10_reap_34 : decode cX10_reap 34 = .ok (.bipush 10, 2) := dk_16 10 (dk_at dksX10_reap_1 11 rfl rfl)
theorem dX10_reap_36 : decode cX10_reap 36 = .ok (.idiv, 1) := dk_108 (dk_at dksX10_reap_1 13 rfl rfl)
theorem dX10_reap_37 : decode cX10_reap 37 = .ok (.iadd, 1) := dk_96 (dk_at dksX10_reap_1 14 rfl rfl)
theorem dX10_reap_38 : decode cX10_reap 38 = .ok (.invokestatic 91, 3) := dk_184 0 91 (dk_at dksX10_reap_1 15 rfl rfl)
theorem dX10_reap_41 : decode cX10_reap 41 = .ok (.putfield 43, 3) := dk_181 0 43 (dk_at dksX10_reap_1 18 rfl rfl)
theorem dX10_reap_44 : decode cX10_reap 44 = .ok (.return_, 1) := dk_177 (dk_at dksX10_reap_1 21 rfl rfl)
abbrev cX10_harvest : ByteArray := prog_15_method_3_code
def yX10_harvest : MethodName := ⟨RX10, "harvest", "(I)I"⟩
def dkwX10_harvest_1 : List UInt8 := [28, 5, 108, 167, 0, 4, 28, 172]
abbrev dktX10_harvest_1 : List UInt8 := dkwX10_harvest_1 ++ []
def dkwX10_harvest_0 : List UInt8 := [42, 180, 0, 40, 42, 180, 0, 46, 104, 27, 5, 96, 104, 16, 60, 108, 61, 42, 180, 0, 80, 153, 0, 9]
abbrev dktX10_harvest_0 : List UInt8 := dkwX10_harvest_0 ++ dktX10_harvest_1
theorem dksX10_harvest_0 : cX10_harvest.data.toList.drop 0 = dktX10_harvest_0 := by decide +kernel
theorem dksX10_harvest_1 : cX10_harvest.data.toList.drop 24 = dktX10_harvest_1 := dk_seg dksX10_harvest_0 24 rfl rfl
theorem dX10_harvest_0 : decode cX10_harvest 0 = .ok (.aload_n 0, 1) := dk_42 (dk_at dksX10_harvest_0 0 rfl rfl)
theorem dX10_harvest_1 : decode cX10_harvest 1 = .ok (.getfield 40, 3) := dk_180 0 40 (dk_at dksX10_harvest_0 1 rfl rfl)
theorem dX10_harvest_4 : decode cX10_harvest 4 = .ok (.aload_n 0, 1) := dk_42 (dk_at dksX10_harvest_0 4 rfl rfl)
theorem dX10_harvest_5 : decode cX10_harvest 5 = .ok (.getfield 46, 3) := dk_180 0 46 (dk_at dksX10_harvest_0 5 rfl rfl)
theorem dX10_harvest_8 : decode cX10_harvest 8 = .ok (.imul, 1) := dk_104 (dk_at dksX10_harvest_0 8 rfl rfl)
theorem dX10_harvest_9 : decode cX10_harvest 9 = .ok (.iload_n 1, 1) := dk_27 (dk_at dksX10_harvest_0 9 rfl rfl)
theorem dX10_harvest_10 : decode cX10_harvest 10 = .ok (.iconst 2, 1) := dk_5 (dk_at dksX10_harvest_0 10 rfl rfl)
theorem dX10_harvest_11 : decode cX10_harvest 11 = .ok (.iadd, 1) := dk_96 (dk_at dksX10_harvest_0 11 rfl rfl)
theorem dX10_harvest_12 : decode cX10_harvest 12 = .ok (.imul, 1) := dk_104 (dk_at dksX10_harvest_0 12 rfl rfl)
theorem dX10_harvest_13 : decode cX10_harvest 13 = .ok (.bipush 60, 2) := dk_16 60 (dk_at dksX10_harvest_0 13 rfl rfl)
theorem dX10_harvest_15 : decode cX10_harvest 15 = .ok (.idiv, 1) := dk_108 (dk_at dksX10_harvest_0 15 rfl rfl)
theorem dX10_harvest_16 : decode cX10_harvest 16 = .ok (.istore_n 2, 1) := dk_61 (dk_at dksX10_harvest_0 16 rfl rfl)
theorem dX10_harvest_17 : decode cX10_harvest 17 = .ok (.aload_n 0, 1) := dk_42 (dk_at dksX10_harvest_0 17 rfl rfl)
theorem dX10_harvest_18 : decode cX10_harvest 18 = .ok (.getfield 80, 3) := dk_180 0 80 (dk_at dksX10_harvest_0 18 rfl rfl)
theorem dX10_harvest_21 : decode cX10_harvest 21 = .ok (.ifCond .eq 9, 3) := dk_153 0 9 (dk_at dksX10_harvest_0 21 rfl rfl)
theorem dX10_harvest_24 : decode cX10_harvest 24 = .ok (.iload_n 2, 1) := dk_28 (dk_at dksX10_harvest_1 0 rfl rfl)
theorem dX10_harvest_25 : decode cX10_harvest 25 = .ok (.iconst 2, 1) := dk_5 (dk_at dksX10_harvest_1 1 rfl rfl)
theorem dX10_harvest_26 : decode cX10_harvest 26 = .ok (.idiv, 1) := dk_108 (dk_at dksX10_harvest_1 2 rfl rfl)
theorem dX10_harvest_27 : decode cX10_harvest 27 = .ok (.goto 4, 3) := dk_167 0 4 (dk_at dksX10_harvest_1 3 rfl rfl)
theorem dX10_harvest_30 : decode cX10_harvest 30 = .ok (.iload_n 2, 1) := dk_28 (dk_at dksX10_harvest_1 6 rfl rfl)
theorem dX10_harvest_31 : decode cX10_harvest 31 = .ok (.ireturn, 1) := dk_172 (dk_at dksX10_harvest_1 7 rfl rfl)
abbrev cX10_eat : ByteArray := prog_15_method_7_code
def yX10_eat : MethodName := ⟨RX10, "eat", "(LPublicanry$Chest;)V"⟩
def dkwX10_eat_5 : List UInt8 := [162, 0, 8, 42, 3, 181, 0, 125, 177]
abbrev dktX10_eat_5 : List UInt8 := dkwX10_eat_5 ++ []
def dkwX10_eat_4 : List UInt8 := [42, 2, 182, 0, 121, 42, 180, 0, 104, 16, 12, 161, 0, 8, 42, 4, 181, 0, 125, 42, 180, 0, 104, 8]
abbrev dktX10_eat_4 : List UInt8 := dkwX10_eat_4 ++ dktX10_eat_5
def dkwX10_eat_3 : List UInt8 := [181, 0, 97, 42, 180, 0, 97, 16, 12, 42, 180, 0, 37, 104, 164, 0, 10, 42, 182, 0, 118, 167, 0, 8]
abbrev dktX10_eat_3 : List UInt8 := dkwX10_eat_3 ++ dktX10_eat_4
def dkwX10_eat_2 : List UInt8 := [180, 0, 12, 43, 6, 29, 104, 182, 0, 100, 87, 42, 89, 180, 0, 97, 7, 28, 29, 100, 104, 96]
abbrev dktX10_eat_2 : List UInt8 := dkwX10_eat_2 ++ dktX10_eat_3
def dkwX10_eat_1 : List UInt8 := [100, 184, 0, 111, 181, 0, 49, 28, 42, 180, 0, 12, 182, 0, 114, 6, 108, 184, 0, 91, 62, 42]
abbrev dktX10_eat_1 : List UInt8 := dkwX10_eat_1 ++ dktX10_eat_2
def dkwX10_eat_0 : List UInt8 := [3, 42, 180, 0, 37, 42, 180, 0, 49, 100, 184, 0, 111, 61, 42, 3, 42, 180, 0, 49, 42, 180, 0, 37]
abbrev dktX10_eat_0 : List UInt8 := dkwX10_eat_0 ++ dktX10_eat_1
theorem dksX10_eat_0 : cX10_eat.data.toList.drop 0 = dktX10_eat_0 := by decide +kernel
theorem dksX10_eat_1 : cX10_eat.data.toList.drop 24 = dktX10_eat_1 := dk_seg dksX10_eat_0 24 rfl rfl
theorem dksX10_eat_2 : cX10_eat.data.toList.drop 46 = dktX10_eat_2 := dk_seg dksX10_eat_1 22 rfl rfl
theorem dksX10_eat_3 : cX10_eat.data.toList.drop 68 = dktX10_eat_3 := dk_seg dksX10_eat_2 22 rfl rfl
theorem dksX10_eat_4 : cX10_eat.data.toList.drop 92 = dktX10_eat_4 := dk_seg dksX10_eat_3 24 rfl rfl
theorem dksX10_eat_5 : cX10_eat.data.toList.drop 116 = dktX10_eat_5 := dk_seg dksX10_eat_4 24 rfl rfl
theorem dX10_eat_0 : decode cX10_eat 0 = .ok (.iconst 0, 1) := dk_3 (dk_at dksX10_eat_0 0 rfl rfl)
theorem dX10_eat_1 : decode cX10_eat 1 = .ok (.aload_n 0, 1) := dk_42 (dk_at dksX10_eat_0 1 rfl rfl)
theorem dX10_eat_2 : decode cX10_eat 2 = .ok (.getfield 37, 3) := dk_180 0 37 (dk_at dksX10_eat_0 2 rfl rfl)
theorem dX10_eat_5 : decode cX10_eat 5 = .ok (.aload_n 0, 1) := dk_42 (dk_at dksX10_eat_0 5 rfl rfl)
theorem dX10_eat_6 : decode cX10_eat 6 = .ok (.getfield 49, 3) := dk_180 0 49 (dk_at dksX10_eat_0 6 rfl rfl)
theorem dX10_eat_9 : decode cX10_eat 9 = .ok (.isub, 1) := dk_100 (dk_at dksX10_eat_0 9 rfl rfl)
theorem dX10_eat_10 : decode cX10_eat 10 = .ok (.invokestatic 111, 3) := dk_184 0 111 (dk_at dksX10_eat_0 10 rfl rfl)
theorem dX10_eat_13 : decode cX10_eat 13 = .ok (.istore_n 2, 1) := dk_61 (dk_at dksX10_eat_0 13 rfl rfl)
theorem dX10_eat_14 : decode cX10_eat 14 = .ok (.aload_n 0, 1) := dk_42 (dk_at dksX10_eat_0 14 rfl rfl)
theorem dX10_eat_15 : decode cX10_eat 15 = .ok (.iconst 0, 1) := dk_3 (dk_at dksX10_eat_0 15 rfl rfl)
theorem dX10_eat_16 : decode cX10_eat 16 = .ok (.aload_n 0, 1) := dk_42 (dk_at dksX10_eat_0 16 rfl rfl)
theorem dX10_eat_17 : decode cX10_eat 17 = .ok (.getfield 49, 3) := dk_180 0 49 (dk_at dksX10_eat_0 17 rfl rfl)
theorem dX10_eat_20 : decode cX10_eat 20 = .ok (.aload_n 0, 1) := dk_42 (dk_at dksX10_eat_0 20 rfl rfl)
theorem dX10_eat_21 : decode cX10_eat 21 = .ok (.getfield 37, 3) := dk_180 0 37 (dk_at dksX10_eat_0 21 rfl rfl)
theorem dX10_eat_24 : decode cX10_eat 24 = .ok (.isub, 1) := dk_100 (dk_at dksX10_eat_1 0 rfl rfl)
theorem dX10_eat_25 : decode cX10_eat 25 = .ok (.invokestatic 111, 3) := dk_184 0 111 (dk_at dksX10_eat_1 1 rfl rfl)
theorem dX10_eat_28 : decode cX10_eat 28 = .ok (.putfield 49, 3) := dk_181 0 49 (dk_at dksX10_eat_1 4 rfl rfl)
theorem dX10_eat_31 : decode cX10_eat 31 = .ok (.iload_n 2, 1) := dk_28 (dk_at dksX10_eat_1 7 rfl rfl)
theorem dX10_eat_32 : decode cX10_eat 32 = .ok (.aload_n 0, 1) := dk_42 (dk_at dksX10_eat_1 8 rfl rfl)
theorem dX10_eat_33 : decode cX10_eat 33 = .ok (.getfield 12, 3) := dk_180 0 12 (dk_at dksX10_eat_1 9 rfl rfl)
theorem dX10_eat_36 : decode cX10_eat 36 = .ok (.invokevirtual 114, 3) := dk_182 0 114 (dk_at dksX10_eat_1 12 rfl rfl)
theorem dX10_eat_39 : decode cX10_eat 39 = .ok (.iconst 3, 1) := dk_6 (dk_at dksX10_eat_1 15 rfl rfl)
theorem dX10_eat_40 : decode cX10_eat 40 = .ok (.idiv, 1) := dk_108 (dk_at dksX10_eat_1 16 rfl rfl)
theorem dX10_eat_41 : decode cX10_eat 41 = .ok (.invokestatic 91, 3) := dk_184 0 91 (dk_at dksX10_eat_1 17 rfl rfl)
theorem dX10_eat_44 : decode cX10_eat 44 = .ok (.istore_n 3, 1) := dk_62 (dk_at dksX10_eat_1 20 rfl rfl)
theorem dX10_eat_45 : decode cX10_eat 45 = .ok (.aload_n 0, 1) := dk_42 (dk_at dksX10_eat_1 21 rfl rfl)
theorem dX10_eat_46 : decode cX10_eat 46 = .ok (.getfield 12, 3) := dk_180 0 12 (dk_at dksX10_eat_2 0 rfl rfl)
theorem dX10_eat_49 : decode cX10_eat 49 = .ok (.aload_n 1, 1) := dk_43 (dk_at dksX10_eat_2 3 rfl rfl)
theorem dX10_eat_50 : decode cX10_eat 50 = .ok (.iconst 3, 1) := dk_6 (dk_at dksX10_eat_2 4 rfl rfl)
theorem dX10_eat_51 : decode cX10_eat 51 = .ok (.iload_n 3, 1) := dk_29 (dk_at dksX10_eat_2 5 rfl rfl)
theorem dX10_eat_52 : decode cX10_eat 52 = .ok (.imul, 1) := dk_104 (dk_at dksX10_eat_2 6 rfl rfl)
theorem dX10_eat_53 : decode cX10_eat 53 = .ok (.invokevirtual 100, 3) := dk_182 0 100 (dk_at dksX10_eat_2 7 rfl rfl)
theorem dX10_eat_56 : decode cX10_eat 56 = .ok (.pop, 1) := dk_87 (dk_at dksX10_eat_2 10 rfl rfl)
theorem dX10_eat_57 : decode cX10_eat 57 = .ok (.aload_n 0, 1) := dk_42 (dk_at dksX10_eat_2 11 rfl rfl)
theorem dX10_eat_58 : decode cX10_eat 58 = .ok (.dup, 1) := dk_89 (dk_at dksX10_eat_2 12 rfl rfl)
theorem dX10_eat_59 : decode cX10_eat 59 = .ok (.getfield 97, 3) := dk_180 0 97 (dk_at dksX10_eat_2 13 rfl rfl)
theorem dX10_eat_62 : decode cX10_eat 62 = .ok (.iconst 4, 1) := dk_7 (dk_at dksX10_eat_2 16 rfl rfl)
theorem dX10_eat_63 : decode cX10_eat 63 = .ok (.iload_n 2, 1) := dk_28 (dk_at dksX10_eat_2 17 rfl rfl)
theorem dX10_eat_64 : decode cX10_eat 64 = .ok (.iload_n 3, 1) := dk_29 (dk_at dksX10_eat_2 18 rfl rfl)
theorem dX10_eat_65 : decode cX10_eat 65 = .ok (.isub, 1) := dk_100 (dk_at dksX10_eat_2 19 rfl rfl)
theorem dX10_eat_66 : decode cX10_eat 66 = .ok (.imul, 1) := dk_104 (dk_at dksX10_eat_2 20 rfl rfl)
theorem dX10_eat_67 : decode cX10_eat 67 = .ok (.iadd, 1) := dk_96 (dk_at dksX10_eat_2 21 rfl rfl)
theorem dX10_eat_68 : decode cX10_eat 68 = .ok (.putfield 97, 3) := dk_181 0 97 (dk_at dksX10_eat_3 0 rfl rfl)
theorem dX10_eat_71 : decode cX10_eat 71 = .ok (.aload_n 0, 1) := dk_42 (dk_at dksX10_eat_3 3 rfl rfl)
theorem dX10_eat_72 : decode cX10_eat 72 = .ok (.getfield 97, 3) := dk_180 0 97 (dk_at dksX10_eat_3 4 rfl rfl)
theorem dX10_eat_75 : decode cX10_eat 75 = .ok (.bipush 12, 2) := dk_16 12 (dk_at dksX10_eat_3 7 rfl rfl)
theorem dX10_eat_77 : decode cX10_eat 77 = .ok (.aload_n 0, 1) := dk_42 (dk_at dksX10_eat_3 9 rfl rfl)
theorem dX10_eat_78 : decode cX10_eat 78 = .ok (.getfield 37, 3) := dk_180 0 37 (dk_at dksX10_eat_3 10 rfl rfl)
theorem dX10_eat_81 : decode cX10_eat 81 = .ok (.imul, 1) := dk_104 (dk_at dksX10_eat_3 13 rfl rfl)
theorem dX10_eat_82 : decode cX10_eat 82 = .ok (.if_icmp .le 10, 3) := dk_164 0 10 (dk_at dksX10_eat_3 14 rfl rfl)
theorem dX10_eat_85 : decode cX10_eat 85 = .ok (.aload_n 0, 1) := dk_42 (dk_at dksX10_eat_3 17 rfl rfl)
theorem dX10_eat_86 : decode cX10_eat 86 = .ok (.invokevirtual 118, 3) := dk_182 0 118 (dk_at dksX10_eat_3 18 rfl rfl)
theorem dX10_eat_89 : decode cX10_eat 89 = .ok (.goto 8, 3) := dk_167 0 8 (dk_at dksX10_eat_3 21 rfl rfl)
theorem dX10_eat_92 : decode cX10_eat 92 = .ok (.aload_n 0, 1) := dk_42 (dk_at dksX10_eat_4 0 rfl rfl)
theorem dX10_eat_93 : decode cX10_eat 93 = .ok (.iconst (-1), 1) := dk_2 (dk_at dksX10_eat_4 1 rfl rfl)
theorem dX10_eat_94 : decode cX10_eat 94 = .ok (.invokevirtual 121, 3) := dk_182 0 121 (dk_at dksX10_eat_4 2 rfl rfl)
theorem dX10_eat_97 : decode cX10_eat 97 = .ok (.aload_n 0, 1) := dk_42 (dk_at dksX10_eat_4 5 rfl rfl)
theorem dX10_eat_98 : decode cX10_eat 98 = .ok (.getfield 104, 3) := dk_180 0 104 (dk_at dksX10_eat_4 6 rfl rfl)
theorem dX10_eat_101 : decode cX10_eat 101 = .ok (.bipush 12, 2) := dk_16 12 (dk_at dksX10_eat_4 9 rfl rfl)
theorem dX10_eat_103 : decode cX10_eat 103 = .ok (.if_icmp .lt 8, 3) := dk_161 0 8 (dk_at dksX10_eat_4 11 rfl rfl)
theorem dX10_eat_106 : decode cX10_eat 106 = .ok (.aload_n 0, 1) := dk_42 (dk_at dksX10_eat_4 14 rfl rfl)
theorem dX10_eat_107 : decode cX10_eat 107 = .ok (.iconst 1, 1) := dk_4 (dk_at dksX10_eat_4 15 rfl rfl)
theorem dX10_eat_108 : decode cX10_eat 108 = .ok (.putfield 125, 3) := dk_181 0 125 (dk_at dksX10_eat_4 16 rfl rfl)
theorem dX10_eat_111 : decode cX10_eat 111 = .ok (.aload_n 0, 1) := dk_42 (dk_at dksX10_eat_4 19 rfl rfl)
theorem dX10_eat_112 : decode cX10_eat 112 = .ok (.getfield 104, 3) := dk_180 0 104 (dk_at dksX10_eat_4 20 rfl rfl)
theorem dX10_eat_115 : decode cX10_eat 115 = .ok (.iconst 5, 1) := dk_8 (dk_at dksX10_eat_4 23 rfl rfl)
theorem dX10_eat_116 : decode cX10_eat 116 = .ok (.if_icmp .ge 8, 3) := dk_162 0 8 (dk_at dksX10_eat_5 0 rfl rfl)
theorem dX10_eat_119 : decode cX10_eat 119 = .ok (.aload_n 0, 1) := dk_42 (dk_at dksX10_eat_5 3 rfl rfl)
theorem dX10_eat_120 : decode cX10_eat 120 = .ok (.iconst 0, 1) := dk_3 (dk_at dksX10_eat_5 4 rfl rfl)
theorem dX10_eat_121 : decode cX10_eat 121 = .ok (.putfield 125, 3) := dk_181 0 125 (dk_at dksX10_eat_5 5 rfl rfl)
theorem dX10_eat_124 : decode cX10_eat 124 = .ok (.return_, 1) := dk_177 (dk_at dksX10_eat_5 8 rfl rfl)
abbrev cX10_flee : ByteArray := prog_15_method_8_code
def yX10_flee : MethodName := ⟨RX10, "flee", "()V"⟩
def dkwX10_flee_2 : List UInt8 := [108, 181, 0, 97, 42, 5, 182, 0, 121, 177]
abbrev dktX10_flee_2 : List UInt8 := dkwX10_flee_2 ++ []
def dkwX10_flee_1 : List UInt8 := [180, 0, 37, 27, 100, 181, 0, 37, 42, 89, 180, 0, 128, 27, 96, 181, 0, 128, 42, 89, 180, 0, 97, 5]
abbrev dktX10_flee_1 : List UInt8 := dkwX10_flee_1 ++ dktX10_flee_2
def dkwX10_flee_0 : List UInt8 := [42, 180, 0, 37, 4, 100, 4, 42, 180, 0, 37, 8, 108, 184, 0, 111, 184, 0, 91, 60, 42, 89]
abbrev dktX10_flee_0 : List UInt8 := dkwX10_flee_0 ++ dktX10_flee_1
theorem dksX10_flee_0 : cX10_flee.data.toList.drop 0 = dktX10_flee_0 := by decide +kernel
theorem dksX10_flee_1 : cX10_flee.data.toList.drop 22 = dktX10_flee_1 := dk_seg dksX10_flee_0 22 rfl rfl
theorem dksX10_flee_2 : cX10_flee.data.toList.drop 46 = dktX10_flee_2 := dk_seg dksX10_flee_1 24 rfl rfl
theorem dX10_flee_0 : decode cX10_flee 0 = .ok (.aload_n 0, 1) := dk_42 (dk_at dksX10_flee_0 0 rfl rfl)
theorem dX10_flee_1 : decode cX10_flee 1 = .ok (.getfield 37, 3) := dk_180 0 37 (dk_at dksX10_flee_0 1 rfl rfl)
theorem dX10_flee_4 : decode cX10_flee 4 = .ok (.iconst 1, 1) := dk_4 (dk_at dksX10_flee_0 4 rfl rfl)
theorem dX10_flee_5 : decode cX10_flee 5 = .ok (.isub, 1) := dk_100 (dk_at dksX10_flee_0 5 rfl rfl)
theorem dX10_flee_6 : decode cX10_flee 6 = .ok (.iconst 1, 1) := dk_4 (dk_at dksX10_flee_0 6 rfl rfl)
theorem dX10_flee_7 : decode cX10_flee 7 = .ok (.aload_n 0, 1) := dk_42 (dk_at dksX10_flee_0 7 rfl rfl)
theorem dX10_flee_8 : decode cX10_flee 8 = .ok (.getfield 37, 3) := dk_180 0 37 (dk_at dksX10_flee_0 8 rfl rfl)
theorem dX10_flee_11 : decode cX10_flee 11 = .ok (.iconst 5, 1) := dk_8 (dk_at dksX10_flee_0 11 rfl rfl)
theorem dX10_flee_12 : decode cX10_flee 12 = .ok (.idiv, 1) := dk_108 (dk_at dksX10_flee_0 12 rfl rfl)
theorem dX10_flee_13 : decode cX10_flee 13 = .ok (.invokestatic 111, 3) := dk_184 0 111 (dk_at dksX10_flee_0 13 rfl rfl)
theorem dX10_flee_16 : decode cX10_flee 16 = .ok (.invokestatic 91, 3) := dk_184 0 91 (dk_at dksX10_flee_0 16 rfl rfl)
theorem dX10_flee_19 : decode cX10_flee 19 = .ok (.istore_n 1, 1) := dk_60 (dk_at dksX10_flee_0 19 rfl rfl)
theorem dX10_flee_20 : decode cX10_flee 20 = .ok (.aload_n 0, 1) := dk_42 (dk_at dksX10_flee_0 20 rfl rfl)
theorem dX10_flee_21 : decode cX10_flee 21 = .ok (.dup, 1) := dk_89 (dk_at dksX10_flee_0 21 rfl rfl)
theorem dX10_flee_22 : decode cX10_flee 22 = .ok (.getfield 37, 3) := dk_180 0 37 (dk_at dksX10_flee_1 0 rfl rfl)
theorem dX10_flee_25 : decode cX10_flee 25 = .ok (.iload_n 1, 1) := dk_27 (dk_at dksX10_flee_1 3 rfl rfl)
theorem dX10_flee_26 : decode cX10_flee 26 = .ok (.isub, 1) := dk_100 (dk_at dksX10_flee_1 4 rfl rfl)
theorem dX10_flee_27 : decode cX10_flee 27 = .ok (.putfield 37, 3) := dk_181 0 37 (dk_at dksX10_flee_1 5 rfl rfl)
theorem dX10_flee_30 : decode cX10_flee 30 = .ok (.aload_n 0, 1) := dk_42 (dk_at dksX10_flee_1 8 rfl rfl)
theorem dX10_flee_31 : decode cX10_flee 31 = .ok (.dup, 1) := dk_89 (dk_at dksX10_flee_1 9 rfl rfl)
theorem dX10_flee_32 : decode cX10_flee 32 = .ok (.getfield 128, 3) := dk_180 0 128 (dk_at dksX10_flee_1 10 rfl rfl)
theorem dX10_flee_35 : decode cX10_flee 35 = .ok (.iload_n 1, 1) := dk_27 (dk_at dksX10_flee_1 13 rfl rfl)
theorem dX10_flee_36 : decode cX10_flee 36 = .ok (.iadd, 1) := dk_96 (dk_at dksX10_flee_1 14 rfl rfl)
theorem dX10_flee_37 : decode cX10_flee 37 = .ok (.putfield 128, 3) := dk_181 0 128 (dk_at dksX10_flee_1 15 rfl rfl)
theorem dX10_flee_40 : decode cX10_flee 40 = .ok (.aload_n 0, 1) := dk_42 (dk_at dksX10_flee_1 18 rfl rfl)
theorem dX10_flee_41 : decode cX10_flee 41 = .ok (.dup, 1) := dk_89 (dk_at dksX10_flee_1 19 rfl rfl)
theorem dX10_flee_42 : decode cX10_flee 42 = .ok (.getfield 97, 3) := dk_180 0 97 (dk_at dksX10_flee_1 20 rfl rfl)
theorem dX10_flee_45 : decode cX10_flee 45 = .ok (.iconst 2, 1) := dk_5 (dk_at dksX10_flee_1 23 rfl rfl)
theorem dX10_flee_46 : decode cX10_flee 46 = .ok (.idiv, 1) := dk_108 (dk_at dksX10_flee_2 0 rfl rfl)
theorem dX10_flee_47 : decode cX10_flee 47 = .ok (.putfield 97, 3) := dk_181 0 97 (dk_at dksX10_flee_2 1 rfl rfl)
theorem dX10_flee_50 : decode cX10_flee 50 = .ok (.aload_n 0, 1) := dk_42 (dk_at dksX10_flee_2 4 rfl rfl)
theorem dX10_flee_51 : decode cX10_flee 51 = .ok (.iconst 2, 1) := dk_5 (dk_at dksX10_flee_2 5 rfl rfl)
theorem dX10_flee_52 : decode cX10_flee 52 = .ok (.invokevirtual 121, 3) := dk_182 0 121 (dk_at dksX10_flee_2 6 rfl rfl)
theorem dX10_flee_55 : decode cX10_flee 55 = .ok (.return_, 1) := dk_177 (dk_at dksX10_flee_2 9 rfl rfl)
abbrev cX10_sell : ByteArray := prog_15_method_9_code
def yX10_sell : MethodName := ⟨RX10, "sell", "(LPublicanry$Chest;)V"⟩
def dkwX10_sell_2 : List UInt8 := [43, 42, 180, 0, 97, 182, 0, 100, 100, 181, 0, 97, 177]
abbrev dktX10_sell_2 : List UInt8 := dkwX10_sell_2 ++ []
def dkwX10_sell_1 : List UInt8 := [181, 0, 49, 43, 42, 180, 0, 12, 5, 28, 104, 182, 0, 100, 87, 42, 89, 180, 0, 97, 42, 180, 0, 12]
abbrev dktX10_sell_1 : List UInt8 := dkwX10_sell_1 ++ dktX10_sell_2
def dkwX10_sell_0 : List UInt8 := [3, 42, 180, 0, 49, 16, 6, 42, 180, 0, 37, 104, 100, 184, 0, 111, 61, 42, 89, 180, 0, 49, 28, 100]
abbrev dktX10_sell_0 : List UInt8 := dkwX10_sell_0 ++ dktX10_sell_1
theorem dksX10_sell_0 : cX10_sell.data.toList.drop 0 = dktX10_sell_0 := by decide +kernel
theorem dksX10_sell_1 : cX10_sell.data.toList.drop 24 = dktX10_sell_1 := dk_seg dksX10_sell_0 24 rfl rfl
theorem dksX10_sell_2 : cX10_sell.data.toList.drop 48 = dktX10_sell_2 := dk_seg dksX10_sell_1 24 rfl rfl
theorem dX10_sell_0 : decode cX10_sell 0 = .ok (.iconst 0, 1) := dk_3 (dk_at dksX10_sell_0 0 rfl rfl)
theorem dX10_sell_1 : decode cX10_sell 1 = .ok (.aload_n 0, 1) := dk_42 (dk_at dksX10_sell_0 1 rfl rfl)
theorem dX10_sell_2 : decode cX10_sell 2 = .ok (.getfield 49, 3) := dk_180 0 49 (dk_at dksX10_sell_0 2 rfl rfl)
theorem dX10_sell_5 : decode cX10_sell 5 = .ok (.bipush 6, 2) := dk_16 6 (dk_at dksX10_sell_0 5 rfl rfl)
theorem dX10_sell_7 : decode cX10_sell 7 = .ok (.aload_n 0, 1) := dk_42 (dk_at dksX10_sell_0 7 rfl rfl)
theorem dX10_sell_8 : decode cX10_sell 8 = .ok (.getfield 37, 3) := dk_180 0 37 (dk_at dksX10_sell_0 8 rfl rfl)
theorem dX10_sell_11 : decode cX10_sell 11 = .ok (.imul, 1) := dk_104 (dk_at dksX10_sell_0 11 rfl rfl)
theorem dX10_sell_12 : decode cX10_sell 12 = .ok (.isub, 1) := dk_100 (dk_at dksX10_sell_0 12 rfl rfl)
theorem dX10_sell_13 : decode cX10_sell 13 = .ok (.invokestatic 111, 3) := dk_184 0 111 (dk_at dksX10_sell_0 13 rfl rfl)
theorem dX10_sell_16 : decode cX10_sell 16 = .ok (.istore_n 2, 1) := dk_61 (dk_at dksX10_sell_0 16 rfl rfl)
theorem dX10_sell_17 : decode cX10_sell 17 = .ok (.aload_n 0, 1) := dk_42 (dk_at dksX10_sell_0 17 rfl rfl)
theorem dX10_sell_18 : decode cX10_sell 18 = .ok (.dup, 1) := dk_89 (dk_at dksX10_sell_0 18 rfl rfl)
theorem dX10_sell_19 : decode cX10_sell 19 = .ok (.getfield 49, 3) := dk_180 0 49 (dk_at dksX10_sell_0 19 rfl rfl)
theorem dX10_sell_22 : decode cX10_sell 22 = .ok (.iload_n 2, 1) := dk_28 (dk_at dksX10_sell_0 22 rfl rfl)
theorem dX10_sell_23 : decode cX10_sell 23 = .ok (.isub, 1) := dk_100 (dk_at dksX10_sell_0 23 rfl rfl)
theorem dX10_sell_24 : decode cX10_sell 24 = .ok (.putfield 49, 3) := dk_181 0 49 (dk_at dksX10_sell_1 0 rfl rfl)
theorem dX10_sell_27 : decode cX10_sell 27 = .ok (.aload_n 1, 1) := dk_43 (dk_at dksX10_sell_1 3 rfl rfl)
theorem dX10_sell_28 : decode cX10_sell 28 = .ok (.aload_n 0, 1) := dk_42 (dk_at dksX10_sell_1 4 rfl rfl)
theorem dX10_sell_29 : decode cX10_sell 29 = .ok (.getfield 12, 3) := dk_180 0 12 (dk_at dksX10_sell_1 5 rfl rfl)
theorem dX10_sell_32 : decode cX10_sell 32 = .ok (.iconst 2, 1) := dk_5 (dk_at dksX10_sell_1 8 rfl rfl)
theorem dX10_sell_33 : decode cX10_sell 33 = .ok (.iload_n 2, 1) := dk_28 (dk_at dksX10_sell_1 9 rfl rfl)
theorem dX10_sell_34 : decode cX10_sell 34 = .ok (.imul, 1) := dk_104 (dk_at dksX10_sell_1 10 rfl rfl)
theorem dX10_sell_35 : decode cX10_sell 35 = .ok (.invokevirtual 100, 3) := dk_182 0 100 (dk_at dksX10_sell_1 11 rfl rfl)
theorem dX10_sell_38 : decode cX10_sell 38 = .ok (.pop, 1) := dk_87 (dk_at dksX10_sell_1 14 rfl rfl)
theorem dX10_sell_39 : decode cX10_sell 39 = .ok (.aload_n 0, 1) := dk_42 (dk_at dksX10_sell_1 15 rfl rfl)
theorem dX10_sell_40 : decode cX10_sell 40 = .ok (.dup, 1) := dk_89 (dk_at dksX10_sell_1 16 rfl rfl)
theorem dX10_sell_41 : decode cX10_sell 41 = .ok (.getfield 97, 3) := dk_180 0 97 (dk_at dksX10_sell_1 17 rfl rfl)
theorem dX10_sell_44 : decode cX10_sell 44 = .ok (.aload_n 0, 1) := dk_42 (dk_at dksX10_sell_1 20 rfl rfl)
theorem dX10_sell_45 : decode cX10_sell 45 = .ok (.getfield 12, 3) := dk_180 0 12 (dk_at dksX10_sell_1 21 rfl rfl)
theorem dX10_sell_48 : decode cX10_sell 48 = .ok (.aload_n 1, 1) := dk_43 (dk_at dksX10_sell_2 0 rfl rfl)
theorem dX10_sell_49 : decode cX10_sell 49 = .ok (.aload_n 0, 1) := dk_42 (dk_at dksX10_sell_2 1 rfl rfl)
theorem dX10_sell_50 : decode cX10_sell 50 = .ok (.getfield 97, 3) := dk_180 0 97 (dk_at dksX10_sell_2 2 rfl rfl)
theorem dX10_sell_53 : decode cX10_sell 53 = .ok (.invokevirtual 100, 3) := dk_182 0 100 (dk_at dksX10_sell_2 5 rfl rfl)
theorem dX10_sell_56 : decode cX10_sell 56 = .ok (.isub, 1) := dk_100 (dk_at dksX10_sell_2 8 rfl rfl)
theorem dX10_sell_57 : decode cX10_sell 57 = .ok (.putfield 97, 3) := dk_181 0 97 (dk_at dksX10_sell_2 9 rfl rfl)
theorem dX10_sell_60 : decode cX10_sell 60 = .ok (.return_, 1) := dk_177 (dk_at dksX10_sell_2 12 rfl rfl)
theorem q92 : (Jvm.Cond.initialized "Publicanry$Village") ∈ lw_all := lw_g (lw_at lw_m1 19 rfl) rfl
theorem q224 : (Jvm.Cond.fieldLink "Publicanry$Village" (65 : Nat) "Publicanry$Rule" "rate" "I") ∈ lw_all := lw_g (lw_at lw_m1 151 rfl) rfl
theorem q226 : (Jvm.Cond.fieldLink "Publicanry$Village" (70 : Nat) "Publicanry$Rule" "exempt" "I") ∈ lw_all := lw_g (lw_at lw_m1 153 rfl) rfl
theorem q469 : (Jvm.Cond.selects "Publicanry$Village" ({ cls := "java/lang/Object", name := "notifyAll", desc := "()V" } : Jvm.MethodName) ({ cls := "java/lang/Object", name := "notifyAll", desc := "()V" } : Jvm.MethodName)) ∈ lw_all := lw_g (lw_at lw_m2 156 rfl) rfl
theorem q571 : (Jvm.Cond.selects "Publicanry$Village" ({ cls := "java/lang/Object", name := "notify", desc := "()V" } : Jvm.MethodName) ({ cls := "java/lang/Object", name := "notify", desc := "()V" } : Jvm.MethodName)) ∈ lw_all := lw_g (lw_at lw_m3 18 rfl) rfl
theorem q634 : (Jvm.Cond.instanceMethod ({ cls := "Publicanry$Village", name := "shown", desc := "(II)I" } : Jvm.MethodName)) ∈ lw_all := lw_g (lw_at lw_m3 81 rfl) rfl
theorem q635 : (Jvm.Cond.selects "Publicanry$Village" ({ cls := "Publicanry$Village", name := "shown", desc := "(II)I" } : Jvm.MethodName) ({ cls := "Publicanry$Village", name := "shown", desc := "(II)I" } : Jvm.MethodName)) ∈ lw_all := lw_g (lw_at lw_m3 82 rfl) rfl
theorem q636 : (Jvm.Cond.code ({ cls := "Publicanry$Village", name := "shown", desc := "(II)I" } : Jvm.MethodName) prog_15_method_11_code (3 : Nat) (Option.some Jvm.ClassFile.FieldType.int)) ∈ lw_all := lw_g (lw_at lw_m3 83 rfl) rfl
theorem q637 : (Jvm.Cond.methodLinkNest "Publicanry$Village" (107 : Nat) ({ cls := "Publicanry", name := "hold", desc := "(III)I" } : Jvm.MethodName) "Publicanry") ∈ lw_tbl := lw_at lw_m3 84 rfl
theorem q659 : (Jvm.Cond.instanceMethod ({ cls := "Publicanry$Village", name := "borrow", desc := "(ILPublicanry$Chest;LPublicanry$Chest;)V" } : Jvm.MethodName)) ∈ lw_all := lw_g (lw_at lw_m3 106 rfl) rfl
theorem q660 : (Jvm.Cond.selects "Publicanry$Village" ({ cls := "Publicanry$Village", name := "borrow", desc := "(ILPublicanry$Chest;LPublicanry$Chest;)V" } : Jvm.MethodName) ({ cls := "Publicanry$Village", name := "borrow", desc := "(ILPublicanry$Chest;LPublicanry$Chest;)V" } : Jvm.MethodName)) ∈ lw_all := lw_g (lw_at lw_m3 107 rfl) rfl
theorem q661 : (Jvm.Cond.code ({ cls := "Publicanry$Village", name := "borrow", desc := "(ILPublicanry$Chest;LPublicanry$Chest;)V" } : Jvm.MethodName) prog_15_method_5_code (4 : Nat) (Option.none : Option Jvm.ClassFile.FieldType)) ∈ lw_all := lw_g (lw_at lw_m3 108 rfl) rfl
theorem q662 : (Jvm.Cond.methodLink "Publicanry$Village" (100 : Nat) ({ cls := "Publicanry$Chest", name := "pay", desc := "(LPublicanry$Chest;I)I" } : Jvm.MethodName)) ∈ lw_all := lw_g (lw_at lw_m3 109 rfl) rfl
theorem q680 : (Jvm.Cond.instanceMethod ({ cls := "Publicanry$Village", name := "due", desc := "(LPublicanry$Duty;)I" } : Jvm.MethodName)) ∈ lw_all := lw_g (lw_at lw_m3 127 rfl) rfl
theorem q681 : (Jvm.Cond.selects "Publicanry$Village" ({ cls := "Publicanry$Village", name := "due", desc := "(LPublicanry$Duty;)I" } : Jvm.MethodName) ({ cls := "Publicanry$Village", name := "due", desc := "(LPublicanry$Duty;)I" } : Jvm.MethodName)) ∈ lw_all := lw_g (lw_at lw_m3 128 rfl) rfl
theorem q682 : (Jvm.Cond.code ({ cls := "Publicanry$Village", name := "due", desc := "(LPublicanry$Duty;)I" } : Jvm.MethodName) prog_15_method_10_code (2 : Nat) (Option.some Jvm.ClassFile.FieldType.int)) ∈ lw_all := lw_g (lw_at lw_m3 129 rfl) rfl
theorem q683 : (Jvm.Cond.methodLink "Publicanry$Village" (131 : Nat) ({ cls := "Publicanry$Duty", name := "ordinal", desc := "()I" } : Jvm.MethodName)) ∈ lw_all := lw_g (lw_at lw_m3 130 rfl) rfl
theorem q684 : (Jvm.Cond.methodLink "Publicanry$Village" (136 : Nat) ({ cls := "Publicanry$Duty", name := "due", desc := "(LPublicanry$Village;I)I" } : Jvm.MethodName)) ∈ lw_all := lw_g (lw_at lw_m3 131 rfl) rfl
theorem q831 : (Jvm.Cond.instantiable "Publicanry$Village" (18 : Nat)) ∈ lw_all := lw_g (lw_at lw_m4 38 rfl) rfl
theorem q833 : (Jvm.Cond.instanceMethod ({ cls := "Publicanry$Village", name := "<init>", desc := "(IIIII)V" } : Jvm.MethodName)) ∈ lw_all := lw_g (lw_at lw_m4 40 rfl) rfl
theorem q834 : (Jvm.Cond.code ({ cls := "Publicanry$Village", name := "<init>", desc := "(IIIII)V" } : Jvm.MethodName) prog_15_method_1_code (7 : Nat) (Option.none : Option Jvm.ClassFile.FieldType)) ∈ lw_all := lw_g (lw_at lw_m4 41 rfl) rfl
theorem q835 : (Jvm.Cond.methodLink "Publicanry$Village" (3 : Nat) ({ cls := "java/lang/Object", name := "<init>", desc := "()V" } : Jvm.MethodName)) ∈ lw_all := lw_g (lw_at lw_m4 42 rfl) rfl
theorem q836 : (Jvm.Cond.classLink "Publicanry$Village" (9 : Nat) "Publicanry$Chest") ∈ lw_all := lw_g (lw_at lw_m4 43 rfl) rfl
theorem q837 : (Jvm.Cond.methodLinkNest "Publicanry$Village" (11 : Nat) ({ cls := "Publicanry$Chest", name := "<init>", desc := "()V" } : Jvm.MethodName) "Publicanry") ∈ lw_tbl := lw_at lw_m4 44 rfl
theorem q838 : (Jvm.Cond.classLink "Publicanry$Village" (26 : Nat) "java/util/ArrayList") ∈ lw_all := lw_g (lw_at lw_m4 45 rfl) rfl
theorem q839 : (Jvm.Cond.methodLink "Publicanry$Village" (28 : Nat) ({ cls := "java/util/ArrayList", name := "<init>", desc := "()V" } : Jvm.MethodName)) ∈ lw_all := lw_g (lw_at lw_m4 46 rfl) rfl
theorem q840 : (Jvm.Cond.methodLink "Publicanry$Village" (55 : Nat) ({ cls := "java/util/Optional", name := "empty", desc := "()Ljava/util/Optional;" } : Jvm.MethodName)) ∈ lw_all := lw_g (lw_at lw_m4 47 rfl) rfl
theorem q845 : (Jvm.Cond.methodLink "Publicanry$Village" (61 : Nat) ({ cls := "java/util/ArrayList", name := "add", desc := "(Ljava/lang/Object;)Z" } : Jvm.MethodName)) ∈ lw_all := lw_g (lw_at lw_m4 52 rfl) rfl
theorem q888 : (Jvm.Cond.selects "Publicanry$Village" ({ cls := "java/lang/Object", name := "getClass", desc := "()Ljava/lang/Class;" } : Jvm.MethodName) ({ cls := "java/lang/Object", name := "getClass", desc := "()Ljava/lang/Class;" } : Jvm.MethodName)) ∈ lw_all := lw_g (lw_at lw_m4 95 rfl) rfl
theorem q919 : (Jvm.Cond.fieldLink "Publicanry$Village" (33 : Nat) "Publicanry$Village" "number" "I") ∈ lw_all := lw_g (lw_at lw_m4 126 rfl) rfl
theorem q921 : (Jvm.Cond.fieldLink "Publicanry$Village" (46 : Nat) "Publicanry$Village" "soil" "I") ∈ lw_all := lw_g (lw_at lw_m4 128 rfl) rfl
theorem q923 : (Jvm.Cond.fieldLink "Publicanry$Village" (12 : Nat) "Publicanry$Village" "chest" "LPublicanry$Chest;") ∈ lw_all := lw_g (lw_at lw_m4 130 rfl) rfl
theorem q926 : (Jvm.Cond.fieldLink "Publicanry$Village" (18 : Nat) "Publicanry$Village" "rates" "[I") ∈ lw_all := lw_g (lw_at lw_m4 133 rfl) rfl
theorem q927 : (Jvm.Cond.fieldLink "Publicanry$Village" (22 : Nat) "Publicanry$Village" "areExempt" "[Z") ∈ lw_all := lw_g (lw_at lw_m4 134 rfl) rfl
theorem q928 : (Jvm.Cond.fieldLink "Publicanry$Village" (29 : Nat) "Publicanry$Village" "levies" "Ljava/util/ArrayList;") ∈ lw_all := lw_g (lw_at lw_m4 135 rfl) rfl
theorem q930 : (Jvm.Cond.fieldLink "Publicanry$Village" (37 : Nat) "Publicanry$Village" "houses" "I") ∈ lw_all := lw_g (lw_at lw_m4 137 rfl) rfl
theorem q933 : (Jvm.Cond.fieldLink "Publicanry$Village" (40 : Nat) "Publicanry$Village" "fields" "I") ∈ lw_all := lw_g (lw_at lw_m4 140 rfl) rfl
theorem q935 : (Jvm.Cond.fieldLink "Publicanry$Village" (43 : Nat) "Publicanry$Village" "herd" "I") ∈ lw_all := lw_g (lw_at lw_m4 142 rfl) rfl
theorem q938 : (Jvm.Cond.fieldLink "Publicanry$Village" (49 : Nat) "Publicanry$Village" "grain" "I") ∈ lw_all := lw_g (lw_at lw_m4 145 rfl) rfl
theorem q941 : (Jvm.Cond.fieldLink "Publicanry$Village" (97 : Nat) "Publicanry$Village" "debt" "I") ∈ lw_all := lw_g (lw_at lw_m4 148 rfl) rfl
theorem q943 : (Jvm.Cond.fieldLink "Publicanry$Village" (104 : Nat) "Publicanry$Village" "unrest" "I") ∈ lw_all := lw_g (lw_at lw_m4 150 rfl) rfl
theorem q945 : (Jvm.Cond.fieldLink "Publicanry$Village" (52 : Nat) "Publicanry$Village" "register" "I") ∈ lw_all := lw_g (lw_at lw_m4 152 rfl) rfl
theorem q948 : (Jvm.Cond.fieldLink "Publicanry$Village" (88 : Nat) "Publicanry$Village" "yield" "I") ∈ lw_all := lw_g (lw_at lw_m4 155 rfl) rfl
theorem q950 : (Jvm.Cond.fieldLink "Publicanry$Village" (128 : Nat) "Publicanry$Village" "fled" "I") ∈ lw_all := lw_g (lw_at lw_m4 157 rfl) rfl
theorem q952 : (Jvm.Cond.fieldLink "Publicanry$Village" (77 : Nat) "Publicanry$Village" "law" "I") ∈ lw_all := lw_g (lw_at lw_m4 159 rfl) rfl
theorem q954 : (Jvm.Cond.fieldLink "Publicanry$Village" (125 : Nat) "Publicanry$Village" "isInRevolt" "Z") ∈ lw_all := lw_g (lw_at lw_m4 161 rfl) rfl
theorem q956 : (Jvm.Cond.fieldLink "Publicanry$Village" (80 : Nat) "Publicanry$Village" "isBurnt" "Z") ∈ lw_all := lw_g (lw_at lw_m4 163 rfl) rfl
theorem q958 : (Jvm.Cond.laysFinal "Publicanry$Village" "Publicanry$Village" "number" "I") ∈ lw_all := lw_g (lw_at lw_m4 165 rfl) rfl
theorem q959 : (Jvm.Cond.soleField "Publicanry$Village" "number") ∈ lw_all := lw_g (lw_at lw_m4 166 rfl) rfl
theorem q960 : (Jvm.Cond.laysFinal "Publicanry$Village" "Publicanry$Village" "soil" "I") ∈ lw_all := lw_g (lw_at lw_m4 167 rfl) rfl
theorem q961 : (Jvm.Cond.soleField "Publicanry$Village" "soil") ∈ lw_all := lw_g (lw_at lw_m4 168 rfl) rfl
theorem q962 : (Jvm.Cond.laysFinal "Publicanry$Village" "Publicanry$Village" "chest" "LPublicanry$Chest;") ∈ lw_all := lw_g (lw_at lw_m4 169 rfl) rfl
theorem q963 : (Jvm.Cond.soleField "Publicanry$Village" "chest") ∈ lw_all := lw_g (lw_at lw_m4 170 rfl) rfl
theorem q964 : (Jvm.Cond.laysFinal "Publicanry$Village" "Publicanry$Village" "rates" "[I") ∈ lw_all := lw_g (lw_at lw_m4 171 rfl) rfl
theorem q965 : (Jvm.Cond.soleField "Publicanry$Village" "rates") ∈ lw_all := lw_g (lw_at lw_m4 172 rfl) rfl
theorem q966 : (Jvm.Cond.laysFinal "Publicanry$Village" "Publicanry$Village" "areExempt" "[Z") ∈ lw_all := lw_g (lw_at lw_m4 173 rfl) rfl
theorem q967 : (Jvm.Cond.soleField "Publicanry$Village" "areExempt") ∈ lw_all := lw_g (lw_at lw_m4 174 rfl) rfl
theorem q968 : (Jvm.Cond.laysFinal "Publicanry$Village" "Publicanry$Village" "levies" "Ljava/util/ArrayList;") ∈ lw_all := lw_g (lw_at lw_m4 175 rfl) rfl
theorem q969 : (Jvm.Cond.soleField "Publicanry$Village" "levies") ∈ lw_all := lw_g (lw_at lw_m4 176 rfl) rfl
theorem q970 : (Jvm.Cond.lays "Publicanry$Village" "Publicanry$Village" "houses" "I") ∈ lw_all := lw_g (lw_at lw_m4 177 rfl) rfl
theorem q971 : (Jvm.Cond.soleField "Publicanry$Village" "houses") ∈ lw_all := lw_g (lw_at lw_m4 178 rfl) rfl
theorem q972 : (Jvm.Cond.lays "Publicanry$Village" "Publicanry$Village" "fields" "I") ∈ lw_all := lw_g (lw_at lw_m4 179 rfl) rfl
theorem q973 : (Jvm.Cond.soleField "Publicanry$Village" "fields") ∈ lw_all := lw_g (lw_at lw_m4 180 rfl) rfl
theorem q974 : (Jvm.Cond.lays "Publicanry$Village" "Publicanry$Village" "herd" "I") ∈ lw_all := lw_g (lw_at lw_m4 181 rfl) rfl
theorem q975 : (Jvm.Cond.soleField "Publicanry$Village" "herd") ∈ lw_all := lw_g (lw_at lw_m4 182 rfl) rfl
theorem q976 : (Jvm.Cond.lays "Publicanry$Village" "Publicanry$Village" "grain" "I") ∈ lw_all := lw_g (lw_at lw_m4 183 rfl) rfl
theorem q977 : (Jvm.Cond.soleField "Publicanry$Village" "grain") ∈ lw_all := lw_g (lw_at lw_m4 184 rfl) rfl
theorem q978 : (Jvm.Cond.lays "Publicanry$Village" "Publicanry$Village" "debt" "I") ∈ lw_all := lw_g (lw_at lw_m4 185 rfl) rfl
theorem q979 : (Jvm.Cond.soleField "Publicanry$Village" "debt") ∈ lw_all := lw_g (lw_at lw_m4 186 rfl) rfl
theorem q980 : (Jvm.Cond.lays "Publicanry$Village" "Publicanry$Village" "unrest" "I") ∈ lw_all := lw_g (lw_at lw_m4 187 rfl) rfl
theorem q981 : (Jvm.Cond.soleField "Publicanry$Village" "unrest") ∈ lw_all := lw_g (lw_at lw_m4 188 rfl) rfl
theorem q982 : (Jvm.Cond.lays "Publicanry$Village" "Publicanry$Village" "register" "I") ∈ lw_all := lw_g (lw_at lw_m4 189 rfl) rfl
theorem q983 : (Jvm.Cond.soleField "Publicanry$Village" "register") ∈ lw_all := lw_g (lw_at lw_m4 190 rfl) rfl
theorem q984 : (Jvm.Cond.lays "Publicanry$Village" "Publicanry$Village" "yield" "I") ∈ lw_all := lw_g (lw_at lw_m4 191 rfl) rfl
theorem q985 : (Jvm.Cond.soleField "Publicanry$Village" "yield") ∈ lw_all := lw_g (lw_at lw_m4 192 rfl) rfl
theorem q986 : (Jvm.Cond.lays "Publicanry$Village" "Publicanry$Village" "fled" "I") ∈ lw_all := lw_g (lw_at lw_m4 193 rfl) rfl
theorem q987 : (Jvm.Cond.soleField "Publicanry$Village" "fled") ∈ lw_all := lw_g (lw_at lw_m4 194 rfl) rfl
theorem q988 : (Jvm.Cond.lays "Publicanry$Village" "Publicanry$Village" "law" "I") ∈ lw_all := lw_g (lw_at lw_m4 195 rfl) rfl
theorem q989 : (Jvm.Cond.soleField "Publicanry$Village" "law") ∈ lw_all := lw_g (lw_at lw_m4 196 rfl) rfl
theorem q990 : (Jvm.Cond.lays "Publicanry$Village" "Publicanry$Village" "isInRevolt" "Z") ∈ lw_all := lw_g (lw_at lw_m4 197 rfl) rfl
theorem q991 : (Jvm.Cond.soleField "Publicanry$Village" "isInRevolt") ∈ lw_all := lw_g (lw_at lw_m4 198 rfl) rfl
theorem q992 : (Jvm.Cond.lays "Publicanry$Village" "Publicanry$Village" "isBurnt" "Z") ∈ lw_all := lw_g (lw_at lw_m4 199 rfl) rfl
theorem q993 : (Jvm.Cond.soleField "Publicanry$Village" "isBurnt") ∈ lw_all := lw_g (lw_at lw_m4 200 rfl) rfl
theorem q994 : (Jvm.Cond.superclass "Publicanry$Village" "java/lang/Object") ∈ lw_all := lw_g (lw_at lw_m4 201 rfl) rfl
theorem q998 : (Jvm.Cond.instanceMethod ({ cls := "Publicanry$Village", name := "cut", desc := "([LPublicanry$Rule;I)V" } : Jvm.MethodName)) ∈ lw_all := lw_g (lw_at lw_m4 205 rfl) rfl
theorem q999 : (Jvm.Cond.selects "Publicanry$Village" ({ cls := "Publicanry$Village", name := "cut", desc := "([LPublicanry$Rule;I)V" } : Jvm.MethodName) ({ cls := "Publicanry$Village", name := "cut", desc := "([LPublicanry$Rule;I)V" } : Jvm.MethodName)) ∈ lw_all := lw_g (lw_at lw_m4 206 rfl) rfl
theorem q1000 : (Jvm.Cond.code ({ cls := "Publicanry$Village", name := "cut", desc := "([LPublicanry$Rule;I)V" } : Jvm.MethodName) prog_15_method_2_code (4 : Nat) (Option.none : Option Jvm.ClassFile.FieldType)) ∈ lw_all := lw_g (lw_at lw_m4 207 rfl) rfl
theorem q1001 : (Jvm.Cond.methodLinkNest "Publicanry$Village" (73 : Nat) ({ cls := "Publicanry", name := "has", desc := "(II)Z" } : Jvm.MethodName) "Publicanry") ∈ lw_tbl := lw_at lw_m4 208 rfl
theorem q1443 : (Jvm.Cond.instanceMethod ({ cls := "Publicanry$Village", name := "stir", desc := "(I)V" } : Jvm.MethodName)) ∈ lw_all := lw_g (lw_at lw_m6 170 rfl) rfl
theorem q1444 : (Jvm.Cond.selects "Publicanry$Village" ({ cls := "Publicanry$Village", name := "stir", desc := "(I)V" } : Jvm.MethodName) ({ cls := "Publicanry$Village", name := "stir", desc := "(I)V" } : Jvm.MethodName)) ∈ lw_all := lw_g (lw_at lw_m6 171 rfl) rfl
theorem q1445 : (Jvm.Cond.code ({ cls := "Publicanry$Village", name := "stir", desc := "(I)V" } : Jvm.MethodName) prog_15_method_6_code (2 : Nat) (Option.none : Option Jvm.ClassFile.FieldType)) ∈ lw_all := lw_g (lw_at lw_m6 172 rfl) rfl
theorem q1522 : (Jvm.Cond.instanceMethod ({ cls := "Publicanry$Village", name := "reap", desc := "(I)V" } : Jvm.MethodName)) ∈ lw_all := lw_g (lw_at lw_m7 9 rfl) rfl
theorem q1523 : (Jvm.Cond.selects "Publicanry$Village" ({ cls := "Publicanry$Village", name := "reap", desc := "(I)V" } : Jvm.MethodName) ({ cls := "Publicanry$Village", name := "reap", desc := "(I)V" } : Jvm.MethodName)) ∈ lw_all := lw_g (lw_at lw_m7 10 rfl) rfl
theorem q1524 : (Jvm.Cond.code ({ cls := "Publicanry$Village", name := "reap", desc := "(I)V" } : Jvm.MethodName) prog_15_method_4_code (2 : Nat) (Option.none : Option Jvm.ClassFile.FieldType)) ∈ lw_all := lw_g (lw_at lw_m7 11 rfl) rfl
theorem q1525 : (Jvm.Cond.methodLink "Publicanry$Village" (84 : Nat) ({ cls := "Publicanry$Village", name := "harvest", desc := "(I)I" } : Jvm.MethodName)) ∈ lw_all := lw_g (lw_at lw_m7 12 rfl) rfl
theorem q1526 : (Jvm.Cond.instanceMethod ({ cls := "Publicanry$Village", name := "harvest", desc := "(I)I" } : Jvm.MethodName)) ∈ lw_all := lw_g (lw_at lw_m7 13 rfl) rfl
theorem q1527 : (Jvm.Cond.selects "Publicanry$Village" ({ cls := "Publicanry$Village", name := "harvest", desc := "(I)I" } : Jvm.MethodName) ({ cls := "Publicanry$Village", name := "harvest", desc := "(I)I" } : Jvm.MethodName)) ∈ lw_all := lw_g (lw_at lw_m7 14 rfl) rfl
theorem q1528 : (Jvm.Cond.code ({ cls := "Publicanry$Village", name := "harvest", desc := "(I)I" } : Jvm.MethodName) prog_15_method_3_code (3 : Nat) (Option.some Jvm.ClassFile.FieldType.int)) ∈ lw_all := lw_g (lw_at lw_m7 15 rfl) rfl
theorem q1529 : (Jvm.Cond.methodLink "Publicanry$Village" (91 : Nat) ({ cls := "java/lang/Math", name := "min", desc := "(II)I" } : Jvm.MethodName)) ∈ lw_all := lw_g (lw_at lw_m7 16 rfl) rfl
theorem q1575 : (Jvm.Cond.instanceMethod ({ cls := "Publicanry$Village", name := "eat", desc := "(LPublicanry$Chest;)V" } : Jvm.MethodName)) ∈ lw_all := lw_g (lw_at lw_m7 62 rfl) rfl
theorem q1576 : (Jvm.Cond.selects "Publicanry$Village" ({ cls := "Publicanry$Village", name := "eat", desc := "(LPublicanry$Chest;)V" } : Jvm.MethodName) ({ cls := "Publicanry$Village", name := "eat", desc := "(LPublicanry$Chest;)V" } : Jvm.MethodName)) ∈ lw_all := lw_g (lw_at lw_m7 63 rfl) rfl
theorem q1577 : (Jvm.Cond.code ({ cls := "Publicanry$Village", name := "eat", desc := "(LPublicanry$Chest;)V" } : Jvm.MethodName) prog_15_method_7_code (4 : Nat) (Option.none : Option Jvm.ClassFile.FieldType)) ∈ lw_all := lw_g (lw_at lw_m7 64 rfl) rfl
theorem q1578 : (Jvm.Cond.methodLink "Publicanry$Village" (111 : Nat) ({ cls := "java/lang/Math", name := "max", desc := "(II)I" } : Jvm.MethodName)) ∈ lw_all := lw_g (lw_at lw_m7 65 rfl) rfl
theorem q1579 : (Jvm.Cond.methodLink "Publicanry$Village" (114 : Nat) ({ cls := "Publicanry$Chest", name := "coins", desc := "()I" } : Jvm.MethodName)) ∈ lw_all := lw_g (lw_at lw_m7 66 rfl) rfl
theorem q1580 : (Jvm.Cond.methodLink "Publicanry$Village" (118 : Nat) ({ cls := "Publicanry$Village", name := "flee", desc := "()V" } : Jvm.MethodName)) ∈ lw_all := lw_g (lw_at lw_m7 67 rfl) rfl
theorem q1581 : (Jvm.Cond.privateMethod ({ cls := "Publicanry$Village", name := "flee", desc := "()V" } : Jvm.MethodName)) ∈ lw_tbl := lw_at lw_m7 68 rfl
theorem q1582 : (Jvm.Cond.instanceMethod ({ cls := "Publicanry$Village", name := "flee", desc := "()V" } : Jvm.MethodName)) ∈ lw_all := lw_g (lw_at lw_m7 69 rfl) rfl
theorem q1583 : (Jvm.Cond.code ({ cls := "Publicanry$Village", name := "flee", desc := "()V" } : Jvm.MethodName) prog_15_method_8_code (2 : Nat) (Option.none : Option Jvm.ClassFile.FieldType)) ∈ lw_all := lw_g (lw_at lw_m7 70 rfl) rfl
theorem q1584 : (Jvm.Cond.methodLink "Publicanry$Village" (121 : Nat) ({ cls := "Publicanry$Village", name := "stir", desc := "(I)V" } : Jvm.MethodName)) ∈ lw_all := lw_g (lw_at lw_m7 71 rfl) rfl
theorem q1586 : (Jvm.Cond.instanceMethod ({ cls := "Publicanry$Village", name := "sell", desc := "(LPublicanry$Chest;)V" } : Jvm.MethodName)) ∈ lw_all := lw_g (lw_at lw_m7 73 rfl) rfl
theorem q1587 : (Jvm.Cond.selects "Publicanry$Village" ({ cls := "Publicanry$Village", name := "sell", desc := "(LPublicanry$Chest;)V" } : Jvm.MethodName) ({ cls := "Publicanry$Village", name := "sell", desc := "(LPublicanry$Chest;)V" } : Jvm.MethodName)) ∈ lw_all := lw_g (lw_at lw_m7 74 rfl) rfl
theorem q1588 : (Jvm.Cond.code ({ cls := "Publicanry$Village", name := "sell", desc := "(LPublicanry$Chest;)V" } : Jvm.MethodName) prog_15_method_9_code (3 : Nat) (Option.none : Option Jvm.ClassFile.FieldType)) ∈ lw_all := lw_g (lw_at lw_m7 75 rfl) rfl
theorem q2443 : (Jvm.Cond.selects "Publicanry$Village" ({ cls := "java/lang/Object", name := "equals", desc := "(Ljava/lang/Object;)Z" } : Jvm.MethodName) ({ cls := "java/lang/Object", name := "equals", desc := "(Ljava/lang/Object;)Z" } : Jvm.MethodName)) ∈ lw_all := lw_g (lw_at lw_m10 210 rfl) rfl
theorem q2667 : (Jvm.Cond.castable "Publicanry$Village" "java/lang/Object") ∈ lw_tbl := lw_at lw_m11 194 rfl
theorem in_X10 : ∀ w ∈ wsX100, w ∈ lw_all := lw_in wsX100 [958, 960, 962, 964, 966, 968, 970, 972, 974, 976, 978, 980, 982, 984, 986, 988, 990, 992] (by decide +kernel) (by decide +kernel)
/-! Publicanry$Company -/
set_option maxRecDepth 100000
def RX12 : String := "Publicanry$Company"
def TX12 : u_T := fun k => match k with
  | 0 => ("Publicanry$Company", "number", "I", true)
  | 1 => ("Publicanry$Company", "chest", "LPublicanry$Chest;", true)
  | 2 => ("Publicanry$Company", "partners", "Ljava/util/ArrayList;", true)
  | 3 => ("Publicanry$Company", "land", "I", false)
  | 4 => ("Publicanry$Company", "pledged", "I", false)
  | 5 => ("Publicanry$Company", "ring", "I", false)
  | 6 => ("Publicanry$Company", "force", "I", false)
  | 7 => ("Publicanry$Company", "credit", "I", false)
  | 8 => ("Publicanry$Company", "gifts", "I", false)
  | 9 => ("Publicanry$Company", "brought", "I", false)
  | 10 => ("Publicanry$Company", "paid", "I", false)
  | _ => ("Publicanry$Company", "isBanned", "Z", false)
def tyX12 : Nat → FieldType := fun k => match k with
  | 0 => .int
  | 1 => .object "Publicanry$Chest"
  | 2 => .object "java/util/ArrayList"
  | 3 => .int
  | 4 => .int
  | 5 => .int
  | 6 => .int
  | 7 => .int
  | 8 => .int
  | 9 => .int
  | 10 => .int
  | _ => .boolean
abbrev wsX120 : List Cond := u_ws RX12 TX12 12
theorem nmX12 : ∀ a, a < 12 → ∀ b, b < 12 → a ≠ b → (TX12 a).2.1 ≠ (TX12 b).2.1 := by decide +kernel
theorem tyX12_ok : ∀ k, k < 12 → parseFieldDescriptor (TX12 k).2.2.1 = some (tyX12 k) := by decide +kernel
abbrev cX12_shares : ByteArray := prog_3_method_2_code
def yX12_shares : MethodName := ⟨RX12, "shares", "()I"⟩
def dkwX12_shares_1 : List UInt8 := [185, 0, 45, 1, 0, 192, 0, 49, 78, 27, 45, 180, 0, 51, 96, 60, 167, 255, 230, 27, 172]
abbrev dktX12_shares_1 : List UInt8 := dkwX12_shares_1 ++ []
def dkwX12_shares_0 : List UInt8 := [3, 60, 42, 180, 0, 21, 182, 0, 35, 77, 44, 185, 0, 39, 1, 0, 153, 0, 23, 44]
abbrev dktX12_shares_0 : List UInt8 := dkwX12_shares_0 ++ dktX12_shares_1
theorem dksX12_shares_0 : cX12_shares.data.toList.drop 0 = dktX12_shares_0 := by decide +kernel
theorem dksX12_shares_1 : cX12_shares.data.toList.drop 20 = dktX12_shares_1 := dk_seg dksX12_shares_0 20 rfl rfl
theorem dX12_shares_0 : decode cX12_shares 0 = .ok (.iconst 0, 1) := dk_3 (dk_at dksX12_shares_0 0 rfl rfl)
theorem dX12_shares_1 : decode cX12_shares 1 = .ok (.istore_n 1, 1) := dk_60 (dk_at dksX12_shares_0 1 rfl rfl)
theorem dX12_shares_2 : decode cX12_shares 2 = .ok (.aload_n 0, 1) := dk_42 (dk_at dksX12_shares_0 2 rfl rfl)
theorem dX12_shares_3 : decode cX12_shares 3 = .ok (.getfield 21, 3) := dk_180 0 21 (dk_at dksX12_shares_0 3 rfl rfl)
theorem dX12_shares_6 : decode cX12_shares 6 = .ok (.invokevirtual 35, 3) := dk_182 0 35 (dk_at dksX12_shares_0 6 rfl rfl)
theorem dX12_shares_9 : decode cX12_shares 9 = .ok (.astore_n 2, 1) := dk_77 (dk_at dksX12_shares_0 9 rfl rfl)
theorem dX12_shares_10 : decode cX12_shares 10 = .ok (.aload_n 2, 1) := dk_44 (dk_at dksX12_shares_0 10 rfl rfl)
theorem dX12_shares_11 : decode cX12_shares 11 = .ok (.invokeinterface 39 1, 5) := by decide +kernel
theorem dX12_shares_16 : decode cX12_shares 16 = .ok (.ifCond .eq 23, 3) := dk_153 0 23 (dk_at dksX12_shares_0 16 rfl rfl)
theorem dX12_shares_19 : decode cX12_shares 19 = .ok (.aload_n 2, 1) := dk_44 (dk_at dksX12_shares_0 19 rfl rfl)
theorem dX12_shares_20 : decode cX12_shares 20 = .ok (.invokeinterface 45 1, 5) := by decide +kernel
theorem dX12_shares_25 : decode cX12_shares 25 = .ok (.checkcast 49, 3) := dk_192 0 49 (dk_at dksX12_shares_1 5 rfl rfl)
theorem dX12_shares_28 : decode cX12_shares 28 = .ok (.astore_n 3, 1) := dk_78 (dk_at dksX12_shares_1 8 rfl rfl)
theorem dX12_shares_29 : decode cX12_shares 29 = .ok (.iload_n 1, 1) := dk_27 (dk_at dksX12_shares_1 9 rfl rfl)
theorem dX12_shares_30 : decode cX12_shares 30 = .ok (.aload_n 3, 1) := dk_45 (dk_at dksX12_shares_1 10 rfl rfl)
theorem dX12_shares_31 : decode cX12_shares 31 = .ok (.getfield 51, 3) := dk_180 0 51 (dk_at dksX12_shares_1 11 rfl rfl)
theorem dX12_shares_34 : decode cX12_shares 34 = .ok (.iadd, 1) := dk_96 (dk_at dksX12_shares_1 14 rfl rfl)
theorem dX12_shares_35 : decode cX12_shares 35 = .ok (.istore_n 1, 1) := dk_60 (dk_at dksX12_shares_1 15 rfl rfl)
theorem dX12_shares_36 : decode cX12_shares 36 = .ok (.goto (-26), 3) := dk_167 255 230 (dk_at dksX12_shares_1 16 rfl rfl)
theorem dX12_shares_39 : decode cX12_shares 39 = .ok (.iload_n 1, 1) := dk_27 (dk_at dksX12_shares_1 19 rfl rfl)
theorem dX12_shares_40 : decode cX12_shares 40 = .ok (.ireturn, 1) := dk_172 (dk_at dksX12_shares_1 20 rfl rfl)
abbrev cX12_gain : ByteArray := prog_3_method_6_code
def yX12_gain : MethodName := ⟨RX12, "gain", "()D"⟩
def dkwX12_gain_1 : List UInt8 := [175]
abbrev dktX12_gain_1 : List UInt8 := dkwX12_gain_1 ++ []
def dkwX12_gain_0 : List UInt8 := [42, 180, 0, 76, 135, 72, 42, 180, 0, 79, 154, 0, 7, 14, 167, 0, 10, 39, 42, 180, 0, 79, 135, 111]
abbrev dktX12_gain_0 : List UInt8 := dkwX12_gain_0 ++ dktX12_gain_1
theorem dksX12_gain_0 : cX12_gain.data.toList.drop 0 = dktX12_gain_0 := by decide +kernel
theorem dksX12_gain_1 : cX12_gain.data.toList.drop 24 = dktX12_gain_1 := dk_seg dksX12_gain_0 24 rfl rfl
theorem dX12_gain_0 : decode cX12_gain 0 = .ok (.aload_n 0, 1) := dk_42 (dk_at dksX12_gain_0 0 rfl rfl)
theorem dX12_gain_1 : decode cX12_gain 1 = .ok (.getfield 76, 3) := dk_180 0 76 (dk_at dksX12_gain_0 1 rfl rfl)
theorem dX12_gain_4 : decode cX12_gain 4 = .ok (.i2d, 1) := dk_135 (dk_at dksX12_gain_0 4 rfl rfl)
theorem dX12_gain_5 : decode cX12_gain 5 = .ok (.dstore_n 1, 1) := dk_72 (dk_at dksX12_gain_0 5 rfl rfl)
theorem dX12_gain_6 : decode cX12_gain 6 = .ok (.aload_n 0, 1) := dk_42 (dk_at dksX12_gain_0 6 rfl rfl)
theorem dX12_gain_7 : decode cX12_gain 7 = .ok (.getfield 79, 3) := dk_180 0 79 (dk_at dksX12_gain_0 7 rfl rfl)
theorem dX12_gain_10 : decode cX12_gain 10 = .ok (.ifCond .ne 7, 3) := dk_154 0 7 (dk_at dksX12_gain_0 10 rfl rfl)
theorem dX12_gain_13 : decode cX12_gain 13 = .ok (.dconst 0, 1) := dk_14 (dk_at dksX12_gain_0 13 rfl rfl)
theorem dX12_gain_14 : decode cX12_gain 14 = .ok (.goto 10, 3) := dk_167 0 10 (dk_at dksX12_gain_0 14 rfl rfl)
theorem dX12_gain_17 : decode cX12_gain 17 = .ok (.dload_n 1, 1) := dk_39 (dk_at dksX12_gain_0 17 rfl rfl)
theorem dX12_gain_18 : decode cX12_gain 18 = .ok (.aload_n 0, 1) := dk_42 (dk_at dksX12_gain_0 18 rfl rfl)
theorem dX12_gain_19 : decode cX12_gain 19 = .ok (.getfield 79, 3) := dk_180 0 79 (dk_at dksX12_gain_0 19 rfl rfl)
theorem dX12_gain_22 : decode cX12_gain 22 = .ok (.i2d, 1) := dk_135 (dk_at dksX12_gain_0 22 rfl rfl)
theorem dX12_gain_23 : decode cX12_gain 23 = .ok (.ddiv, 1) := dk_111 (dk_at dksX12_gain_0 23 rfl rfl)
theorem dX12_gain_24 : decode cX12_gain 24 = .ok (.dreturn, 1) := dk_175 (dk_at dksX12_gain_1 0 rfl rfl)
abbrev cX12_init : ByteArray := prog_3_method_1_code
def yX12_init : MethodName := ⟨RX12, "<init>", "(III)V"⟩
def dkwX12_init_1 : List UInt8 := [181, 0, 21, 42, 27, 181, 0, 25, 42, 28, 181, 0, 29, 42, 29, 181, 0, 32, 177]
abbrev dktX12_init_1 : List UInt8 := dkwX12_init_1 ++ []
def dkwX12_init_0 : List UInt8 := [42, 183, 0, 3, 42, 187, 0, 9, 89, 183, 0, 11, 181, 0, 12, 42, 187, 0, 18, 89, 183, 0, 20]
abbrev dktX12_init_0 : List UInt8 := dkwX12_init_0 ++ dktX12_init_1
theorem dksX12_init_0 : cX12_init.data.toList.drop 0 = dktX12_init_0 := by decide +kernel
theorem dksX12_init_1 : cX12_init.data.toList.drop 23 = dktX12_init_1 := dk_seg dksX12_init_0 23 rfl rfl
theorem dX12_init_0 : decode cX12_init 0 = .ok (.aload_n 0, 1) := dk_42 (dk_at dksX12_init_0 0 rfl rfl)
theorem dX12_init_1 : decode cX12_init 1 = .ok (.invokespecial 3, 3) := dk_183 0 3 (dk_at dksX12_init_0 1 rfl rfl)
theorem dX12_init_4 : decode cX12_init 4 = .ok (.aload_n 0, 1) := dk_42 (dk_at dksX12_init_0 4 rfl rfl)
theorem dX12_init_5 : decode cX12_init 5 = .ok (.new 9, 3) := dk_187 0 9 (dk_at dksX12_init_0 5 rfl rfl)
theorem dX12_init_8 : decode cX12_init 8 = .ok (.dup, 1) := dk_89 (dk_at dksX12_init_0 8 rfl rfl)
theorem dX12_init_9 : decode cX12_init 9 = .ok (.invokespecial 11, 3) := dk_183 0 11 (dk_at dksX12_init_0 9 rfl rfl)
theorem dX12_init_12 : decode cX12_init 12 = .ok (.putfield 12, 3) := dk_181 0 12 (dk_at dksX12_init_0 12 rfl rfl)
theorem dX12_init_15 : decode cX12_init 15 = .ok (.aload_n 0, 1) := dk_42 (dk_at dksX12_init_0 15 rfl rfl)
theorem dX12_init_16 : decode cX12_init 16 = .ok (.new 18, 3) := dk_187 0 18 (dk_at dksX12_init_0 16 rfl rfl)
theorem dX12_init_19 : decode cX12_init 19 = .ok (.dup, 1) := dk_89 (dk_at dksX12_init_0 19 rfl rfl)
theorem dX12_init_20 : decode cX12_init 20 = .ok (.invokespecial 20, 3) := dk_183 0 20 (dk_at dksX12_init_0 20 rfl rfl)
theorem dX12_init_23 : decode cX12_init 23 = .ok (.putfield 21, 3) := dk_181 0 21 (dk_at dksX12_init_1 0 rfl rfl)
theorem dX12_init_26 : decode cX12_init 26 = .ok (.aload_n 0, 1) := dk_42 (dk_at dksX12_init_1 3 rfl rfl)
theorem dX12_init_27 : decode cX12_init 27 = .ok (.iload_n 1, 1) := dk_27 (dk_at dksX12_init_1 4 rfl rfl)
theorem dX12_init_28 : decode cX12_init 28 = .ok (.putfield 25, 3) := dk_181 0 25 (dk_at dksX12_init_1 5 rfl rfl)
theorem dX12_init_31 : decode cX12_init 31 = .ok (.aload_n 0, 1) := dk_42 (dk_at dksX12_init_1 8 rfl rfl)
theorem dX12_init_32 : decode cX12_init 32 = .ok (.iload_n 2, 1) := dk_28 (dk_at dksX12_init_1 9 rfl rfl)
theorem dX12_init_33 : decode cX12_init 33 = .ok (.putfield 29, 3) := dk_181 0 29 (dk_at dksX12_init_1 10 rfl rfl)
theorem dX12_init_36 : decode cX12_init 36 = .ok (.aload_n 0, 1) := dk_42 (dk_at dksX12_init_1 13 rfl rfl)
theorem dX12_init_37 : decode cX12_init 37 = .ok (.iload_n 3, 1) := dk_29 (dk_at dksX12_init_1 14 rfl rfl)
theorem dX12_init_38 : decode cX12_init 38 = .ok (.putfield 32, 3) := dk_181 0 32 (dk_at dksX12_init_1 15 rfl rfl)
theorem dX12_init_41 : decode cX12_init 41 = .ok (.return_, 1) := dk_177 (dk_at dksX12_init_1 18 rfl rfl)
abbrev cX12_shareOut : ByteArray := prog_3_method_3_code
def yX12_shareOut : MethodName := ⟨RX12, "shareOut", "(I)V"⟩
def dkwX12_shareOut_6 : List UInt8 := [132, 4, 255, 167, 255, 213, 177]
abbrev dktX12_shareOut_6 : List UInt8 := dkwX12_shareOut_6 ++ []
def dkwX12_shareOut_5 : List UInt8 := [182, 0, 60, 192, 0, 49, 89, 180, 0, 64, 4, 96, 181, 0, 64, 45, 21, 5, 20, 0, 71, 80]
abbrev dktX12_shareOut_5 : List UInt8 := dkwX12_shareOut_5 ++ dktX12_shareOut_6
def dkwX12_shareOut_4 : List UInt8 := [132, 5, 1, 167, 255, 174, 21, 4, 158, 0, 44, 42, 45, 182, 0, 67, 54, 5, 42, 180, 0, 21, 21, 5]
abbrev dktX12_shareOut_4 : List UInt8 := dkwX12_shareOut_4 ++ dktX12_shareOut_5
def dkwX12_shareOut_3 : List UInt8 := [182, 0, 60, 192, 0, 49, 89, 180, 0, 64, 21, 8, 96, 181, 0, 64, 21, 4, 21, 8, 100, 54, 4]
abbrev dktX12_shareOut_3 : List UInt8 := dkwX12_shareOut_3 ++ dktX12_shareOut_4
def dkwX12_shareOut_2 : List UInt8 := [22, 6, 28, 133, 109, 136, 54, 8, 45, 21, 5, 22, 6, 28, 133, 113, 80, 42, 180, 0, 21, 21, 5]
abbrev dktX12_shareOut_2 : List UInt8 := dkwX12_shareOut_2 ++ dktX12_shareOut_3
def dkwX12_shareOut_1 : List UInt8 := [162, 0, 76, 27, 133, 42, 180, 0, 21, 21, 5, 182, 0, 60, 192, 0, 49, 180, 0, 51, 133, 105, 55, 6]
abbrev dktX12_shareOut_1 : List UInt8 := dkwX12_shareOut_1 ++ dktX12_shareOut_2
def dkwX12_shareOut_0 : List UInt8 := [42, 182, 0, 54, 61, 8, 188, 11, 78, 27, 54, 4, 3, 54, 5, 21, 5, 42, 180, 0, 21, 182, 0, 57]
abbrev dktX12_shareOut_0 : List UInt8 := dkwX12_shareOut_0 ++ dktX12_shareOut_1
theorem dksX12_shareOut_0 : cX12_shareOut.data.toList.drop 0 = dktX12_shareOut_0 := by decide +kernel
theorem dksX12_shareOut_1 : cX12_shareOut.data.toList.drop 24 = dktX12_shareOut_1 := dk_seg dksX12_shareOut_0 24 rfl rfl
theorem dksX12_shareOut_2 : cX12_shareOut.data.toList.drop 48 = dktX12_shareOut_2 := dk_seg dksX12_shareOut_1 24 rfl rfl
theorem dksX12_shareOut_3 : cX12_shareOut.data.toList.drop 71 = dktX12_shareOut_3 := dk_seg dksX12_shareOut_2 23 rfl rfl
theorem dksX12_shareOut_4 : cX12_shareOut.data.toList.drop 94 = dktX12_shareOut_4 := dk_seg dksX12_shareOut_3 23 rfl rfl
theorem dksX12_shareOut_5 : cX12_shareOut.data.toList.drop 118 = dktX12_shareOut_5 := dk_seg dksX12_shareOut_4 24 rfl rfl
theorem dksX12_shareOut_6 : cX12_shareOut.data.toList.drop 140 = dktX12_shareOut_6 := dk_seg dksX12_shareOut_5 22 rfl rfl
theorem dX12_shareOut_0 : decode cX12_shareOut 0 = .ok (.aload_n 0, 1) := dk_42 (dk_at dksX12_shareOut_0 0 rfl rfl)
theorem dX12_shareOut_1 : decode cX12_shareOut 1 = .ok (.invokevirtual 54, 3) := dk_182 0 54 (dk_at dksX12_shareOut_0 1 rfl rfl)
theorem dX12_shareOut_4 : decode cX12_shareOut 4 = .ok (.istore_n 2, 1) := dk_61 (dk_at dksX12_shareOut_0 4 rfl rfl)
theorem dX12_shareOut_5 : decode cX12_shareOut 5 = .ok (.iconst 5, 1) := dk_8 (dk_at dksX12_shareOut_0 5 rfl rfl)
theorem dX12_shareOut_6 : decode cX12_shareOut 6 = .ok (.newarray .long, 2) := dk_188_11 (dk_at dksX12_shareOut_0 6 rfl rfl)
theorem dX12_shareOut_8 : decode cX12_shareOut 8 = .ok (.astore_n 3, 1) := dk_78 (dk_at dksX12_shareOut_0 8 rfl rfl)
theorem dX12_shareOut_9 : decode cX12_shareOut 9 = .ok (.iload_n 1, 1) := dk_27 (dk_at dksX12_shareOut_0 9 rfl rfl)
theorem dX12_shareOut_10 : decode cX12_shareOut 10 = .ok (.istore 4, 2) := dk_54 4 (dk_at dksX12_shareOut_0 10 rfl rfl)
theorem dX12_shareOut_12 : decode cX12_shareOut 12 = .ok (.iconst 0, 1) := dk_3 (dk_at dksX12_shareOut_0 12 rfl rfl)
theorem dX12_shareOut_13 : decode cX12_shareOut 13 = .ok (.istore 5, 2) := dk_54 5 (dk_at dksX12_shareOut_0 13 rfl rfl)
theorem dX12_shareOut_15 : decode cX12_shareOut 15 = .ok (.iload 5, 2) := dk_21 5 (dk_at dksX12_shareOut_0 15 rfl rfl)
theorem dX12_shareOut_17 : decode cX12_shareOut 17 = .ok (.aload_n 0, 1) := dk_42 (dk_at dksX12_shareOut_0 17 rfl rfl)
theorem dX12_shareOut_18 : decode cX12_shareOut 18 = .ok (.getfield 21, 3) := dk_180 0 21 (dk_at dksX12_shareOut_0 18 rfl rfl)
theorem dX12_shareOut_21 : decode cX12_shareOut 21 = .ok (.invokevirtual 57, 3) := dk_182 0 57 (dk_at dksX12_shareOut_0 21 rfl rfl)
theorem dX12_shareOut_24 : decode cX12_shareOut 24 = .ok (.if_icmp .ge 76, 3) := dk_162 0 76 (dk_at dksX12_shareOut_1 0 rfl rfl)
theorem dX12_shareOut_27 : decode cX12_shareOut 27 = .ok (.iload_n 1, 1) := dk_27 (dk_at dksX12_shareOut_1 3 rfl rfl)
theorem dX12_shareOut_28 : decode cX12_shareOut 28 = .ok (.i2l, 1) := dk_133 (dk_at dksX12_shareOut_1 4 rfl rfl)
theorem dX12_shareOut_29 : decode cX12_shareOut 29 = .ok (.aload_n 0, 1) := dk_42 (dk_at dksX12_shareOut_1 5 rfl rfl)
theorem dX12_shareOut_30 : decode cX12_shareOut 30 = .ok (.getfield 21, 3) := dk_180 0 21 (dk_at dksX12_shareOut_1 6 rfl rfl)
theorem dX12_shareOut_33 : decode cX12_shareOut 33 = .ok (.iload 5, 2) := dk_21 5 (dk_at dksX12_shareOut_1 9 rfl rfl)
theorem dX12_shareOut_35 : decode cX12_shareOut 35 = .ok (.invokevirtual 60, 3) := dk_182 0 60 (dk_at dksX12_shareOut_1 11 rfl rfl)
theorem dX12_shareOut_38 : decode cX12_shareOut 38 = .ok (.checkcast 49, 3) := dk_192 0 49 (dk_at dksX12_shareOut_1 14 rfl rfl)
theorem dX12_shareOut_41 : decode cX12_shareOut 41 = .ok (.getfield 51, 3) := dk_180 0 51 (dk_at dksX12_shareOut_1 17 rfl rfl)
theorem dX12_shareOut_44 : decode cX12_shareOut 44 = .ok (.i2l, 1) := dk_133 (dk_at dksX12_shareOut_1 20 rfl rfl)
theorem dX12_shareOut_45 : decode cX12_shareOut 45 = .ok (.lmul, 1) := dk_105 (dk_at dksX12_shareOut_1 21 rfl rfl)
theorem dX12_shareOut_46 : decode cX12_shareOut 46 = .ok (.lstore 6, 2) := dk_55 6 (dk_at dksX12_shareOut_1 22 rfl rfl)
theorem dX12_shareOut_48 : decode cX12_shareOut 48 = .ok (.lload 6, 2) := dk_22 6 (dk_at dksX12_shareOut_2 0 rfl rfl)
theorem dX12_shareOut_50 : decode cX12_shareOut 50 = .ok (.iload_n 2, 1) := dk_28 (dk_at dksX12_shareOut_2 2 rfl rfl)
theorem dX12_shareOut_51 : decode cX12_shareOut 51 = .ok (.i2l, 1) := dk_133 (dk_at dksX12_shareOut_2 3 rfl rfl)
theorem dX12_shareOut_52 : decode cX12_shareOut 52 = .ok (.ldiv, 1) := dk_109 (dk_at dksX12_shareOut_2 4 rfl rfl)
theorem dX12_shareOut_53 : decode cX12_shareOut 53 = .ok (.l2i, 1) := dk_136 (dk_at dksX12_shareOut_2 5 rfl rfl)
theorem dX12_shareOut_54 : decode cX12_shareOut 54 = .ok (.istore 8, 2) := dk_54 8 (dk_at dksX12_shareOut_2 6 rfl rfl)
theorem dX12_shareOut_56 : decode cX12_shareOut 56 = .ok (.aload_n 3, 1) := dk_45 (dk_at dksX12_shareOut_2 8 rfl rfl)
theorem dX12_shareOut_57 : decode cX12_shareOut 57 = .ok (.iload 5, 2) := dk_21 5 (dk_at dksX12_shareOut_2 9 rfl rfl)
theorem dX12_shareOut_59 : decode cX12_shareOut 59 = .ok (.lload 6, 2) := dk_22 6 (dk_at dksX12_shareOut_2 11 rfl rfl)
theorem dX12_shareOut_61 : decode cX12_shareOut 61 = .ok (.iload_n 2, 1) := dk_28 (dk_at dksX12_shareOut_2 13 rfl rfl)
theorem dX12_shareOut_62 : decode cX12_shareOut 62 = .ok (.i2l, 1) := dk_133 (dk_at dksX12_shareOut_2 14 rfl rfl)
theorem dX12_shareOut_63 : decode cX12_shareOut 63 = .ok (.lrem, 1) := dk_113 (dk_at dksX12_shareOut_2 15 rfl rfl)
theorem dX12_shareOut_64 : decode cX12_shareOut 64 = .ok (.lastore, 1) := dk_80 (dk_at dksX12_shareOut_2 16 rfl rfl)
theorem dX12_shareOut_65 : decode cX12_shareOut 65 = .ok (.aload_n 0, 1) := dk_42 (dk_at dksX12_shareOut_2 17 rfl rfl)
theorem dX12_shareOut_66 : decode cX12_shareOut 66 = .ok (.getfield 21, 3) := dk_180 0 21 (dk_at dksX12_shareOut_2 18 rfl rfl)
theorem dX12_shareOut_69 : decode cX12_shareOut 69 = .ok (.iload 5, 2) := dk_21 5 (dk_at dksX12_shareOut_2 21 rfl rfl)
theorem dX12_shareOut_71 : decode cX12_shareOut 71 = .ok (.invokevirtual 60, 3) := dk_182 0 60 (dk_at dksX12_shareOut_3 0 rfl rfl)
theorem dX12_shareOut_74 : decode cX12_shareOut 74 = .ok (.checkcast 49, 3) := dk_192 0 49 (dk_at dksX12_shareOut_3 3 rfl rfl)
theorem dX12_shareOut_77 : decode cX12_shareOut 77 = .ok (.dup, 1) := dk_89 (dk_at dksX12_shareOut_3 6 rfl rfl)
theorem dX12_shareOut_78 : decode cX12_shareOut 78 = .ok (.getfield 64, 3) := dk_180 0 64 (dk_at dksX12_shareOut_3 7 rfl rfl)
theorem dX12_shareOut_81 : decode cX12_shareOut 81 = .ok (.iload 8, 2) := dk_21 8 (dk_at dksX12_shareOut_3 10 rfl rfl)
theorem dX12_shareOut_83 : decode cX12_shareOut 83 = .ok (.iadd, 1) := dk_96 (dk_at dksX12_shareOut_3 12 rfl rfl)
theorem dX12_shareOut_84 : decode cX12_shareOut 84 = .ok (.putfield 64, 3) := dk_181 0 64 (dk_at dksX12_shareOut_3 13 rfl rfl)
theorem dX12_shareOut_87 : decode cX12_shareOut 87 = .ok (.iload 4, 2) := dk_21 4 (dk_at dksX12_shareOut_3 16 rfl rfl)
theorem dX12_shareOut_89 : decode cX12_shareOut 89 = .ok (.iload 8, 2) := dk_21 8 (dk_at dksX12_shareOut_3 18 rfl rfl)
theorem dX12_shareOut_91 : decode cX12_shareOut 91 = .ok (.isub, 1) := dk_100 (dk_at dksX12_shareOut_3 20 rfl rfl)
theorem dX12_shareOut_92 : decode cX12_shareOut 92 = .ok (.istore 4, 2) := dk_54 4 (dk_at dksX12_shareOut_3 21 rfl rfl)
theorem dX12_shareOut_94 : decode cX12_shareOut 94 = .ok (.iinc 5 1, 3) := dk_132 5 1 (dk_at dksX12_shareOut_4 0 rfl rfl)
theorem dX12_shareOut_97 : decode cX12_shareOut 97 = .ok (.goto (-82), 3) := dk_167 255 174 (dk_at dksX12_shareOut_4 3 rfl rfl)
theorem dX12_shareOut_100 : decode cX12_shareOut 100 = .ok (.iload 4, 2) := dk_21 4 (dk_at dksX12_shareOut_4 6 rfl rfl)
theorem dX12_shareOut_102 : decode cX12_shareOut 102 = .ok (.ifCond .le 44, 3) := dk_158 0 44 (dk_at dksX12_shareOut_4 8 rfl rfl)
theorem dX12_shareOut_105 : decode cX12_shareOut 105 = .ok (.aload_n 0, 1) := dk_42 (dk_at dksX12_shareOut_4 11 rfl rfl)
theorem dX12_shareOut_106 : decode cX12_shareOut 106 = .ok (.aload_n 3, 1) := dk_45 (dk_at dksX12_shareOut_4 12 rfl rfl)
theorem dX12_shareOut_107 : decode cX12_shareOut 107 = .ok (.invokevirtual 67, 3) := dk_182 0 67 (dk_at dksX12_shareOut_4 13 rfl rfl)
theorem dX12_shareOut_110 : decode cX12_shareOut 110 = .ok (.istore 5, 2) := dk_54 5 (dk_at dksX12_shareOut_4 16 rfl rfl)
theorem dX12_shareOut_112 : decode cX12_shareOut 112 = .ok (.aload_n 0, 1) := dk_42 (dk_at dksX12_shareOut_4 18 rfl rfl)
theorem dX12_shareOut_113 : decode cX12_shareOut 113 = .ok (.getfield 21, 3) := dk_180 0 21 (dk_at dksX12_shareOut_4 19 rfl rfl)
theorem dX12_shareOut_116 : decode cX12_shareOut 116 = .ok (.iload 5, 2) := dk_21 5 (dk_at dksX12_shareOut_4 22 rfl rfl)
theorem dX12_shareOut_118 : decode cX12_shareOut 118 = .ok (.invokevirtual 60, 3) := dk_182 0 60 (dk_at dksX12_shareOut_5 0 rfl rfl)
theorem dX12_shareOut_121 : decode cX12_shareOut 121 = .ok (.checkcast 49, 3) := dk_192 0 49 (dk_at dksX12_shareOut_5 3 rfl rfl)
theorem dX12_shareOut_124 : decode cX12_shareOut 124 = .ok (.dup, 1) := dk_89 (dk_at dksX12_shareOut_5 6 rfl rfl)
theorem dX12_shareOut_125 : decode cX12_shareOut 125 = .ok (.getfield 64, 3) := dk_180 0 64 (dk_at dksX12_shareOut_5 7 rfl rfl)
theorem dX12_shareOut_128 : decode cX12_shareOut 128 = .ok (.iconst 1, 1) := dk_4 (dk_at dksX12_shareOut_5 10 rfl rfl)
theorem dX12_shareOut_129 : decode cX12_shareOut 129 = .ok (.iadd, 1) := dk_96 (dk_at dksX12_shareOut_5 11 rfl rfl)
theorem dX12_shareOut_130 : decode cX12_shareOut 130 = .ok (.putfield 64, 3) := dk_181 0 64 (dk_at dksX12_shareOut_5 12 rfl rfl)
theorem dX12_shareOut_133 : decode cX12_shareOut 133 = .ok (.aload_n 3, 1) := dk_45 (dk_at dksX12_shareOut_5 15 rfl rfl)
theorem dX12_shareOut_134 : decode cX12_shareOut 134 = .ok (.iload 5, 2) := dk_21 5 (dk_at dksX12_shareOut_5 16 rfl rfl)
theorem dX12_shareOut_136 : decode cX12_shareOut 136 = .ok (.ldc2_w 71, 3) := dk_20 0 71 (dk_at dksX12_shareOut_5 18 rfl rfl)
theorem dX12_shareOut_139 : decode cX12_shareOut 139 = .ok (.lastore, 1) := dk_80 (dk_at dksX12_shareOut_5 21 rfl rfl)
theorem dX12_shareOut_140 : decode cX12_shareOut 140 = .ok (.iinc 4 (-1), 3) := dk_132 4 255 (dk_at dksX12_shareOut_6 0 rfl rfl)
theorem dX12_shareOut_143 : decode cX12_shareOut 143 = .ok (.goto (-43), 3) := dk_167 255 213 (dk_at dksX12_shareOut_6 3 rfl rfl)
theorem dX12_shareOut_146 : decode cX12_shareOut 146 = .ok (.return_, 1) := dk_177 (dk_at dksX12_shareOut_6 6 rfl rfl)
abbrev cX12_greatest : ByteArray := prog_3_method_4_code
def yX12_greatest : MethodName := ⟨RX12, "greatest", "([J)I"⟩
def dkwX12_greatest_1 : List UInt8 := [158, 0, 5, 29, 61, 132, 3, 1, 167, 255, 230, 28, 172]
abbrev dktX12_greatest_1 : List UInt8 := dkwX12_greatest_1 ++ []
def dkwX12_greatest_0 : List UInt8 := [3, 61, 4, 62, 29, 42, 180, 0, 21, 182, 0, 57, 162, 0, 21, 43, 29, 47, 43, 28, 47, 148]
abbrev dktX12_greatest_0 : List UInt8 := dkwX12_greatest_0 ++ dktX12_greatest_1
theorem dksX12_greatest_0 : cX12_greatest.data.toList.drop 0 = dktX12_greatest_0 := by decide +kernel
theorem dksX12_greatest_1 : cX12_greatest.data.toList.drop 22 = dktX12_greatest_1 := dk_seg dksX12_greatest_0 22 rfl rfl
theorem dX12_greatest_0 : decode cX12_greatest 0 = .ok (.iconst 0, 1) := dk_3 (dk_at dksX12_greatest_0 0 rfl rfl)
theorem dX12_greatest_1 : decode cX12_greatest 1 = .ok (.istore_n 2, 1) := dk_61 (dk_at dksX12_greatest_0 1 rfl rfl)
theorem dX12_greatest_2 : decode cX12_greatest 2 = .ok (.iconst 1, 1) := dk_4 (dk_at dksX12_greatest_0 2 rfl rfl)
theorem dX12_greatest_3 : decode cX12_greatest 3 = .ok (.istore_n 3, 1) := dk_62 (dk_at dksX12_greatest_0 3 rfl rfl)
theorem dX12_greatest_4 : decode cX12_greatest 4 = .ok (.iload_n 3, 1) := dk_29 (dk_at dksX12_greatest_0 4 rfl rfl)
theorem dX12_greatest_5 : decode cX12_greatest 5 = .ok (.aload_n 0, 1) := dk_42 (dk_at dksX12_greatest_0 5 rfl rfl)
theorem dX12_greatest_6 : decode cX12_greatest 6 = .ok (.getfield 21, 3) := dk_180 0 21 (dk_at dksX12_greatest_0 6 rfl rfl)
theorem dX12_greatest_9 : decode cX12_greatest 9 = .ok (.invokevirtual 57, 3) := dk_182 0 57 (dk_at dksX12_greatest_0 9 rfl rfl)
theorem dX12_greatest_12 : decode cX12_greatest 12 = .ok (.if_icmp .ge 21, 3) := dk_162 0 21 (dk_at dksX12_greatest_0 12 rfl rfl)
theorem dX12_greatest_15 : decode cX12_greatest 15 = .ok (.aload_n 1, 1) := dk_43 (dk_at dksX12_greatest_0 15 rfl rfl)
theorem dX12_greatest_16 : decode cX12_greatest 16 = .ok (.iload_n 3, 1) := dk_29 (dk_at dksX12_greatest_0 16 rfl rfl)
theorem dX12_greatest_17 : decode cX12_greatest 17 = .ok (.laload, 1) := dk_47 (dk_at dksX12_greatest_0 17 rfl rfl)
theorem dX12_greatest_18 : decode cX12_greatest 18 = .ok (.aload_n 1, 1) := dk_43 (dk_at dksX12_greatest_0 18 rfl rfl)
theorem dX12_greatest_19 : decode cX12_greatest 19 = .ok (.iload_n 2, 1) := dk_28 (dk_at dksX12_greatest_0 19 rfl rfl)
theorem dX12_greatest_20 : decode cX12_greatest 20 = .ok (.laload, 1) := dk_47 (dk_at dksX12_greatest_0 20 rfl rfl)
theorem dX12_greatest_21 : decode cX12_greatest 21 = .ok (.lcmp, 1) := dk_148 (dk_at dksX12_greatest_0 21 rfl rfl)
theorem dX12_greatest_22 : decode cX12_greatest 22 = .ok (.ifCond .le 5, 3) := dk_158 0 5 (dk_at dksX12_greatest_1 0 rfl rfl)
theorem dX12_greatest_25 : decode cX12_greatest 25 = .ok (.iload_n 3, 1) := dk_29 (dk_at dksX12_greatest_1 3 rfl rfl)
theorem dX12_greatest_26 : decode cX12_greatest 26 = .ok (.istore_n 2, 1) := dk_61 (dk_at dksX12_greatest_1 4 rfl rfl)
theorem dX12_greatest_27 : decode cX12_greatest 27 = .ok (.iinc 3 1, 3) := dk_132 3 1 (dk_at dksX12_greatest_1 5 rfl rfl)
theorem dX12_greatest_30 : decode cX12_greatest 30 = .ok (.goto (-26), 3) := dk_167 255 230 (dk_at dksX12_greatest_1 8 rfl rfl)
theorem dX12_greatest_33 : decode cX12_greatest 33 = .ok (.iload_n 2, 1) := dk_28 (dk_at dksX12_greatest_1 11 rfl rfl)
theorem dX12_greatest_34 : decode cX12_greatest 34 = .ok (.ireturn, 1) := dk_172 (dk_at dksX12_greatest_1 12 rfl rfl)
abbrev cX12_isLandEnough : ByteArray := prog_3_method_5_code
def yX12_isLandEnough : MethodName := ⟨RX12, "isLandEnough", "(I)Z"⟩
def dkwX12_isLandEnough_0 : List UInt8 := [42, 180, 0, 29, 42, 180, 0, 73, 100, 27, 7, 108, 161, 0, 7, 4, 167, 0, 4, 3, 172]
abbrev dktX12_isLandEnough_0 : List UInt8 := dkwX12_isLandEnough_0 ++ []
theorem dksX12_isLandEnough_0 : cX12_isLandEnough.data.toList.drop 0 = dktX12_isLandEnough_0 := by decide +kernel
theorem dX12_isLandEnough_0 : decode cX12_isLandEnough 0 = .ok (.aload_n 0, 1) := dk_42 (dk_at dksX12_isLandEnough_0 0 rfl rfl)
theorem dX12_isLandEnough_1 : decode cX12_isLandEnough 1 = .ok (.getfield 29, 3) := dk_180 0 29 (dk_at dksX12_isLandEnough_0 1 rfl rfl)
theorem dX12_isLandEnough_4 : decode cX12_isLandEnough 4 = .ok (.aload_n 0, 1) := dk_42 (dk_at dksX12_isLandEnough_0 4 rfl rfl)
theorem dX12_isLandEnough_5 : decode cX12_isLandEnough 5 = .ok (.getfield 73, 3) := dk_180 0 73 (dk_at dksX12_isLandEnough_0 5 rfl rfl)
theorem dX12_isLandEnough_8 : decode cX12_isLandEnough 8 = .ok (.isub, 1) := dk_100 (dk_at dksX12_isLandEnough_0 8 rfl rfl)
theorem dX12_isLandEnough_9 : decode cX12_isLandEnough 9 = .ok (.iload_n 1, 1) := dk_27 (dk_at dksX12_isLandEnough_0 9 rfl rfl)
theorem dX12_isLandEnough_10 : decode cX12_isLandEnough 10 = .ok (.iconst 4, 1) := dk_7 (dk_at dksX12_isLandEnough_0 10 rfl rfl)
theorem dX12_isLandEnough_11 : decode cX12_isLandEnough 11 = .ok (.idiv, 1) := dk_108 (dk_at dksX12_isLandEnough_0 11 rfl rfl)
theorem dX12_isLandEnough_12 : decode cX12_isLandEnough 12 = .ok (.if_icmp .lt 7, 3) := dk_161 0 7 (dk_at dksX12_isLandEnough_0 12 rfl rfl)
theorem dX12_isLandEnough_15 : decode cX12_isLandEnough 15 = .ok (.iconst 1, 1) := dk_4 (dk_at dksX12_isLandEnough_0 15 rfl rfl)
theorem dX12_isLandEnough_16 : decode cX12_isLandEnough 16 = .ok (.goto 4, 3) := dk_167 0 4 (dk_at dksX12_isLandEnough_0 16 rfl rfl)
theorem dX12_isLandEnough_19 : decode cX12_isLandEnough 19 = .ok (.iconst 0, 1) := dk_3 (dk_at dksX12_isLandEnough_0 19 rfl rfl)
theorem dX12_isLandEnough_20 : decode cX12_isLandEnough 20 = .ok (.ireturn, 1) := dk_172 (dk_at dksX12_isLandEnough_0 20 rfl rfl)
theorem q106 : (Jvm.Cond.initialized "Publicanry$Company") ∈ lw_all := lw_g (lw_at lw_m1 33 rfl) rfl
theorem q458 : (Jvm.Cond.selects "Publicanry$Company" ({ cls := "java/lang/Object", name := "notifyAll", desc := "()V" } : Jvm.MethodName) ({ cls := "java/lang/Object", name := "notifyAll", desc := "()V" } : Jvm.MethodName)) ∈ lw_all := lw_g (lw_at lw_m2 145 rfl) rfl
theorem q560 : (Jvm.Cond.selects "Publicanry$Company" ({ cls := "java/lang/Object", name := "notify", desc := "()V" } : Jvm.MethodName) ({ cls := "java/lang/Object", name := "notify", desc := "()V" } : Jvm.MethodName)) ∈ lw_all := lw_g (lw_at lw_m3 7 rfl) rfl
theorem q722 : (Jvm.Cond.instanceMethod ({ cls := "Publicanry$Company", name := "shares", desc := "()I" } : Jvm.MethodName)) ∈ lw_all := lw_g (lw_at lw_m3 169 rfl) rfl
theorem q723 : (Jvm.Cond.selects "Publicanry$Company" ({ cls := "Publicanry$Company", name := "shares", desc := "()I" } : Jvm.MethodName) ({ cls := "Publicanry$Company", name := "shares", desc := "()I" } : Jvm.MethodName)) ∈ lw_all := lw_g (lw_at lw_m3 170 rfl) rfl
theorem q724 : (Jvm.Cond.code ({ cls := "Publicanry$Company", name := "shares", desc := "()I" } : Jvm.MethodName) prog_3_method_2_code (4 : Nat) (Option.some Jvm.ClassFile.FieldType.int)) ∈ lw_all := lw_g (lw_at lw_m3 171 rfl) rfl
theorem q725 : (Jvm.Cond.methodLink "Publicanry$Company" (35 : Nat) ({ cls := "java/util/ArrayList", name := "iterator", desc := "()Ljava/util/Iterator;" } : Jvm.MethodName)) ∈ lw_all := lw_g (lw_at lw_m3 172 rfl) rfl
theorem q726 : (Jvm.Cond.interfaceEntry "Publicanry$Company" (39 : Nat)) ∈ lw_tbl := lw_at lw_m3 173 rfl
theorem q727 : (Jvm.Cond.methodLink "Publicanry$Company" (39 : Nat) ({ cls := "java/util/Iterator", name := "hasNext", desc := "()Z" } : Jvm.MethodName)) ∈ lw_all := lw_g (lw_at lw_m3 174 rfl) rfl
theorem q728 : (Jvm.Cond.interfaceEntry "Publicanry$Company" (45 : Nat)) ∈ lw_tbl := lw_at lw_m3 175 rfl
theorem q729 : (Jvm.Cond.methodLink "Publicanry$Company" (45 : Nat) ({ cls := "java/util/Iterator", name := "next", desc := "()Ljava/lang/Object;" } : Jvm.MethodName)) ∈ lw_all := lw_g (lw_at lw_m3 176 rfl) rfl
theorem q730 : (Jvm.Cond.classLink "Publicanry$Company" (49 : Nat) "Publicanry$Partner") ∈ lw_all := lw_g (lw_at lw_m3 177 rfl) rfl
theorem q736 : (Jvm.Cond.instanceMethod ({ cls := "Publicanry$Company", name := "gain", desc := "()D" } : Jvm.MethodName)) ∈ lw_all := lw_g (lw_at lw_m3 183 rfl) rfl
theorem q737 : (Jvm.Cond.selects "Publicanry$Company" ({ cls := "Publicanry$Company", name := "gain", desc := "()D" } : Jvm.MethodName) ({ cls := "Publicanry$Company", name := "gain", desc := "()D" } : Jvm.MethodName)) ∈ lw_all := lw_g (lw_at lw_m3 184 rfl) rfl
theorem q738 : (Jvm.Cond.code ({ cls := "Publicanry$Company", name := "gain", desc := "()D" } : Jvm.MethodName) prog_3_method_6_code (3 : Nat) (Option.some Jvm.ClassFile.FieldType.double)) ∈ lw_all := lw_g (lw_at lw_m3 185 rfl) rfl
theorem q877 : (Jvm.Cond.selects "Publicanry$Company" ({ cls := "java/lang/Object", name := "getClass", desc := "()Ljava/lang/Class;" } : Jvm.MethodName) ({ cls := "java/lang/Object", name := "getClass", desc := "()Ljava/lang/Class;" } : Jvm.MethodName)) ∈ lw_all := lw_g (lw_at lw_m4 84 rfl) rfl
theorem q1111 : (Jvm.Cond.instantiable "Publicanry$Company" (12 : Nat)) ∈ lw_all := lw_g (lw_at lw_m5 78 rfl) rfl
theorem q1113 : (Jvm.Cond.instanceMethod ({ cls := "Publicanry$Company", name := "<init>", desc := "(III)V" } : Jvm.MethodName)) ∈ lw_all := lw_g (lw_at lw_m5 80 rfl) rfl
theorem q1114 : (Jvm.Cond.code ({ cls := "Publicanry$Company", name := "<init>", desc := "(III)V" } : Jvm.MethodName) prog_3_method_1_code (4 : Nat) (Option.none : Option Jvm.ClassFile.FieldType)) ∈ lw_all := lw_g (lw_at lw_m5 81 rfl) rfl
theorem q1115 : (Jvm.Cond.methodLink "Publicanry$Company" (3 : Nat) ({ cls := "java/lang/Object", name := "<init>", desc := "()V" } : Jvm.MethodName)) ∈ lw_all := lw_g (lw_at lw_m5 82 rfl) rfl
theorem q1116 : (Jvm.Cond.classLink "Publicanry$Company" (9 : Nat) "Publicanry$Chest") ∈ lw_all := lw_g (lw_at lw_m5 83 rfl) rfl
theorem q1117 : (Jvm.Cond.methodLinkNest "Publicanry$Company" (11 : Nat) ({ cls := "Publicanry$Chest", name := "<init>", desc := "()V" } : Jvm.MethodName) "Publicanry") ∈ lw_tbl := lw_at lw_m5 84 rfl
theorem q1118 : (Jvm.Cond.classLink "Publicanry$Company" (18 : Nat) "java/util/ArrayList") ∈ lw_all := lw_g (lw_at lw_m5 85 rfl) rfl
theorem q1119 : (Jvm.Cond.methodLink "Publicanry$Company" (20 : Nat) ({ cls := "java/util/ArrayList", name := "<init>", desc := "()V" } : Jvm.MethodName)) ∈ lw_all := lw_g (lw_at lw_m5 86 rfl) rfl
theorem q1120 : (Jvm.Cond.fieldLink "Publicanry$Company" (25 : Nat) "Publicanry$Company" "number" "I") ∈ lw_all := lw_g (lw_at lw_m5 87 rfl) rfl
theorem q1123 : (Jvm.Cond.fieldLink "Publicanry$Company" (12 : Nat) "Publicanry$Company" "chest" "LPublicanry$Chest;") ∈ lw_all := lw_g (lw_at lw_m5 90 rfl) rfl
theorem q1125 : (Jvm.Cond.fieldLink "Publicanry$Company" (21 : Nat) "Publicanry$Company" "partners" "Ljava/util/ArrayList;") ∈ lw_all := lw_g (lw_at lw_m5 92 rfl) rfl
theorem q1127 : (Jvm.Cond.fieldLink "Publicanry$Company" (29 : Nat) "Publicanry$Company" "land" "I") ∈ lw_all := lw_g (lw_at lw_m5 94 rfl) rfl
theorem q1129 : (Jvm.Cond.fieldLink "Publicanry$Company" (73 : Nat) "Publicanry$Company" "pledged" "I") ∈ lw_all := lw_g (lw_at lw_m5 96 rfl) rfl
theorem q1132 : (Jvm.Cond.fieldLink "Publicanry$Company" (32 : Nat) "Publicanry$Company" "ring" "I") ∈ lw_all := lw_g (lw_at lw_m5 99 rfl) rfl
theorem q1138 : (Jvm.Cond.fieldLink "Publicanry$Company" (76 : Nat) "Publicanry$Company" "brought" "I") ∈ lw_all := lw_g (lw_at lw_m5 105 rfl) rfl
theorem q1140 : (Jvm.Cond.fieldLink "Publicanry$Company" (79 : Nat) "Publicanry$Company" "paid" "I") ∈ lw_all := lw_g (lw_at lw_m5 107 rfl) rfl
theorem q1144 : (Jvm.Cond.laysFinal "Publicanry$Company" "Publicanry$Company" "number" "I") ∈ lw_all := lw_g (lw_at lw_m5 111 rfl) rfl
theorem q1145 : (Jvm.Cond.soleField "Publicanry$Company" "number") ∈ lw_all := lw_g (lw_at lw_m5 112 rfl) rfl
theorem q1146 : (Jvm.Cond.laysFinal "Publicanry$Company" "Publicanry$Company" "chest" "LPublicanry$Chest;") ∈ lw_all := lw_g (lw_at lw_m5 113 rfl) rfl
theorem q1147 : (Jvm.Cond.soleField "Publicanry$Company" "chest") ∈ lw_all := lw_g (lw_at lw_m5 114 rfl) rfl
theorem q1148 : (Jvm.Cond.laysFinal "Publicanry$Company" "Publicanry$Company" "partners" "Ljava/util/ArrayList;") ∈ lw_all := lw_g (lw_at lw_m5 115 rfl) rfl
theorem q1149 : (Jvm.Cond.soleField "Publicanry$Company" "partners") ∈ lw_all := lw_g (lw_at lw_m5 116 rfl) rfl
theorem q1150 : (Jvm.Cond.lays "Publicanry$Company" "Publicanry$Company" "land" "I") ∈ lw_all := lw_g (lw_at lw_m5 117 rfl) rfl
theorem q1151 : (Jvm.Cond.soleField "Publicanry$Company" "land") ∈ lw_all := lw_g (lw_at lw_m5 118 rfl) rfl
theorem q1152 : (Jvm.Cond.lays "Publicanry$Company" "Publicanry$Company" "pledged" "I") ∈ lw_all := lw_g (lw_at lw_m5 119 rfl) rfl
theorem q1153 : (Jvm.Cond.soleField "Publicanry$Company" "pledged") ∈ lw_all := lw_g (lw_at lw_m5 120 rfl) rfl
theorem q1154 : (Jvm.Cond.lays "Publicanry$Company" "Publicanry$Company" "ring" "I") ∈ lw_all := lw_g (lw_at lw_m5 121 rfl) rfl
theorem q1155 : (Jvm.Cond.soleField "Publicanry$Company" "ring") ∈ lw_all := lw_g (lw_at lw_m5 122 rfl) rfl
theorem q1156 : (Jvm.Cond.lays "Publicanry$Company" "Publicanry$Company" "force" "I") ∈ lw_all := lw_g (lw_at lw_m5 123 rfl) rfl
theorem q1157 : (Jvm.Cond.soleField "Publicanry$Company" "force") ∈ lw_all := lw_g (lw_at lw_m5 124 rfl) rfl
theorem q1158 : (Jvm.Cond.lays "Publicanry$Company" "Publicanry$Company" "credit" "I") ∈ lw_all := lw_g (lw_at lw_m5 125 rfl) rfl
theorem q1159 : (Jvm.Cond.soleField "Publicanry$Company" "credit") ∈ lw_all := lw_g (lw_at lw_m5 126 rfl) rfl
theorem q1160 : (Jvm.Cond.lays "Publicanry$Company" "Publicanry$Company" "gifts" "I") ∈ lw_all := lw_g (lw_at lw_m5 127 rfl) rfl
theorem q1161 : (Jvm.Cond.soleField "Publicanry$Company" "gifts") ∈ lw_all := lw_g (lw_at lw_m5 128 rfl) rfl
theorem q1162 : (Jvm.Cond.lays "Publicanry$Company" "Publicanry$Company" "brought" "I") ∈ lw_all := lw_g (lw_at lw_m5 129 rfl) rfl
theorem q1163 : (Jvm.Cond.soleField "Publicanry$Company" "brought") ∈ lw_all := lw_g (lw_at lw_m5 130 rfl) rfl
theorem q1164 : (Jvm.Cond.lays "Publicanry$Company" "Publicanry$Company" "paid" "I") ∈ lw_all := lw_g (lw_at lw_m5 131 rfl) rfl
theorem q1165 : (Jvm.Cond.soleField "Publicanry$Company" "paid") ∈ lw_all := lw_g (lw_at lw_m5 132 rfl) rfl
theorem q1166 : (Jvm.Cond.lays "Publicanry$Company" "Publicanry$Company" "isBanned" "Z") ∈ lw_all := lw_g (lw_at lw_m5 133 rfl) rfl
theorem q1167 : (Jvm.Cond.soleField "Publicanry$Company" "isBanned") ∈ lw_all := lw_g (lw_at lw_m5 134 rfl) rfl
theorem q1168 : (Jvm.Cond.superclass "Publicanry$Company" "java/lang/Object") ∈ lw_all := lw_g (lw_at lw_m5 135 rfl) rfl
theorem q1187 : (Jvm.Cond.fieldLink "Publicanry$Company" (51 : Nat) "Publicanry$Partner" "shares" "I") ∈ lw_all := lw_g (lw_at lw_m5 154 rfl) rfl
theorem q1189 : (Jvm.Cond.fieldLink "Publicanry$Company" (64 : Nat) "Publicanry$Partner" "told" "I") ∈ lw_all := lw_g (lw_at lw_m5 156 rfl) rfl
theorem q1218 : (Jvm.Cond.instanceMethod ({ cls := "Publicanry$Company", name := "shareOut", desc := "(I)V" } : Jvm.MethodName)) ∈ lw_all := lw_g (lw_at lw_m5 185 rfl) rfl
theorem q1219 : (Jvm.Cond.selects "Publicanry$Company" ({ cls := "Publicanry$Company", name := "shareOut", desc := "(I)V" } : Jvm.MethodName) ({ cls := "Publicanry$Company", name := "shareOut", desc := "(I)V" } : Jvm.MethodName)) ∈ lw_all := lw_g (lw_at lw_m5 186 rfl) rfl
theorem q1220 : (Jvm.Cond.code ({ cls := "Publicanry$Company", name := "shareOut", desc := "(I)V" } : Jvm.MethodName) prog_3_method_3_code (9 : Nat) (Option.none : Option Jvm.ClassFile.FieldType)) ∈ lw_all := lw_g (lw_at lw_m5 187 rfl) rfl
theorem q1221 : (Jvm.Cond.methodLink "Publicanry$Company" (54 : Nat) ({ cls := "Publicanry$Company", name := "shares", desc := "()I" } : Jvm.MethodName)) ∈ lw_all := lw_g (lw_at lw_m5 188 rfl) rfl
theorem q1222 : (Jvm.Cond.methodLink "Publicanry$Company" (57 : Nat) ({ cls := "java/util/ArrayList", name := "size", desc := "()I" } : Jvm.MethodName)) ∈ lw_all := lw_g (lw_at lw_m5 189 rfl) rfl
theorem q1223 : (Jvm.Cond.methodLink "Publicanry$Company" (60 : Nat) ({ cls := "java/util/ArrayList", name := "get", desc := "(I)Ljava/lang/Object;" } : Jvm.MethodName)) ∈ lw_all := lw_g (lw_at lw_m5 190 rfl) rfl
theorem q1224 : (Jvm.Cond.methodLink "Publicanry$Company" (67 : Nat) ({ cls := "Publicanry$Company", name := "greatest", desc := "([J)I" } : Jvm.MethodName)) ∈ lw_all := lw_g (lw_at lw_m5 191 rfl) rfl
theorem q1225 : (Jvm.Cond.privateMethod ({ cls := "Publicanry$Company", name := "greatest", desc := "([J)I" } : Jvm.MethodName)) ∈ lw_tbl := lw_at lw_m5 192 rfl
theorem q1226 : (Jvm.Cond.instanceMethod ({ cls := "Publicanry$Company", name := "greatest", desc := "([J)I" } : Jvm.MethodName)) ∈ lw_all := lw_g (lw_at lw_m5 193 rfl) rfl
theorem q1227 : (Jvm.Cond.code ({ cls := "Publicanry$Company", name := "greatest", desc := "([J)I" } : Jvm.MethodName) prog_3_method_4_code (4 : Nat) (Option.some Jvm.ClassFile.FieldType.int)) ∈ lw_all := lw_g (lw_at lw_m5 194 rfl) rfl
theorem q1228 : (Jvm.Cond.constantLong "Publicanry$Company" (71 : Nat) (-1 : Int64)) ∈ lw_all := lw_g (lw_at lw_m5 195 rfl) rfl
theorem q1323 : (Jvm.Cond.instanceMethod ({ cls := "Publicanry$Company", name := "isLandEnough", desc := "(I)Z" } : Jvm.MethodName)) ∈ lw_all := lw_g (lw_at lw_m6 50 rfl) rfl
theorem q1324 : (Jvm.Cond.selects "Publicanry$Company" ({ cls := "Publicanry$Company", name := "isLandEnough", desc := "(I)Z" } : Jvm.MethodName) ({ cls := "Publicanry$Company", name := "isLandEnough", desc := "(I)Z" } : Jvm.MethodName)) ∈ lw_all := lw_g (lw_at lw_m6 51 rfl) rfl
theorem q1325 : (Jvm.Cond.code ({ cls := "Publicanry$Company", name := "isLandEnough", desc := "(I)Z" } : Jvm.MethodName) prog_3_method_5_code (2 : Nat) (Option.some Jvm.ClassFile.FieldType.boolean)) ∈ lw_all := lw_g (lw_at lw_m6 52 rfl) rfl
theorem q2430 : (Jvm.Cond.selects "Publicanry$Company" ({ cls := "java/lang/Object", name := "equals", desc := "(Ljava/lang/Object;)Z" } : Jvm.MethodName) ({ cls := "java/lang/Object", name := "equals", desc := "(Ljava/lang/Object;)Z" } : Jvm.MethodName)) ∈ lw_all := lw_g (lw_at lw_m10 197 rfl) rfl
theorem q2673 : (Jvm.Cond.castable "Publicanry$Company" "java/lang/Object") ∈ lw_tbl := lw_at lw_m11 200 rfl
theorem in_X12 : ∀ w ∈ wsX120, w ∈ lw_all := lw_in wsX120 [1144, 1146, 1148, 1150, 1152, 1154, 1156, 1158, 1160, 1162, 1164, 1166] (by decide +kernel) (by decide +kernel)
/-! Publicanry$Partner -/
set_option maxRecDepth 100000
def RX14 : String := "Publicanry$Partner"
def TX14 : u_T := fun k => match k with
  | 0 => ("Publicanry$Partner", "shares", "I", true)
  | _ => ("Publicanry$Partner", "told", "I", false)
def tyX14 : Nat → FieldType := fun k => match k with
  | 0 => .int
  | _ => .int
abbrev wsX140 : List Cond := u_ws RX14 TX14 2
theorem nmX14 : ∀ a, a < 2 → ∀ b, b < 2 → a ≠ b → (TX14 a).2.1 ≠ (TX14 b).2.1 := by decide +kernel
theorem tyX14_ok : ∀ k, k < 2 → parseFieldDescriptor (TX14 k).2.2.1 = some (tyX14 k) := by decide +kernel
abbrev cX14_init : ByteArray := prog_12_method_1_code
def yX14_init : MethodName := ⟨RX14, "<init>", "(I)V"⟩
def dkwX14_init_0 : List UInt8 := [42, 183, 0, 1, 42, 27, 181, 0, 7, 177]
abbrev dktX14_init_0 : List UInt8 := dkwX14_init_0 ++ []
theorem dksX14_init_0 : cX14_init.data.toList.drop 0 = dktX14_init_0 := by decide +kernel
theorem dX14_init_0 : decode cX14_init 0 = .ok (.aload_n 0, 1) := dk_42 (dk_at dksX14_init_0 0 rfl rfl)
theorem dX14_init_1 : decode cX14_init 1 = .ok (.invokespecial 1, 3) := dk_183 0 1 (dk_at dksX14_init_0 1 rfl rfl)
theorem dX14_init_4 : decode cX14_init 4 = .ok (.aload_n 0, 1) := dk_42 (dk_at dksX14_init_0 4 rfl rfl)
theorem dX14_init_5 : decode cX14_init 5 = .ok (.iload_n 1, 1) := dk_27 (dk_at dksX14_init_0 5 rfl rfl)
theorem dX14_init_6 : decode cX14_init 6 = .ok (.putfield 7, 3) := dk_181 0 7 (dk_at dksX14_init_0 6 rfl rfl)
theorem dX14_init_9 : decode cX14_init 9 = .ok (.return_, 1) := dk_177 (dk_at dksX14_init_0 9 rfl rfl)
theorem q108 : (Jvm.Cond.initialized "Publicanry$Partner") ∈ lw_all := lw_g (lw_at lw_m1 35 rfl) rfl
theorem q466 : (Jvm.Cond.selects "Publicanry$Partner" ({ cls := "java/lang/Object", name := "notifyAll", desc := "()V" } : Jvm.MethodName) ({ cls := "java/lang/Object", name := "notifyAll", desc := "()V" } : Jvm.MethodName)) ∈ lw_all := lw_g (lw_at lw_m2 153 rfl) rfl
theorem q568 : (Jvm.Cond.selects "Publicanry$Partner" ({ cls := "java/lang/Object", name := "notify", desc := "()V" } : Jvm.MethodName) ({ cls := "java/lang/Object", name := "notify", desc := "()V" } : Jvm.MethodName)) ∈ lw_all := lw_g (lw_at lw_m3 15 rfl) rfl
theorem q885 : (Jvm.Cond.selects "Publicanry$Partner" ({ cls := "java/lang/Object", name := "getClass", desc := "()Ljava/lang/Class;" } : Jvm.MethodName) ({ cls := "java/lang/Object", name := "getClass", desc := "()Ljava/lang/Class;" } : Jvm.MethodName)) ∈ lw_all := lw_g (lw_at lw_m4 92 rfl) rfl
theorem q1181 : (Jvm.Cond.instantiable "Publicanry$Partner" (2 : Nat)) ∈ lw_all := lw_g (lw_at lw_m5 148 rfl) rfl
theorem q1183 : (Jvm.Cond.instanceMethod ({ cls := "Publicanry$Partner", name := "<init>", desc := "(I)V" } : Jvm.MethodName)) ∈ lw_all := lw_g (lw_at lw_m5 150 rfl) rfl
theorem q1184 : (Jvm.Cond.code ({ cls := "Publicanry$Partner", name := "<init>", desc := "(I)V" } : Jvm.MethodName) prog_12_method_1_code (2 : Nat) (Option.none : Option Jvm.ClassFile.FieldType)) ∈ lw_all := lw_g (lw_at lw_m5 151 rfl) rfl
theorem q1185 : (Jvm.Cond.methodLink "Publicanry$Partner" (1 : Nat) ({ cls := "java/lang/Object", name := "<init>", desc := "()V" } : Jvm.MethodName)) ∈ lw_all := lw_g (lw_at lw_m5 152 rfl) rfl
theorem q1186 : (Jvm.Cond.fieldLink "Publicanry$Partner" (7 : Nat) "Publicanry$Partner" "shares" "I") ∈ lw_all := lw_g (lw_at lw_m5 153 rfl) rfl
theorem q1191 : (Jvm.Cond.laysFinal "Publicanry$Partner" "Publicanry$Partner" "shares" "I") ∈ lw_all := lw_g (lw_at lw_m5 158 rfl) rfl
theorem q1192 : (Jvm.Cond.soleField "Publicanry$Partner" "shares") ∈ lw_all := lw_g (lw_at lw_m5 159 rfl) rfl
theorem q1193 : (Jvm.Cond.lays "Publicanry$Partner" "Publicanry$Partner" "told" "I") ∈ lw_all := lw_g (lw_at lw_m5 160 rfl) rfl
theorem q1194 : (Jvm.Cond.soleField "Publicanry$Partner" "told") ∈ lw_all := lw_g (lw_at lw_m5 161 rfl) rfl
theorem q1195 : (Jvm.Cond.superclass "Publicanry$Partner" "java/lang/Object") ∈ lw_all := lw_g (lw_at lw_m5 162 rfl) rfl
theorem q2440 : (Jvm.Cond.selects "Publicanry$Partner" ({ cls := "java/lang/Object", name := "equals", desc := "(Ljava/lang/Object;)Z" } : Jvm.MethodName) ({ cls := "java/lang/Object", name := "equals", desc := "(Ljava/lang/Object;)Z" } : Jvm.MethodName)) ∈ lw_all := lw_g (lw_at lw_m10 207 rfl) rfl
theorem q2675 : (Jvm.Cond.castable "Publicanry$Partner" "java/lang/Object") ∈ lw_tbl := lw_at lw_m11 202 rfl
theorem in_X14 : ∀ w ∈ wsX140, w ∈ lw_all := lw_in wsX140 [1191, 1193] (by decide +kernel) (by decide +kernel)
/-! Publicanry$Lot -/
set_option maxRecDepth 100000
def RX15 : String := "Publicanry$Lot"
def TX15 : u_T := fun k => match k with
  | 0 => ("Publicanry$Lot", "number", "I", true)
  | 1 => ("Publicanry$Lot", "duty", "LPublicanry$Duty;", true)
  | 2 => ("Publicanry$Lot", "villages", "I", true)
  | 3 => ("Publicanry$Lot", "term", "I", true)
  | 4 => ("Publicanry$Lot", "minimum", "I", true)
  | 5 => ("Publicanry$Lot", "bids", "[I", true)
  | 6 => ("Publicanry$Lot", "agents", "[I", true)
  | 7 => ("Publicanry$Lot", "stand", "LPublicanry$Stand;", false)
  | 8 => ("Publicanry$Lot", "holder", "Ljava/util/Optional;", false)
  | 9 => ("Publicanry$Lot", "price", "I", false)
  | 10 => ("Publicanry$Lot", "autumns", "I", false)
  | 11 => ("Publicanry$Lot", "fallen", "I", false)
  | 12 => ("Publicanry$Lot", "awarded", "I", false)
  | 13 => ("Publicanry$Lot", "remitted", "I", false)
  | _ => ("Publicanry$Lot", "askedYear", "I", false)
def tyX15 : Nat → FieldType := fun k => match k with
  | 0 => .int
  | 1 => .object "Publicanry$Duty"
  | 2 => .int
  | 3 => .int
  | 4 => .int
  | 5 => .array .int
  | 6 => .array .int
  | 7 => .object "Publicanry$Stand"
  | 8 => .object "java/util/Optional"
  | 9 => .int
  | 10 => .int
  | 11 => .int
  | 12 => .int
  | 13 => .int
  | _ => .int
abbrev wsX150 : List Cond := u_ws RX15 TX15 15
set_option maxRecDepth 100000 in
theorem nmX15 : ∀ a, a < 15 → ∀ b, b < 15 → a ≠ b → (TX15 a).2.1 ≠ (TX15 b).2.1 := by decide +kernel
set_option maxRecDepth 100000 in
theorem tyX15_ok : ∀ k, k < 15 → parseFieldDescriptor (TX15 k).2.2.1 = some (tyX15 k) := by decide +kernel
abbrev cX15_isOpen : ByteArray := prog_11_method_2_code
def yX15_isOpen : MethodName := ⟨RX15, "isOpen", "()Z"⟩
def dkwX15_isOpen_1 : List UInt8 := [3, 172]
abbrev dktX15_isOpen_1 : List UInt8 := dkwX15_isOpen_1 ++ []
def dkwX15_isOpen_0 : List UInt8 := [42, 180, 0, 24, 178, 0, 18, 165, 0, 13, 42, 180, 0, 24, 178, 0, 57, 166, 0, 7, 4, 167, 0, 4]
abbrev dktX15_isOpen_0 : List UInt8 := dkwX15_isOpen_0 ++ dktX15_isOpen_1
theorem dksX15_isOpen_0 : cX15_isOpen.data.toList.drop 0 = dktX15_isOpen_0 := by decide +kernel
theorem dksX15_isOpen_1 : cX15_isOpen.data.toList.drop 24 = dktX15_isOpen_1 := dk_seg dksX15_isOpen_0 24 rfl rfl
theorem dX15_isOpen_0 : decode cX15_isOpen 0 = .ok (.aload_n 0, 1) := dk_42 (dk_at dksX15_isOpen_0 0 rfl rfl)
theorem dX15_isOpen_1 : decode cX15_isOpen 1 = .ok (.getfield 24, 3) := dk_180 0 24 (dk_at dksX15_isOpen_0 1 rfl rfl)
theorem dX15_isOpen_4 : decode cX15_isOpen 4 = .ok (.getstatic 18, 3) := dk_178 0 18 (dk_at dksX15_isOpen_0 4 rfl rfl)
theorem dX15_isOpen_7 : decode cX15_isOpen 7 = .ok (.if_acmp .eq 13, 3) := dk_165 0 13 (dk_at dksX15_isOpen_0 7 rfl rfl)
theorem dX15_isOpen_10 : decode cX15_isOpen 10 = .ok (.aload_n 0, 1) := dk_42 (dk_at dksX15_isOpen_0 10 rfl rfl)
theorem dX15_isOpen_11 : decode cX15_isOpen 11 = .ok (.getfield 24, 3) := dk_180 0 24 (dk_at dksX15_isOpen_0 11 rfl rfl)
theorem dX15_isOpen_14 : decode cX15_isOpen 14 = .ok (.getstatic 57, 3) := dk_178 0 57 (dk_at dksX15_isOpen_0 14 rfl rfl)
theorem dX15_isOpen_17 : decode cX15_isOpen 17 = .ok (.if_acmp .ne 7, 3) := dk_166 0 7 (dk_at dksX15_isOpen_0 17 rfl rfl)
theorem dX15_isOpen_20 : decode cX15_isOpen 20 = .ok (.iconst 1, 1) := dk_4 (dk_at dksX15_isOpen_0 20 rfl rfl)
theorem dX15_isOpen_21 : decode cX15_isOpen 21 = .ok (.goto 4, 3) := dk_167 0 4 (dk_at dksX15_isOpen_0 21 rfl rfl)
theorem dX15_isOpen_24 : decode cX15_isOpen 24 = .ok (.iconst 0, 1) := dk_3 (dk_at dksX15_isOpen_1 0 rfl rfl)
theorem dX15_isOpen_25 : decode cX15_isOpen 25 = .ok (.ireturn, 1) := dk_172 (dk_at dksX15_isOpen_1 1 rfl rfl)
abbrev cX15_clashes : ByteArray := prog_11_method_4_code
def yX15_clashes : MethodName := ⟨RX15, "clashes", "(LPublicanry$Lot;)Z"⟩
def dkwX15_clashes_1 : List UInt8 := [180, 0, 48, 126, 153, 0, 7, 4, 167, 0, 4, 3, 172]
abbrev dktX15_clashes_1 : List UInt8 := dkwX15_clashes_1 ++ []
def dkwX15_clashes_0 : List UInt8 := [42, 182, 0, 60, 153, 0, 30, 42, 180, 0, 44, 43, 180, 0, 44, 166, 0, 19, 42, 180, 0, 48, 43]
abbrev dktX15_clashes_0 : List UInt8 := dkwX15_clashes_0 ++ dktX15_clashes_1
theorem dksX15_clashes_0 : cX15_clashes.data.toList.drop 0 = dktX15_clashes_0 := by decide +kernel
theorem dksX15_clashes_1 : cX15_clashes.data.toList.drop 23 = dktX15_clashes_1 := dk_seg dksX15_clashes_0 23 rfl rfl
theorem dX15_clashes_0 : decode cX15_clashes 0 = .ok (.aload_n 0, 1) := dk_42 (dk_at dksX15_clashes_0 0 rfl rfl)
theorem dX15_clashes_1 : decode cX15_clashes 1 = .ok (.invokevirtual 60, 3) := dk_182 0 60 (dk_at dksX15_clashes_0 1 rfl rfl)
theorem dX15_clashes_4 : decode cX15_clashes 4 = .ok (.ifCond .eq 30, 3) := dk_153 0 30 (dk_at dksX15_clashes_0 4 rfl rfl)
theorem dX15_clashes_7 : decode cX15_clashes 7 = .ok (.aload_n 0, 1) := dk_42 (dk_at dksX15_clashes_0 7 rfl rfl)
theorem dX15_clashes_8 : decode cX15_clashes 8 = .ok (.getfield 44, 3) := dk_180 0 44 (dk_at dksX15_clashes_0 8 rfl rfl)
theorem dX15_clashes_11 : decode cX15_clashes 11 = .ok (.aload_n 1, 1) := dk_43 (dk_at dksX15_clashes_0 11 rfl rfl)
theorem dX15_clashes_12 : decode cX15_clashes 12 = .ok (.getfield 44, 3) := dk_180 0 44 (dk_at dksX15_clashes_0 12 rfl rfl)
theorem dX15_clashes_15 : decode cX15_clashes 15 = .ok (.if_acmp .ne 19, 3) := dk_166 0 19 (dk_at dksX15_clashes_0 15 rfl rfl)
theorem dX15_clashes_18 : decode cX15_clashes 18 = .ok (.aload_n 0, 1) := dk_42 (dk_at dksX15_clashes_0 18 rfl rfl)
theorem dX15_clashes_19 : decode cX15_clashes 19 = .ok (.getfield 48, 3) := dk_180 0 48 (dk_at dksX15_clashes_0 19 rfl rfl)
theorem dX15_clashes_22 : decode cX15_clashes 22 = .ok (.aload_n 1, 1) := dk_43 (dk_at dksX15_clashes_0 22 rfl rfl)
theorem dX15_clashes_23 : decode cX15_clashes 23 = .ok (.getfield 48, 3) := dk_180 0 48 (dk_at dksX15_clashes_1 0 rfl rfl)
theorem dX15_clashes_26 : decode cX15_clashes 26 = .ok (.iand, 1) := dk_126 (dk_at dksX15_clashes_1 3 rfl rfl)
theorem dX15_clashes_27 : decode cX15_clashes 27 = .ok (.ifCond .eq 7, 3) := dk_153 0 7 (dk_at dksX15_clashes_1 4 rfl rfl)
theorem dX15_clashes_30 : decode cX15_clashes 30 = .ok (.iconst 1, 1) := dk_4 (dk_at dksX15_clashes_1 7 rfl rfl)
theorem dX15_clashes_31 : decode cX15_clashes 31 = .ok (.goto 4, 3) := dk_167 0 4 (dk_at dksX15_clashes_1 8 rfl rfl)
theorem dX15_clashes_34 : decode cX15_clashes 34 = .ok (.iconst 0, 1) := dk_3 (dk_at dksX15_clashes_1 11 rfl rfl)
theorem dX15_clashes_35 : decode cX15_clashes 35 = .ok (.ireturn, 1) := dk_172 (dk_at dksX15_clashes_1 12 rfl rfl)
abbrev cX15_isLeased : ByteArray := prog_11_method_3_code
def yX15_isLeased : MethodName := ⟨RX15, "isLeased", "()Z"⟩
def dkwX15_isLeased_0 : List UInt8 := [42, 180, 0, 24, 178, 0, 57, 166, 0, 7, 4, 167, 0, 4, 3, 172]
abbrev dktX15_isLeased_0 : List UInt8 := dkwX15_isLeased_0 ++ []
theorem dksX15_isLeased_0 : cX15_isLeased.data.toList.drop 0 = dktX15_isLeased_0 := by decide +kernel
theorem dX15_isLeased_0 : decode cX15_isLeased 0 = .ok (.aload_n 0, 1) := dk_42 (dk_at dksX15_isLeased_0 0 rfl rfl)
theorem dX15_isLeased_1 : decode cX15_isLeased 1 = .ok (.getfield 24, 3) := dk_180 0 24 (dk_at dksX15_isLeased_0 1 rfl rfl)
theorem dX15_isLeased_4 : decode cX15_isLeased 4 = .ok (.getstatic 57, 3) := dk_178 0 57 (dk_at dksX15_isLeased_0 4 rfl rfl)
theorem dX15_isLeased_7 : decode cX15_isLeased 7 = .ok (.if_acmp .ne 7, 3) := dk_166 0 7 (dk_at dksX15_isLeased_0 7 rfl rfl)
theorem dX15_isLeased_10 : decode cX15_isLeased 10 = .ok (.iconst 1, 1) := dk_4 (dk_at dksX15_isLeased_0 10 rfl rfl)
theorem dX15_isLeased_11 : decode cX15_isLeased 11 = .ok (.goto 4, 3) := dk_167 0 4 (dk_at dksX15_isLeased_0 11 rfl rfl)
theorem dX15_isLeased_14 : decode cX15_isLeased 14 = .ok (.iconst 0, 1) := dk_3 (dk_at dksX15_isLeased_0 14 rfl rfl)
theorem dX15_isLeased_15 : decode cX15_isLeased 15 = .ok (.ireturn, 1) := dk_172 (dk_at dksX15_isLeased_0 15 rfl rfl)
abbrev cX15_highest : ByteArray := prog_11_method_5_code
def yX15_highest : MethodName := ⟨RX15, "highest", "()I"⟩
def dkwX15_highest_1 : List UInt8 := [54, 5, 27, 21, 5, 184, 0, 64, 60, 132, 4, 1, 167, 255, 234, 27, 172]
abbrev dktX15_highest_1 : List UInt8 := dkwX15_highest_1 ++ []
def dkwX15_highest_0 : List UInt8 := [3, 60, 42, 180, 0, 9, 77, 44, 190, 62, 3, 54, 4, 21, 4, 29, 162, 0, 22, 44, 21, 4, 46]
abbrev dktX15_highest_0 : List UInt8 := dkwX15_highest_0 ++ dktX15_highest_1
theorem dksX15_highest_0 : cX15_highest.data.toList.drop 0 = dktX15_highest_0 := by decide +kernel
theorem dksX15_highest_1 : cX15_highest.data.toList.drop 23 = dktX15_highest_1 := dk_seg dksX15_highest_0 23 rfl rfl
theorem dX15_highest_0 : decode cX15_highest 0 = .ok (.iconst 0, 1) := dk_3 (dk_at dksX15_highest_0 0 rfl rfl)
theorem dX15_highest_1 : decode cX15_highest 1 = .ok (.istore_n 1, 1) := dk_60 (dk_at dksX15_highest_0 1 rfl rfl)
theorem dX15_highest_2 : decode cX15_highest 2 = .ok (.aload_n 0, 1) := dk_42 (dk_at dksX15_highest_0 2 rfl rfl)
theorem dX15_highest_3 : decode cX15_highest 3 = .ok (.getfield 9, 3) := dk_180 0 9 (dk_at dksX15_highest_0 3 rfl rfl)
theorem dX15_highest_6 : decode cX15_highest 6 = .ok (.astore_n 2, 1) := dk_77 (dk_at dksX15_highest_0 6 rfl rfl)
theorem dX15_highest_7 : decode cX15_highest 7 = .ok (.aload_n 2, 1) := dk_44 (dk_at dksX15_highest_0 7 rfl rfl)
theorem dX15_highest_8 : decode cX15_highest 8 = .ok (.arraylength, 1) := dk_190 (dk_at dksX15_highest_0 8 rfl rfl)
theorem dX15_highest_9 : decode cX15_highest 9 = .ok (.istore_n 3, 1) := dk_62 (dk_at dksX15_highest_0 9 rfl rfl)
theorem dX15_highest_10 : decode cX15_highest 10 = .ok (.iconst 0, 1) := dk_3 (dk_at dksX15_highest_0 10 rfl rfl)
theorem dX15_highest_11 : decode cX15_highest 11 = .ok (.istore 4, 2) := dk_54 4 (dk_at dksX15_highest_0 11 rfl rfl)
theorem dX15_highest_13 : decode cX15_highest 13 = .ok (.iload 4, 2) := dk_21 4 (dk_at dksX15_highest_0 13 rfl rfl)
theorem dX15_highest_15 : decode cX15_highest 15 = .ok (.iload_n 3, 1) := dk_29 (dk_at dksX15_highest_0 15 rfl rfl)
theorem dX15_highest_16 : decode cX15_highest 16 = .ok (.if_icmp .ge 22, 3) := dk_162 0 22 (dk_at dksX15_highest_0 16 rfl rfl)
theorem dX15_highest_19 : decode cX15_highest 19 = .ok (.aload_n 2, 1) := dk_44 (dk_at dksX15_highest_0 19 rfl rfl)
theorem dX15_highest_20 : decode cX15_highest 20 = .ok (.iload 4, 2) := dk_21 4 (dk_at dksX15_highest_0 20 rfl rfl)
theorem dX15_highest_22 : decode cX15_highest 22 = .ok (.iaload, 1) := dk_46 (dk_at dksX15_highest_0 22 rfl rfl)
theorem dX15_highest_23 : decode cX15_highest 23 = .ok (.istore 5, 2) := dk_54 5 (dk_at dksX15_highest_1 0 rfl rfl)
theorem dX15_highest_25 : decode cX15_highest 25 = .ok (.iload_n 1, 1) := dk_27 (dk_at dksX15_highest_1 2 rfl rfl)
theorem dX15_highest_26 : decode cX15_highest 26 = .ok (.iload 5, 2) := dk_21 5 (dk_at dksX15_highest_1 3 rfl rfl)
theorem dX15_highest_28 : decode cX15_highest 28 = .ok (.invokestatic 64, 3) := dk_184 0 64 (dk_at dksX15_highest_1 5 rfl rfl)
theorem dX15_highest_31 : decode cX15_highest 31 = .ok (.istore_n 1, 1) := dk_60 (dk_at dksX15_highest_1 8 rfl rfl)
theorem dX15_highest_32 : decode cX15_highest 32 = .ok (.iinc 4 1, 3) := dk_132 4 1 (dk_at dksX15_highest_1 9 rfl rfl)
theorem dX15_highest_35 : decode cX15_highest 35 = .ok (.goto (-22), 3) := dk_167 255 234 (dk_at dksX15_highest_1 12 rfl rfl)
theorem dX15_highest_38 : decode cX15_highest 38 = .ok (.iload_n 1, 1) := dk_27 (dk_at dksX15_highest_1 15 rfl rfl)
theorem dX15_highest_39 : decode cX15_highest 39 = .ok (.ireturn, 1) := dk_172 (dk_at dksX15_highest_1 16 rfl rfl)
abbrev cX15_letOn : ByteArray := prog_11_method_9_code
def yX15_letOn : MethodName := ⟨RX15, "letOn", "()I"⟩
def dkwX15_letOn_2 : List UInt8 := [27, 172]
abbrev dktX15_letOn_2 : List UInt8 := dkwX15_letOn_2 ++ []
def dkwX15_letOn_1 : List UInt8 := [54, 5, 27, 21, 5, 158, 0, 7, 4, 167, 0, 4, 3, 184, 0, 103, 96, 60, 132, 4, 1, 167, 255, 225]
abbrev dktX15_letOn_1 : List UInt8 := dkwX15_letOn_1 ++ dktX15_letOn_2
def dkwX15_letOn_0 : List UInt8 := [3, 60, 42, 180, 0, 15, 77, 44, 190, 62, 3, 54, 4, 21, 4, 29, 162, 0, 31, 44, 21, 4, 46]
abbrev dktX15_letOn_0 : List UInt8 := dkwX15_letOn_0 ++ dktX15_letOn_1
theorem dksX15_letOn_0 : cX15_letOn.data.toList.drop 0 = dktX15_letOn_0 := by decide +kernel
theorem dksX15_letOn_1 : cX15_letOn.data.toList.drop 23 = dktX15_letOn_1 := dk_seg dksX15_letOn_0 23 rfl rfl
theorem dksX15_letOn_2 : cX15_letOn.data.toList.drop 47 = dktX15_letOn_2 := dk_seg dksX15_letOn_1 24 rfl rfl
theorem dX15_letOn_0 : decode cX15_letOn 0 = .ok (.iconst 0, 1) := dk_3 (dk_at dksX15_letOn_0 0 rfl rfl)
theorem dX15_letOn_1 : decode cX15_letOn 1 = .ok (.istore_n 1, 1) := dk_60 (dk_at dksX15_letOn_0 1 rfl rfl)
theorem dX15_letOn_2 : decode cX15_letOn 2 = .ok (.aload_n 0, 1) := dk_42 (dk_at dksX15_letOn_0 2 rfl rfl)
theorem dX15_letOn_3 : decode cX15_letOn 3 = .ok (.getfield 15, 3) := dk_180 0 15 (dk_at dksX15_letOn_0 3 rfl rfl)
theorem dX15_letOn_6 : decode cX15_letOn 6 = .ok (.astore_n 2, 1) := dk_77 (dk_at dksX15_letOn_0 6 rfl rfl)
theorem dX15_letOn_7 : decode cX15_letOn 7 = .ok (.aload_n 2, 1) := dk_44 (dk_at dksX15_letOn_0 7 rfl rfl)
theorem dX15_letOn_8 : decode cX15_letOn 8 = .ok (.arraylength, 1) := dk_190 (dk_at dksX15_letOn_0 8 rfl rfl)
theorem dX15_letOn_9 : decode cX15_letOn 9 = .ok (.istore_n 3, 1) := dk_62 (dk_at dksX15_letOn_0 9 rfl rfl)
theorem dX15_letOn_10 : decode cX15_letOn 10 = .ok (.iconst 0, 1) := dk_3 (dk_at dksX15_letOn_0 10 rfl rfl)
theorem dX15_letOn_11 : decode cX15_letOn 11 = .ok (.istore 4, 2) := dk_54 4 (dk_at dksX15_letOn_0 11 rfl rfl)
theorem dX15_letOn_13 : decode cX15_letOn 13 = .ok (.iload 4, 2) := dk_21 4 (dk_at dksX15_letOn_0 13 rfl rfl)
theorem dX15_letOn_15 : decode cX15_letOn 15 = .ok (.iload_n 3, 1) := dk_29 (dk_at dksX15_letOn_0 15 rfl rfl)
theorem dX15_letOn_16 : decode cX15_letOn 16 = .ok (.if_icmp .ge 31, 3) := dk_162 0 31 (dk_at dksX15_letOn_0 16 rfl rfl)
theorem dX15_letOn_19 : decode cX15_letOn 19 = .ok (.aload_n 2, 1) := dk_44 (dk_at dksX15_letOn_0 19 rfl rfl)
theorem dX15_letOn_20 : decode cX15_letOn 20 = .ok (.iload 4, 2) := dk_21 4 (dk_at dksX15_letOn_0 20 rfl rfl)
theorem dX15_letOn_22 : decode cX15_letOn 22 = .ok (.iaload, 1) := dk_46 (dk_at dksX15_letOn_0 22 rfl rfl)
theorem dX15_letOn_23 : decode cX15_letOn 23 = .ok (.istore 5, 2) := dk_54 5 (dk_at dksX15_letOn_1 0 rfl rfl)
theorem dX15_letOn_25 : decode cX15_letOn 25 = .ok (.iload_n 1, 1) := dk_27 (dk_at dksX15_letOn_1 2 rfl rfl)
theorem dX15_letOn_26 : decode cX15_letOn 26 = .ok (.iload 5, 2) := dk_21 5 (dk_at dksX15_letOn_1 3 rfl rfl)
theorem dX15_letOn_28 : decode cX15_letOn 28 = .ok (.ifCond .le 7, 3) := dk_158 0 7 (dk_at dksX15_letOn_1 5 rfl rfl)
theorem dX15_letOn_31 : decode cX15_letOn 31 = .ok (.iconst 1, 1) := dk_4 (dk_at dksX15_letOn_1 8 rfl rfl)
theorem dX15_letOn_32 : decode cX15_letOn 32 = .ok (.goto 4, 3) := dk_167 0 4 (dk_at dksX15_letOn_1 9 rfl rfl)
theorem dX15_letOn_35 : decode cX15_letOn 35 = .ok (.iconst 0, 1) := dk_3 (dk_at dksX15_letOn_1 12 rfl rfl)
theorem dX15_letOn_36 : decode cX15_letOn 36 = .ok (.invokestatic 103, 3) := dk_184 0 103 (dk_at dksX15_letOn_1 13 rfl rfl)
theorem dX15_letOn_39 : decode cX15_letOn 39 = .ok (.iadd, 1) := dk_96 (dk_at dksX15_letOn_1 16 rfl rfl)
theorem dX15_letOn_40 : decode cX15_letOn 40 = .ok (.istore_n 1, 1) := dk_60 (dk_at dksX15_letOn_1 17 rfl rfl)
theorem dX15_letOn_41 : decode cX15_letOn 41 = .ok (.iinc 4 1, 3) := dk_132 4 1 (dk_at dksX15_letOn_1 18 rfl rfl)
theorem dX15_letOn_44 : decode cX15_letOn 44 = .ok (.goto (-31), 3) := dk_167 255 225 (dk_at dksX15_letOn_1 21 rfl rfl)
theorem dX15_letOn_47 : decode cX15_letOn 47 = .ok (.iload_n 1, 1) := dk_27 (dk_at dksX15_letOn_2 0 rfl rfl)
theorem dX15_letOn_48 : decode cX15_letOn 48 = .ok (.ireturn, 1) := dk_172 (dk_at dksX15_letOn_2 1 rfl rfl)
abbrev cX15_init : ByteArray := prog_11_method_1_code
def yX15_init : MethodName := ⟨RX15, "<init>", "(ILPublicanry$Duty;III)V"⟩
def dkwX15_init_2 : List UInt8 := [181, 0, 44, 42, 29, 181, 0, 48, 42, 21, 4, 181, 0, 51, 42, 21, 5, 181, 0, 54, 177]
abbrev dktX15_init_2 : List UInt8 := dkwX15_init_2 ++ []
def dkwX15_init_1 : List UInt8 := [181, 0, 24, 42, 184, 0, 27, 181, 0, 33, 42, 2, 181, 0, 37, 42, 27, 181, 0, 41, 42, 44]
abbrev dktX15_init_1 : List UInt8 := dkwX15_init_1 ++ dktX15_init_2
def dkwX15_init_0 : List UInt8 := [42, 183, 0, 3, 42, 7, 188, 10, 181, 0, 9, 42, 16, 8, 188, 10, 181, 0, 15, 42, 178, 0, 18]
abbrev dktX15_init_0 : List UInt8 := dkwX15_init_0 ++ dktX15_init_1
theorem dksX15_init_0 : cX15_init.data.toList.drop 0 = dktX15_init_0 := by decide +kernel
theorem dksX15_init_1 : cX15_init.data.toList.drop 23 = dktX15_init_1 := dk_seg dksX15_init_0 23 rfl rfl
theorem dksX15_init_2 : cX15_init.data.toList.drop 45 = dktX15_init_2 := dk_seg dksX15_init_1 22 rfl rfl
theorem dX15_init_0 : decode cX15_init 0 = .ok (.aload_n 0, 1) := dk_42 (dk_at dksX15_init_0 0 rfl rfl)
theorem dX15_init_1 : decode cX15_init 1 = .ok (.invokespecial 3, 3) := dk_183 0 3 (dk_at dksX15_init_0 1 rfl rfl)
theorem dX15_init_4 : decode cX15_init 4 = .ok (.aload_n 0, 1) := dk_42 (dk_at dksX15_init_0 4 rfl rfl)
theorem dX15_init_5 : decode cX15_init 5 = .ok (.iconst 4, 1) := dk_7 (dk_at dksX15_init_0 5 rfl rfl)
theorem dX15_init_6 : decode cX15_init 6 = .ok (.newarray .int, 2) := dk_188_10 (dk_at dksX15_init_0 6 rfl rfl)
theorem dX15_init_8 : decode cX15_init 8 = .ok (.putfield 9, 3) := dk_181 0 9 (dk_at dksX15_init_0 8 rfl rfl)
theorem dX15_init_11 : decode cX15_init 11 = .ok (.aload_n 0, 1) := dk_42 (dk_at dksX15_init_0 11 rfl rfl)
theorem dX15_init_12 : decode cX15_init 12 = .ok (.bipush 8, 2) := dk_16 8 (dk_at dksX15_init_0 12 rfl rfl)
theorem dX15_init_14 : decode cX15_init 14 = .ok (.newarray .int, 2) := dk_188_10 (dk_at dksX15_init_0 14 rfl rfl)
theorem dX15_init_16 : decode cX15_init 16 = .ok (.putfield 15, 3) := dk_181 0 15 (dk_at dksX15_init_0 16 rfl rfl)
theorem dX15_init_19 : decode cX15_init 19 = .ok (.aload_n 0, 1) := dk_42 (dk_at dksX15_init_0 19 rfl rfl)
theorem dX15_init_20 : decode cX15_init 20 = .ok (.getstatic 18, 3) := dk_178 0 18 (dk_at dksX15_init_0 20 rfl rfl)
theorem dX15_init_23 : decode cX15_init 23 = .ok (.putfield 24, 3) := dk_181 0 24 (dk_at dksX15_init_1 0 rfl rfl)
theorem dX15_init_26 : decode cX15_init 26 = .ok (.aload_n 0, 1) := dk_42 (dk_at dksX15_init_1 3 rfl rfl)
theorem dX15_init_27 : decode cX15_init 27 = .ok (.invokestatic 27, 3) := dk_184 0 27 (dk_at dksX15_init_1 4 rfl rfl)
theorem dX15_init_30 : decode cX15_init 30 = .ok (.putfield 33, 3) := dk_181 0 33 (dk_at dksX15_init_1 7 rfl rfl)
theorem dX15_init_33 : decode cX15_init 33 = .ok (.aload_n 0, 1) := dk_42 (dk_at dksX15_init_1 10 rfl rfl)
theorem dX15_init_34 : decode cX15_init 34 = .ok (.iconst (-1), 1) := dk_2 (dk_at dksX15_init_1 11 rfl rfl)
theorem dX15_init_35 : decode cX15_init 35 = .ok (.putfield 37, 3) := dk_181 0 37 (dk_at dksX15_init_1 12 rfl rfl)
theorem dX15_init_38 : decode cX15_init 38 = .ok (.aload_n 0, 1) := dk_42 (dk_at dksX15_init_1 15 rfl rfl)
theorem dX15_init_39 : decode cX15_init 39 = .ok (.iload_n 1, 1) := dk_27 (dk_at dksX15_init_1 16 rfl rfl)
theorem dX15_init_40 : decode cX15_init 40 = .ok (.putfield 41, 3) := dk_181 0 41 (dk_at dksX15_init_1 17 rfl rfl)
theorem dX15_init_43 : decode cX15_init 43 = .ok (.aload_n 0, 1) := dk_42 (dk_at dksX15_init_1 20 rfl rfl)
theorem dX15_init_44 : decode cX15_init 44 = .ok (.aload_n 2, 1) := dk_44 (dk_at dksX15_init_1 21 rfl rfl)
theorem dX15_init_45 : decode cX15_init 45 = .ok (.putfield 44, 3) := dk_181 0 44 (dk_at dksX15_init_2 0 rfl rfl)
theorem dX15_init_48 : decode cX15_init 48 = .ok (.aload_n 0, 1) := dk_42 (dk_at dksX15_init_2 3 rfl rfl)
theorem dX15_init_49 : decode cX15_init 49 = .ok (.iload_n 3, 1) := dk_29 (dk_at dksX15_init_2 4 rfl rfl)
theorem dX15_init_50 : decode cX15_init 50 = .ok (.putfield 48, 3) := dk_181 0 48 (dk_at dksX15_init_2 5 rfl rfl)
theorem dX15_init_53 : decode cX15_init 53 = .ok (.aload_n 0, 1) := dk_42 (dk_at dksX15_init_2 8 rfl rfl)
theorem dX15_init_54 : decode cX15_init 54 = .ok (.iload 4, 2) := dk_21 4 (dk_at dksX15_init_2 9 rfl rfl)
theorem dX15_init_56 : decode cX15_init 56 = .ok (.putfield 51, 3) := dk_181 0 51 (dk_at dksX15_init_2 11 rfl rfl)
theorem dX15_init_59 : decode cX15_init 59 = .ok (.aload_n 0, 1) := dk_42 (dk_at dksX15_init_2 14 rfl rfl)
theorem dX15_init_60 : decode cX15_init 60 = .ok (.iload 5, 2) := dk_21 5 (dk_at dksX15_init_2 15 rfl rfl)
theorem dX15_init_62 : decode cX15_init 62 = .ok (.putfield 54, 3) := dk_181 0 54 (dk_at dksX15_init_2 17 rfl rfl)
theorem dX15_init_65 : decode cX15_init 65 = .ok (.return_, 1) := dk_177 (dk_at dksX15_init_2 20 rfl rfl)
abbrev cX15_best : ByteArray := prog_11_method_7_code
def yX15_best : MethodName := ⟨RX15, "best", "(Ljava/util/ArrayList;I)I"⟩
def dkwX15_best_3 : List UInt8 := [180, 0, 9, 29, 46, 164, 0, 9, 25, 5, 180, 0, 70, 62, 167, 255, 186, 29, 172]
abbrev dktX15_best_3 : List UInt8 := dkwX15_best_3 ++ []
def dkwX15_best_2 : List UInt8 := [182, 0, 96, 153, 0, 33, 29, 2, 159, 0, 22, 42, 180, 0, 9, 25, 5, 180, 0, 70, 46, 42]
abbrev dktX15_best_2 : List UInt8 := dkwX15_best_2 ++ dktX15_best_3
def dkwX15_best_1 : List UInt8 := [185, 0, 92, 1, 0, 192, 0, 71, 58, 5, 25, 5, 180, 0, 70, 28, 159, 0, 42, 42, 25, 5]
abbrev dktX15_best_1 : List UInt8 := dkwX15_best_1 ++ dktX15_best_2
def dkwX15_best_0 : List UInt8 := [2, 62, 43, 182, 0, 81, 58, 4, 25, 4, 185, 0, 87, 1, 0, 153, 0, 66, 25, 4]
abbrev dktX15_best_0 : List UInt8 := dkwX15_best_0 ++ dktX15_best_1
theorem dksX15_best_0 : cX15_best.data.toList.drop 0 = dktX15_best_0 := by decide +kernel
theorem dksX15_best_1 : cX15_best.data.toList.drop 20 = dktX15_best_1 := dk_seg dksX15_best_0 20 rfl rfl
theorem dksX15_best_2 : cX15_best.data.toList.drop 42 = dktX15_best_2 := dk_seg dksX15_best_1 22 rfl rfl
theorem dksX15_best_3 : cX15_best.data.toList.drop 64 = dktX15_best_3 := dk_seg dksX15_best_2 22 rfl rfl
theorem dX15_best_0 : decode cX15_best 0 = .ok (.iconst (-1), 1) := dk_2 (dk_at dksX15_best_0 0 rfl rfl)
theorem dX15_best_1 : decode cX15_best 1 = .ok (.istore_n 3, 1) := dk_62 (dk_at dksX15_best_0 1 rfl rfl)
theorem dX15_best_2 : decode cX15_best 2 = .ok (.aload_n 1, 1) := dk_43 (dk_at dksX15_best_0 2 rfl rfl)
theorem dX15_best_3 : decode cX15_best 3 = .ok (.invokevirtual 81, 3) := dk_182 0 81 (dk_at dksX15_best_0 3 rfl rfl)
theorem dX15_best_6 : decode cX15_best 6 = .ok (.astore 4, 2) := dk_58 4 (dk_at dksX15_best_0 6 rfl rfl)
theorem dX15_best_8 : decode cX15_best 8 = .ok (.aload 4, 2) := dk_25 4 (dk_at dksX15_best_0 8 rfl rfl)
theorem dX15_best_10 : decode cX15_best 10 = .ok (.invokeinterface 87 1, 5) := by decide +kernel
theorem dX15_best_15 : decode cX15_best 15 = .ok (.ifCond .eq 66, 3) := dk_153 0 66 (dk_at dksX15_best_0 15 rfl rfl)
theorem dX15_best_18 : decode cX15_best 18 = .ok (.aload 4, 2) := dk_25 4 (dk_at dksX15_best_0 18 rfl rfl)
theorem dX15_best_20 : decode cX15_best 20 = .ok (.invokeinterface 92 1, 5) := by decide +kernel
theorem dX15_best_25 : decode cX15_best 25 = .ok (.checkcast 71, 3) := dk_192 0 71 (dk_at dksX15_best_1 5 rfl rfl)
theorem dX15_best_28 : decode cX15_best 28 = .ok (.astore 5, 2) := dk_58 5 (dk_at dksX15_best_1 8 rfl rfl)
theorem dX15_best_30 : decode cX15_best 30 = .ok (.aload 5, 2) := dk_25 5 (dk_at dksX15_best_1 10 rfl rfl)
theorem dX15_best_32 : decode cX15_best 32 = .ok (.getfield 70, 3) := dk_180 0 70 (dk_at dksX15_best_1 12 rfl rfl)
theorem dX15_best_35 : decode cX15_best 35 = .ok (.iload_n 2, 1) := dk_28 (dk_at dksX15_best_1 15 rfl rfl)
theorem dX15_best_36 : decode cX15_best 36 = .ok (.if_icmp .eq 42, 3) := dk_159 0 42 (dk_at dksX15_best_1 16 rfl rfl)
theorem dX15_best_39 : decode cX15_best 39 = .ok (.aload_n 0, 1) := dk_42 (dk_at dksX15_best_1 19 rfl rfl)
theorem dX15_best_40 : decode cX15_best 40 = .ok (.aload 5, 2) := dk_25 5 (dk_at dksX15_best_1 20 rfl rfl)
theorem dX15_best_42 : decode cX15_best 42 = .ok (.invokevirtual 96, 3) := dk_182 0 96 (dk_at dksX15_best_2 0 rfl rfl)
theorem dX15_best_45 : decode cX15_best 45 = .ok (.ifCond .eq 33, 3) := dk_153 0 33 (dk_at dksX15_best_2 3 rfl rfl)
theorem dX15_best_48 : decode cX15_best 48 = .ok (.iload_n 3, 1) := dk_29 (dk_at dksX15_best_2 6 rfl rfl)
theorem dX15_best_49 : decode cX15_best 49 = .ok (.iconst (-1), 1) := dk_2 (dk_at dksX15_best_2 7 rfl rfl)
theorem dX15_best_50 : decode cX15_best 50 = .ok (.if_icmp .eq 22, 3) := dk_159 0 22 (dk_at dksX15_best_2 8 rfl rfl)
theorem dX15_best_53 : decode cX15_best 53 = .ok (.aload_n 0, 1) := dk_42 (dk_at dksX15_best_2 11 rfl rfl)
theorem dX15_best_54 : decode cX15_best 54 = .ok (.getfield 9, 3) := dk_180 0 9 (dk_at dksX15_best_2 12 rfl rfl)
theorem dX15_best_57 : decode cX15_best 57 = .ok (.aload 5, 2) := dk_25 5 (dk_at dksX15_best_2 15 rfl rfl)
theorem dX15_best_59 : decode cX15_best 59 = .ok (.getfield 70, 3) := dk_180 0 70 (dk_at dksX15_best_2 17 rfl rfl)
theorem dX15_best_62 : decode cX15_best 62 = .ok (.iaload, 1) := dk_46 (dk_at dksX15_best_2 20 rfl rfl)
theorem dX15_best_63 : decode cX15_best 63 = .ok (.aload_n 0, 1) := dk_42 (dk_at dksX15_best_2 21 rfl rfl)
theorem dX15_best_64 : decode cX15_best 64 = .ok (.getfield 9, 3) := dk_180 0 9 (dk_at dksX15_best_3 0 rfl rfl)
theorem dX15_best_67 : decode cX15_best 67 = .ok (.iload_n 3, 1) := dk_29 (dk_at dksX15_best_3 3 rfl rfl)
theorem dX15_best_68 : decode cX15_best 68 = .ok (.iaload, 1) := dk_46 (dk_at dksX15_best_3 4 rfl rfl)
theorem dX15_best_69 : decode cX15_best 69 = .ok (.if_icmp .le 9, 3) := dk_164 0 9 (dk_at dksX15_best_3 5 rfl rfl)
theorem dX15_best_72 : decode cX15_best 72 = .ok (.aload 5, 2) := dk_25 5 (dk_at dksX15_best_3 8 rfl rfl)
theorem dX15_best_74 : decode cX15_best 74 = .ok (.getfield 70, 3) := dk_180 0 70 (dk_at dksX15_best_3 10 rfl rfl)
theorem dX15_best_77 : decode cX15_best 77 = .ok (.istore_n 3, 1) := dk_62 (dk_at dksX15_best_3 13 rfl rfl)
theorem dX15_best_78 : decode cX15_best 78 = .ok (.goto (-70), 3) := dk_167 255 186 (dk_at dksX15_best_3 14 rfl rfl)
theorem dX15_best_81 : decode cX15_best 81 = .ok (.iload_n 3, 1) := dk_29 (dk_at dksX15_best_3 17 rfl rfl)
theorem dX15_best_82 : decode cX15_best 82 = .ok (.ireturn, 1) := dk_172 (dk_at dksX15_best_3 18 rfl rfl)
abbrev cX15_counts : ByteArray := prog_11_method_6_code
def yX15_counts : MethodName := ⟨RX15, "counts", "(LPublicanry$Company;)Z"⟩
def dkwX15_counts_1 : List UInt8 := [180, 0, 73, 154, 0, 15, 43, 28, 182, 0, 77, 153, 0, 7, 4, 167, 0, 4, 3, 172]
abbrev dktX15_counts_1 : List UInt8 := dkwX15_counts_1 ++ []
def dkwX15_counts_0 : List UInt8 := [42, 180, 0, 9, 43, 180, 0, 70, 46, 61, 28, 158, 0, 30, 28, 42, 180, 0, 54, 161, 0, 22, 43]
abbrev dktX15_counts_0 : List UInt8 := dkwX15_counts_0 ++ dktX15_counts_1
theorem dksX15_counts_0 : cX15_counts.data.toList.drop 0 = dktX15_counts_0 := by decide +kernel
theorem dksX15_counts_1 : cX15_counts.data.toList.drop 23 = dktX15_counts_1 := dk_seg dksX15_counts_0 23 rfl rfl
theorem dX15_counts_0 : decode cX15_counts 0 = .ok (.aload_n 0, 1) := dk_42 (dk_at dksX15_counts_0 0 rfl rfl)
theorem dX15_counts_1 : decode cX15_counts 1 = .ok (.getfield 9, 3) := dk_180 0 9 (dk_at dksX15_counts_0 1 rfl rfl)
theorem dX15_counts_4 : decode cX15_counts 4 = .ok (.aload_n 1, 1) := dk_43 (dk_at dksX15_counts_0 4 rfl rfl)
theorem dX15_counts_5 : decode cX15_counts 5 = .ok (.getfield 70, 3) := dk_180 0 70 (dk_at dksX15_counts_0 5 rfl rfl)
theorem dX15_counts_8 : decode cX15_counts 8 = .ok (.iaload, 1) := dk_46 (dk_at dksX15_counts_0 8 rfl rfl)
theorem dX15_counts_9 : decode cX15_counts 9 = .ok (.istore_n 2, 1) := dk_61 (dk_at dksX15_counts_0 9 rfl rfl)
theorem dX15_counts_10 : decode cX15_counts 10 = .ok (.iload_n 2, 1) := dk_28 (dk_at dksX15_counts_0 10 rfl rfl)
theorem dX15_counts_11 : decode cX15_counts 11 = .ok (.ifCond .le 30, 3) := dk_158 0 30 (dk_at dksX15_counts_0 11 rfl rfl)
theorem dX15_counts_14 : decode cX15_counts 14 = .ok (.iload_n 2, 1) := dk_28 (dk_at dksX15_counts_0 14 rfl rfl)
theorem dX15_counts_15 : decode cX15_counts 15 = .ok (.aload_n 0, 1) := dk_42 (dk_at dksX15_counts_0 15 rfl rfl)
theorem dX15_counts_16 : decode cX15_counts 16 = .ok (.getfield 54, 3) := dk_180 0 54 (dk_at dksX15_counts_0 16 rfl rfl)
theorem dX15_counts_19 : decode cX15_counts 19 = .ok (.if_icmp .lt 22, 3) := dk_161 0 22 (dk_at dksX15_counts_0 19 rfl rfl)
theorem dX15_counts_22 : decode cX15_counts 22 = .ok (.aload_n 1, 1) := dk_43 (dk_at dksX15_counts_0 22 rfl rfl)
theorem dX15_counts_23 : decode cX15_counts 23 = .ok (.getfield 73, 3) := dk_180 0 73 (dk_at dksX15_counts_1 0 rfl rfl)
theorem dX15_counts_26 : decode cX15_counts 26 = .ok (.ifCond .ne 15, 3) := dk_154 0 15 (dk_at dksX15_counts_1 3 rfl rfl)
theorem dX15_counts_29 : decode cX15_counts 29 = .ok (.aload_n 1, 1) := dk_43 (dk_at dksX15_counts_1 6 rfl rfl)
theorem dX15_counts_30 : decode cX15_counts 30 = .ok (.iload_n 2, 1) := dk_28 (dk_at dksX15_counts_1 7 rfl rfl)
theorem dX15_counts_31 : decode cX15_counts 31 = .ok (.invokevirtual 77, 3) := dk_182 0 77 (dk_at dksX15_counts_1 8 rfl rfl)
theorem dX15_counts_34 : decode cX15_counts 34 = .ok (.ifCond .eq 7, 3) := dk_153 0 7 (dk_at dksX15_counts_1 11 rfl rfl)
theorem dX15_counts_37 : decode cX15_counts 37 = .ok (.iconst 1, 1) := dk_4 (dk_at dksX15_counts_1 14 rfl rfl)
theorem dX15_counts_38 : decode cX15_counts 38 = .ok (.goto 4, 3) := dk_167 0 4 (dk_at dksX15_counts_1 15 rfl rfl)
theorem dX15_counts_41 : decode cX15_counts 41 = .ok (.iconst 0, 1) := dk_3 (dk_at dksX15_counts_1 18 rfl rfl)
theorem dX15_counts_42 : decode cX15_counts 42 = .ok (.ireturn, 1) := dk_172 (dk_at dksX15_counts_1 19 rfl rfl)
abbrev cX15_installment : ByteArray := prog_11_method_8_code
def yX15_installment : MethodName := ⟨RX15, "installment", "(I)I"⟩
def dkwX15_installment_1 : List UInt8 := [167, 0, 4, 3, 96, 172]
abbrev dktX15_installment_1 : List UInt8 := dkwX15_installment_1 ++ []
def dkwX15_installment_0 : List UInt8 := [42, 180, 0, 100, 42, 180, 0, 51, 108, 27, 154, 0, 15, 42, 180, 0, 100, 42, 180, 0, 51, 112]
abbrev dktX15_installment_0 : List UInt8 := dkwX15_installment_0 ++ dktX15_installment_1
theorem dksX15_installment_0 : cX15_installment.data.toList.drop 0 = dktX15_installment_0 := by decide +kernel
theorem dksX15_installment_1 : cX15_installment.data.toList.drop 22 = dktX15_installment_1 := dk_seg dksX15_installment_0 22 rfl rfl
theorem dX15_installment_0 : decode cX15_installment 0 = .ok (.aload_n 0, 1) := dk_42 (dk_at dksX15_installment_0 0 rfl rfl)
theorem dX15_installment_1 : decode cX15_installment 1 = .ok (.getfield 100, 3) := dk_180 0 100 (dk_at dksX15_installment_0 1 rfl rfl)
theorem dX15_installment_4 : decode cX15_installment 4 = .ok (.aload_n 0, 1) := dk_42 (dk_at dksX15_installment_0 4 rfl rfl)
theorem dX15_installment_5 : decode cX15_installment 5 = .ok (.getfield 51, 3) := dk_180 0 51 (dk_at dksX15_installment_0 5 rfl rfl)
theorem dX15_installment_8 : decode cX15_installment 8 = .ok (.idiv, 1) := dk_108 (dk_at dksX15_installment_0 8 rfl rfl)
theorem dX15_installment_9 : decode cX15_installment 9 = .ok (.iload_n 1, 1) := dk_27 (dk_at dksX15_installment_0 9 rfl rfl)
theorem dX15_installment_10 : decode cX15_installment 10 = .ok (.ifCond .ne 15, 3) := dk_154 0 15 (dk_at dksX15_installment_0 10 rfl rfl)
theorem dX15_installment_13 : decode cX15_installment 13 = .ok (.aload_n 0, 1) := dk_42 (dk_at dksX15_installment_0 13 rfl rfl)
theorem dX15_installment_14 : decode cX15_installment 14 = .ok (.getfield 100, 3) := dk_180 0 100 (dk_at dksX15_installment_0 14 rfl rfl)
theorem dX15_installment_17 : decode cX15_installment 17 = .ok (.aload_n 0, 1) := dk_42 (dk_at dksX15_installment_0 17 rfl rfl)
theorem dX15_installment_18 : decode cX15_installment 18 = .ok (.getfield 51, 3) := dk_180 0 51 (dk_at dksX15_installment_0 18 rfl rfl)
theorem dX15_installment_21 : decode cX15_installment 21 = .ok (.irem, 1) := dk_112 (dk_at dksX15_installment_0 21 rfl rfl)
theorem dX15_installment_22 : decode cX15_installment 22 = .ok (.goto 4, 3) := dk_167 0 4 (dk_at dksX15_installment_1 0 rfl rfl)
theorem dX15_installment_25 : decode cX15_installment 25 = .ok (.iconst 0, 1) := dk_3 (dk_at dksX15_installment_1 3 rfl rfl)
theorem dX15_installment_26 : decode cX15_installment 26 = .ok (.iadd, 1) := dk_96 (dk_at dksX15_installment_1 4 rfl rfl)
theorem dX15_installment_27 : decode cX15_installment 27 = .ok (.ireturn, 1) := dk_172 (dk_at dksX15_installment_1 5 rfl rfl)
abbrev cX15_end : ByteArray := prog_11_method_10_code
def yX15_end : MethodName := ⟨RX15, "end", "()V"⟩
def dkwX15_end_1 : List UInt8 := [182, 0, 116, 192, 0, 71, 89, 180, 0, 119, 42, 180, 0, 100, 7, 108, 100, 181, 0, 119, 177]
abbrev dktX15_end_1 : List UInt8 := dkwX15_end_1 ++ []
def dkwX15_end_0 : List UInt8 := [42, 182, 0, 107, 154, 0, 4, 177, 42, 178, 0, 110, 181, 0, 24, 42, 3, 181, 0, 113, 42, 180, 0, 33]
abbrev dktX15_end_0 : List UInt8 := dkwX15_end_0 ++ dktX15_end_1
theorem dksX15_end_0 : cX15_end.data.toList.drop 0 = dktX15_end_0 := by decide +kernel
theorem dksX15_end_1 : cX15_end.data.toList.drop 24 = dktX15_end_1 := dk_seg dksX15_end_0 24 rfl rfl
theorem dX15_end_0 : decode cX15_end 0 = .ok (.aload_n 0, 1) := dk_42 (dk_at dksX15_end_0 0 rfl rfl)
theorem dX15_end_1 : decode cX15_end 1 = .ok (.invokevirtual 107, 3) := dk_182 0 107 (dk_at dksX15_end_0 1 rfl rfl)
theorem dX15_end_4 : decode cX15_end 4 = .ok (.ifCond .ne 4, 3) := dk_154 0 4 (dk_at dksX15_end_0 4 rfl rfl)
theorem dX15_end_7 : decode cX15_end 7 = .ok (.return_, 1) := dk_177 (dk_at dksX15_end_0 7 rfl rfl)
theorem dX15_end_8 : decode cX15_end 8 = .ok (.aload_n 0, 1) := dk_42 (dk_at dksX15_end_0 8 rfl rfl)
theorem dX15_end_9 : decode cX15_end 9 = .ok (.getstatic 110, 3) := dk_178 0 110 (dk_at dksX15_end_0 9 rfl rfl)
theorem dX15_end_12 : decode cX15_end 12 = .ok (.putfield 24, 3) := dk_181 0 24 (dk_at dksX15_end_0 12 rfl rfl)
theorem dX15_end_15 : decode cX15_end 15 = .ok (.aload_n 0, 1) := dk_42 (dk_at dksX15_end_0 15 rfl rfl)
theorem dX15_end_16 : decode cX15_end 16 = .ok (.iconst 0, 1) := dk_3 (dk_at dksX15_end_0 16 rfl rfl)
theorem dX15_end_17 : decode cX15_end 17 = .ok (.putfield 113, 3) := dk_181 0 113 (dk_at dksX15_end_0 17 rfl rfl)
theorem dX15_end_20 : decode cX15_end 20 = .ok (.aload_n 0, 1) := dk_42 (dk_at dksX15_end_0 20 rfl rfl)
theorem dX15_end_21 : decode cX15_end 21 = .ok (.getfield 33, 3) := dk_180 0 33 (dk_at dksX15_end_0 21 rfl rfl)
theorem dX15_end_24 : decode cX15_end 24 = .ok (.invokevirtual 116, 3) := dk_182 0 116 (dk_at dksX15_end_1 0 rfl rfl)
theorem dX15_end_27 : decode cX15_end 27 = .ok (.checkcast 71, 3) := dk_192 0 71 (dk_at dksX15_end_1 3 rfl rfl)
theorem dX15_end_30 : decode cX15_end 30 = .ok (.dup, 1) := dk_89 (dk_at dksX15_end_1 6 rfl rfl)
theorem dX15_end_31 : decode cX15_end 31 = .ok (.getfield 119, 3) := dk_180 0 119 (dk_at dksX15_end_1 7 rfl rfl)
theorem dX15_end_34 : decode cX15_end 34 = .ok (.aload_n 0, 1) := dk_42 (dk_at dksX15_end_1 10 rfl rfl)
theorem dX15_end_35 : decode cX15_end 35 = .ok (.getfield 100, 3) := dk_180 0 100 (dk_at dksX15_end_1 11 rfl rfl)
theorem dX15_end_38 : decode cX15_end 38 = .ok (.iconst 4, 1) := dk_7 (dk_at dksX15_end_1 14 rfl rfl)
theorem dX15_end_39 : decode cX15_end 39 = .ok (.idiv, 1) := dk_108 (dk_at dksX15_end_1 15 rfl rfl)
theorem dX15_end_40 : decode cX15_end 40 = .ok (.isub, 1) := dk_100 (dk_at dksX15_end_1 16 rfl rfl)
theorem dX15_end_41 : decode cX15_end 41 = .ok (.putfield 119, 3) := dk_181 0 119 (dk_at dksX15_end_1 17 rfl rfl)
theorem dX15_end_44 : decode cX15_end 44 = .ok (.return_, 1) := dk_177 (dk_at dksX15_end_1 20 rfl rfl)
theorem q112 : (Jvm.Cond.initialized "Publicanry$Lot") ∈ lw_all := lw_g (lw_at lw_m1 39 rfl) rfl
theorem q465 : (Jvm.Cond.selects "Publicanry$Lot" ({ cls := "java/lang/Object", name := "notifyAll", desc := "()V" } : Jvm.MethodName) ({ cls := "java/lang/Object", name := "notifyAll", desc := "()V" } : Jvm.MethodName)) ∈ lw_all := lw_g (lw_at lw_m2 152 rfl) rfl
theorem q499 : (Jvm.Cond.instanceMethod ({ cls := "Publicanry$Lot", name := "isOpen", desc := "()Z" } : Jvm.MethodName)) ∈ lw_all := lw_g (lw_at lw_m2 186 rfl) rfl
theorem q500 : (Jvm.Cond.selects "Publicanry$Lot" ({ cls := "Publicanry$Lot", name := "isOpen", desc := "()Z" } : Jvm.MethodName) ({ cls := "Publicanry$Lot", name := "isOpen", desc := "()Z" } : Jvm.MethodName)) ∈ lw_all := lw_g (lw_at lw_m2 187 rfl) rfl
theorem q501 : (Jvm.Cond.code ({ cls := "Publicanry$Lot", name := "isOpen", desc := "()Z" } : Jvm.MethodName) prog_11_method_2_code (1 : Nat) (Option.some Jvm.ClassFile.FieldType.boolean)) ∈ lw_all := lw_g (lw_at lw_m2 188 rfl) rfl
theorem q502 : (Jvm.Cond.fieldLink "Publicanry$Lot" (18 : Nat) "Publicanry$Stand" "OFFERED" "LPublicanry$Stand;") ∈ lw_all := lw_g (lw_at lw_m2 189 rfl) rfl
theorem q504 : (Jvm.Cond.fieldLink "Publicanry$Lot" (57 : Nat) "Publicanry$Stand" "LEASED" "LPublicanry$Stand;") ∈ lw_all := lw_g (lw_at lw_m2 191 rfl) rfl
theorem q511 : (Jvm.Cond.instanceMethod ({ cls := "Publicanry$Lot", name := "clashes", desc := "(LPublicanry$Lot;)Z" } : Jvm.MethodName)) ∈ lw_all := lw_g (lw_at lw_m2 198 rfl) rfl
theorem q512 : (Jvm.Cond.selects "Publicanry$Lot" ({ cls := "Publicanry$Lot", name := "clashes", desc := "(LPublicanry$Lot;)Z" } : Jvm.MethodName) ({ cls := "Publicanry$Lot", name := "clashes", desc := "(LPublicanry$Lot;)Z" } : Jvm.MethodName)) ∈ lw_all := lw_g (lw_at lw_m2 199 rfl) rfl
theorem q513 : (Jvm.Cond.code ({ cls := "Publicanry$Lot", name := "clashes", desc := "(LPublicanry$Lot;)Z" } : Jvm.MethodName) prog_11_method_4_code (2 : Nat) (Option.some Jvm.ClassFile.FieldType.boolean)) ∈ lw_all := lw_g (lw_at lw_m2 200 rfl) rfl
theorem q514 : (Jvm.Cond.methodLink "Publicanry$Lot" (60 : Nat) ({ cls := "Publicanry$Lot", name := "isOpen", desc := "()Z" } : Jvm.MethodName)) ∈ lw_all := lw_g (lw_at lw_m2 201 rfl) rfl
theorem q516 : (Jvm.Cond.instanceMethod ({ cls := "Publicanry$Lot", name := "isLeased", desc := "()Z" } : Jvm.MethodName)) ∈ lw_all := lw_g (lw_at lw_m2 203 rfl) rfl
theorem q517 : (Jvm.Cond.selects "Publicanry$Lot" ({ cls := "Publicanry$Lot", name := "isLeased", desc := "()Z" } : Jvm.MethodName) ({ cls := "Publicanry$Lot", name := "isLeased", desc := "()Z" } : Jvm.MethodName)) ∈ lw_all := lw_g (lw_at lw_m2 204 rfl) rfl
theorem q518 : (Jvm.Cond.code ({ cls := "Publicanry$Lot", name := "isLeased", desc := "()Z" } : Jvm.MethodName) prog_11_method_3_code (1 : Nat) (Option.some Jvm.ClassFile.FieldType.boolean)) ∈ lw_all := lw_g (lw_at lw_m2 205 rfl) rfl
theorem q567 : (Jvm.Cond.selects "Publicanry$Lot" ({ cls := "java/lang/Object", name := "notify", desc := "()V" } : Jvm.MethodName) ({ cls := "java/lang/Object", name := "notify", desc := "()V" } : Jvm.MethodName)) ∈ lw_all := lw_g (lw_at lw_m3 14 rfl) rfl
theorem q748 : (Jvm.Cond.instanceMethod ({ cls := "Publicanry$Lot", name := "highest", desc := "()I" } : Jvm.MethodName)) ∈ lw_all := lw_g (lw_at lw_m3 195 rfl) rfl
theorem q749 : (Jvm.Cond.selects "Publicanry$Lot" ({ cls := "Publicanry$Lot", name := "highest", desc := "()I" } : Jvm.MethodName) ({ cls := "Publicanry$Lot", name := "highest", desc := "()I" } : Jvm.MethodName)) ∈ lw_all := lw_g (lw_at lw_m3 196 rfl) rfl
theorem q750 : (Jvm.Cond.code ({ cls := "Publicanry$Lot", name := "highest", desc := "()I" } : Jvm.MethodName) prog_11_method_5_code (6 : Nat) (Option.some Jvm.ClassFile.FieldType.int)) ∈ lw_all := lw_g (lw_at lw_m3 197 rfl) rfl
theorem q751 : (Jvm.Cond.methodLink "Publicanry$Lot" (64 : Nat) ({ cls := "java/lang/Math", name := "max", desc := "(II)I" } : Jvm.MethodName)) ∈ lw_all := lw_g (lw_at lw_m3 198 rfl) rfl
theorem q753 : (Jvm.Cond.instanceMethod ({ cls := "Publicanry$Lot", name := "letOn", desc := "()I" } : Jvm.MethodName)) ∈ lw_all := lw_g (lw_at lw_m3 200 rfl) rfl
theorem q754 : (Jvm.Cond.selects "Publicanry$Lot" ({ cls := "Publicanry$Lot", name := "letOn", desc := "()I" } : Jvm.MethodName) ({ cls := "Publicanry$Lot", name := "letOn", desc := "()I" } : Jvm.MethodName)) ∈ lw_all := lw_g (lw_at lw_m3 201 rfl) rfl
theorem q755 : (Jvm.Cond.code ({ cls := "Publicanry$Lot", name := "letOn", desc := "()I" } : Jvm.MethodName) prog_11_method_9_code (6 : Nat) (Option.some Jvm.ClassFile.FieldType.int)) ∈ lw_all := lw_g (lw_at lw_m3 202 rfl) rfl
theorem q756 : (Jvm.Cond.methodLinkNest "Publicanry$Lot" (103 : Nat) ({ cls := "Publicanry", name := "one", desc := "(Z)I" } : Jvm.MethodName) "Publicanry") ∈ lw_tbl := lw_at lw_m3 203 rfl
theorem q884 : (Jvm.Cond.selects "Publicanry$Lot" ({ cls := "java/lang/Object", name := "getClass", desc := "()Ljava/lang/Class;" } : Jvm.MethodName) ({ cls := "java/lang/Object", name := "getClass", desc := "()Ljava/lang/Class;" } : Jvm.MethodName)) ∈ lw_all := lw_g (lw_at lw_m4 91 rfl) rfl
theorem q1121 : (Jvm.Cond.fieldLink "Publicanry$Lot" (70 : Nat) "Publicanry$Company" "number" "I") ∈ lw_all := lw_g (lw_at lw_m5 88 rfl) rfl
theorem q1130 : (Jvm.Cond.fieldLink "Publicanry$Lot" (119 : Nat) "Publicanry$Company" "pledged" "I") ∈ lw_all := lw_g (lw_at lw_m5 97 rfl) rfl
theorem q1142 : (Jvm.Cond.fieldLink "Publicanry$Lot" (73 : Nat) "Publicanry$Company" "isBanned" "Z") ∈ lw_all := lw_g (lw_at lw_m5 109 rfl) rfl
theorem q1246 : (Jvm.Cond.instantiable "Publicanry$Lot" (15 : Nat)) ∈ lw_all := lw_g (lw_at lw_m5 213 rfl) rfl
theorem q1248 : (Jvm.Cond.instanceMethod ({ cls := "Publicanry$Lot", name := "<init>", desc := "(ILPublicanry$Duty;III)V" } : Jvm.MethodName)) ∈ lw_all := lw_g (lw_at lw_m5 215 rfl) rfl
theorem q1249 : (Jvm.Cond.code ({ cls := "Publicanry$Lot", name := "<init>", desc := "(ILPublicanry$Duty;III)V" } : Jvm.MethodName) prog_11_method_1_code (6 : Nat) (Option.none : Option Jvm.ClassFile.FieldType)) ∈ lw_all := lw_g (lw_at lw_m5 216 rfl) rfl
theorem q1250 : (Jvm.Cond.methodLink "Publicanry$Lot" (3 : Nat) ({ cls := "java/lang/Object", name := "<init>", desc := "()V" } : Jvm.MethodName)) ∈ lw_all := lw_g (lw_at lw_m5 217 rfl) rfl
theorem q1251 : (Jvm.Cond.methodLink "Publicanry$Lot" (27 : Nat) ({ cls := "java/util/Optional", name := "empty", desc := "()Ljava/util/Optional;" } : Jvm.MethodName)) ∈ lw_all := lw_g (lw_at lw_m5 218 rfl) rfl
theorem q1252 : (Jvm.Cond.fieldLink "Publicanry$Lot" (41 : Nat) "Publicanry$Lot" "number" "I") ∈ lw_all := lw_g (lw_at lw_m5 219 rfl) rfl
theorem q1254 : (Jvm.Cond.fieldLink "Publicanry$Lot" (44 : Nat) "Publicanry$Lot" "duty" "LPublicanry$Duty;") ∈ lw_all := lw_g (lw_at lw_m5 221 rfl) rfl
theorem q1256 : (Jvm.Cond.fieldLink "Publicanry$Lot" (48 : Nat) "Publicanry$Lot" "villages" "I") ∈ lw_all := lw_g (lw_at lw_m5 223 rfl) rfl
theorem q1258 : (Jvm.Cond.fieldLink "Publicanry$Lot" (51 : Nat) "Publicanry$Lot" "term" "I") ∈ lw_all := lw_g (lw_at lw_m5 225 rfl) rfl
theorem q1260 : (Jvm.Cond.fieldLink "Publicanry$Lot" (54 : Nat) "Publicanry$Lot" "minimum" "I") ∈ lw_all := lw_g (lw_at lw_m5 227 rfl) rfl
theorem q1262 : (Jvm.Cond.fieldLink "Publicanry$Lot" (9 : Nat) "Publicanry$Lot" "bids" "[I") ∈ lw_all := lw_g (lw_at lw_m5 229 rfl) rfl
theorem q1264 : (Jvm.Cond.fieldLink "Publicanry$Lot" (15 : Nat) "Publicanry$Lot" "agents" "[I") ∈ lw_all := lw_g (lw_at lw_m5 231 rfl) rfl
theorem q1266 : (Jvm.Cond.fieldLink "Publicanry$Lot" (24 : Nat) "Publicanry$Lot" "stand" "LPublicanry$Stand;") ∈ lw_all := lw_g (lw_at lw_m5 233 rfl) rfl
theorem q1268 : (Jvm.Cond.fieldLink "Publicanry$Lot" (33 : Nat) "Publicanry$Lot" "holder" "Ljava/util/Optional;") ∈ lw_all := lw_g (lw_at lw_m5 235 rfl) rfl
theorem q1270 : (Jvm.Cond.fieldLink "Publicanry$Lot" (100 : Nat) "Publicanry$Lot" "price" "I") ∈ lw_all := lw_g (lw_at lw_m5 237 rfl) rfl
theorem q1272 : (Jvm.Cond.fieldLink "Publicanry$Lot" (113 : Nat) "Publicanry$Lot" "autumns" "I") ∈ lw_all := lw_g (lw_at lw_m5 239 rfl) rfl
theorem q1277 : (Jvm.Cond.fieldLink "Publicanry$Lot" (37 : Nat) "Publicanry$Lot" "askedYear" "I") ∈ lw_all := lw_g (lw_at lw_m6 4 rfl) rfl
theorem q1279 : (Jvm.Cond.laysFinal "Publicanry$Lot" "Publicanry$Lot" "number" "I") ∈ lw_all := lw_g (lw_at lw_m6 6 rfl) rfl
theorem q1280 : (Jvm.Cond.soleField "Publicanry$Lot" "number") ∈ lw_all := lw_g (lw_at lw_m6 7 rfl) rfl
theorem q1281 : (Jvm.Cond.laysFinal "Publicanry$Lot" "Publicanry$Lot" "duty" "LPublicanry$Duty;") ∈ lw_all := lw_g (lw_at lw_m6 8 rfl) rfl
theorem q1282 : (Jvm.Cond.soleField "Publicanry$Lot" "duty") ∈ lw_all := lw_g (lw_at lw_m6 9 rfl) rfl
theorem q1283 : (Jvm.Cond.laysFinal "Publicanry$Lot" "Publicanry$Lot" "villages" "I") ∈ lw_all := lw_g (lw_at lw_m6 10 rfl) rfl
theorem q1284 : (Jvm.Cond.soleField "Publicanry$Lot" "villages") ∈ lw_all := lw_g (lw_at lw_m6 11 rfl) rfl
theorem q1285 : (Jvm.Cond.laysFinal "Publicanry$Lot" "Publicanry$Lot" "term" "I") ∈ lw_all := lw_g (lw_at lw_m6 12 rfl) rfl
theorem q1286 : (Jvm.Cond.soleField "Publicanry$Lot" "term") ∈ lw_all := lw_g (lw_at lw_m6 13 rfl) rfl
theorem q1287 : (Jvm.Cond.laysFinal "Publicanry$Lot" "Publicanry$Lot" "minimum" "I") ∈ lw_all := lw_g (lw_at lw_m6 14 rfl) rfl
theorem q1288 : (Jvm.Cond.soleField "Publicanry$Lot" "minimum") ∈ lw_all := lw_g (lw_at lw_m6 15 rfl) rfl
theorem q1289 : (Jvm.Cond.laysFinal "Publicanry$Lot" "Publicanry$Lot" "bids" "[I") ∈ lw_all := lw_g (lw_at lw_m6 16 rfl) rfl
theorem q1290 : (Jvm.Cond.soleField "Publicanry$Lot" "bids") ∈ lw_all := lw_g (lw_at lw_m6 17 rfl) rfl
theorem q1291 : (Jvm.Cond.laysFinal "Publicanry$Lot" "Publicanry$Lot" "agents" "[I") ∈ lw_all := lw_g (lw_at lw_m6 18 rfl) rfl
theorem q1292 : (Jvm.Cond.soleField "Publicanry$Lot" "agents") ∈ lw_all := lw_g (lw_at lw_m6 19 rfl) rfl
theorem q1293 : (Jvm.Cond.lays "Publicanry$Lot" "Publicanry$Lot" "stand" "LPublicanry$Stand;") ∈ lw_all := lw_g (lw_at lw_m6 20 rfl) rfl
theorem q1294 : (Jvm.Cond.soleField "Publicanry$Lot" "stand") ∈ lw_all := lw_g (lw_at lw_m6 21 rfl) rfl
theorem q1295 : (Jvm.Cond.lays "Publicanry$Lot" "Publicanry$Lot" "holder" "Ljava/util/Optional;") ∈ lw_all := lw_g (lw_at lw_m6 22 rfl) rfl
theorem q1296 : (Jvm.Cond.soleField "Publicanry$Lot" "holder") ∈ lw_all := lw_g (lw_at lw_m6 23 rfl) rfl
theorem q1297 : (Jvm.Cond.lays "Publicanry$Lot" "Publicanry$Lot" "price" "I") ∈ lw_all := lw_g (lw_at lw_m6 24 rfl) rfl
theorem q1298 : (Jvm.Cond.soleField "Publicanry$Lot" "price") ∈ lw_all := lw_g (lw_at lw_m6 25 rfl) rfl
theorem q1299 : (Jvm.Cond.lays "Publicanry$Lot" "Publicanry$Lot" "autumns" "I") ∈ lw_all := lw_g (lw_at lw_m6 26 rfl) rfl
theorem q1300 : (Jvm.Cond.soleField "Publicanry$Lot" "autumns") ∈ lw_all := lw_g (lw_at lw_m6 27 rfl) rfl
theorem q1301 : (Jvm.Cond.lays "Publicanry$Lot" "Publicanry$Lot" "fallen" "I") ∈ lw_all := lw_g (lw_at lw_m6 28 rfl) rfl
theorem q1302 : (Jvm.Cond.soleField "Publicanry$Lot" "fallen") ∈ lw_all := lw_g (lw_at lw_m6 29 rfl) rfl
theorem q1303 : (Jvm.Cond.lays "Publicanry$Lot" "Publicanry$Lot" "awarded" "I") ∈ lw_all := lw_g (lw_at lw_m6 30 rfl) rfl
theorem q1304 : (Jvm.Cond.soleField "Publicanry$Lot" "awarded") ∈ lw_all := lw_g (lw_at lw_m6 31 rfl) rfl
theorem q1305 : (Jvm.Cond.lays "Publicanry$Lot" "Publicanry$Lot" "remitted" "I") ∈ lw_all := lw_g (lw_at lw_m6 32 rfl) rfl
theorem q1306 : (Jvm.Cond.soleField "Publicanry$Lot" "remitted") ∈ lw_all := lw_g (lw_at lw_m6 33 rfl) rfl
theorem q1307 : (Jvm.Cond.lays "Publicanry$Lot" "Publicanry$Lot" "askedYear" "I") ∈ lw_all := lw_g (lw_at lw_m6 34 rfl) rfl
theorem q1308 : (Jvm.Cond.soleField "Publicanry$Lot" "askedYear") ∈ lw_all := lw_g (lw_at lw_m6 35 rfl) rfl
theorem q1309 : (Jvm.Cond.superclass "Publicanry$Lot" "java/lang/Object") ∈ lw_all := lw_g (lw_at lw_m6 36 rfl) rfl
theorem q1340 : (Jvm.Cond.instanceMethod ({ cls := "Publicanry$Lot", name := "best", desc := "(Ljava/util/ArrayList;I)I" } : Jvm.MethodName)) ∈ lw_all := lw_g (lw_at lw_m6 67 rfl) rfl
theorem q1341 : (Jvm.Cond.selects "Publicanry$Lot" ({ cls := "Publicanry$Lot", name := "best", desc := "(Ljava/util/ArrayList;I)I" } : Jvm.MethodName) ({ cls := "Publicanry$Lot", name := "best", desc := "(Ljava/util/ArrayList;I)I" } : Jvm.MethodName)) ∈ lw_all := lw_g (lw_at lw_m6 68 rfl) rfl
theorem q1342 : (Jvm.Cond.code ({ cls := "Publicanry$Lot", name := "best", desc := "(Ljava/util/ArrayList;I)I" } : Jvm.MethodName) prog_11_method_7_code (6 : Nat) (Option.some Jvm.ClassFile.FieldType.int)) ∈ lw_all := lw_g (lw_at lw_m6 69 rfl) rfl
theorem q1343 : (Jvm.Cond.methodLink "Publicanry$Lot" (81 : Nat) ({ cls := "java/util/ArrayList", name := "iterator", desc := "()Ljava/util/Iterator;" } : Jvm.MethodName)) ∈ lw_all := lw_g (lw_at lw_m6 70 rfl) rfl
theorem q1344 : (Jvm.Cond.interfaceEntry "Publicanry$Lot" (87 : Nat)) ∈ lw_tbl := lw_at lw_m6 71 rfl
theorem q1345 : (Jvm.Cond.methodLink "Publicanry$Lot" (87 : Nat) ({ cls := "java/util/Iterator", name := "hasNext", desc := "()Z" } : Jvm.MethodName)) ∈ lw_all := lw_g (lw_at lw_m6 72 rfl) rfl
theorem q1346 : (Jvm.Cond.interfaceEntry "Publicanry$Lot" (92 : Nat)) ∈ lw_tbl := lw_at lw_m6 73 rfl
theorem q1347 : (Jvm.Cond.methodLink "Publicanry$Lot" (92 : Nat) ({ cls := "java/util/Iterator", name := "next", desc := "()Ljava/lang/Object;" } : Jvm.MethodName)) ∈ lw_all := lw_g (lw_at lw_m6 74 rfl) rfl
theorem q1348 : (Jvm.Cond.classLink "Publicanry$Lot" (71 : Nat) "Publicanry$Company") ∈ lw_all := lw_g (lw_at lw_m6 75 rfl) rfl
theorem q1349 : (Jvm.Cond.methodLink "Publicanry$Lot" (96 : Nat) ({ cls := "Publicanry$Lot", name := "counts", desc := "(LPublicanry$Company;)Z" } : Jvm.MethodName)) ∈ lw_all := lw_g (lw_at lw_m6 76 rfl) rfl
theorem q1350 : (Jvm.Cond.instanceMethod ({ cls := "Publicanry$Lot", name := "counts", desc := "(LPublicanry$Company;)Z" } : Jvm.MethodName)) ∈ lw_all := lw_g (lw_at lw_m6 77 rfl) rfl
theorem q1351 : (Jvm.Cond.selects "Publicanry$Lot" ({ cls := "Publicanry$Lot", name := "counts", desc := "(LPublicanry$Company;)Z" } : Jvm.MethodName) ({ cls := "Publicanry$Lot", name := "counts", desc := "(LPublicanry$Company;)Z" } : Jvm.MethodName)) ∈ lw_all := lw_g (lw_at lw_m6 78 rfl) rfl
theorem q1352 : (Jvm.Cond.code ({ cls := "Publicanry$Lot", name := "counts", desc := "(LPublicanry$Company;)Z" } : Jvm.MethodName) prog_11_method_6_code (3 : Nat) (Option.some Jvm.ClassFile.FieldType.boolean)) ∈ lw_all := lw_g (lw_at lw_m6 79 rfl) rfl
theorem q1353 : (Jvm.Cond.methodLink "Publicanry$Lot" (77 : Nat) ({ cls := "Publicanry$Company", name := "isLandEnough", desc := "(I)Z" } : Jvm.MethodName)) ∈ lw_all := lw_g (lw_at lw_m6 80 rfl) rfl
theorem q1388 : (Jvm.Cond.instanceMethod ({ cls := "Publicanry$Lot", name := "installment", desc := "(I)I" } : Jvm.MethodName)) ∈ lw_all := lw_g (lw_at lw_m6 115 rfl) rfl
theorem q1389 : (Jvm.Cond.selects "Publicanry$Lot" ({ cls := "Publicanry$Lot", name := "installment", desc := "(I)I" } : Jvm.MethodName) ({ cls := "Publicanry$Lot", name := "installment", desc := "(I)I" } : Jvm.MethodName)) ∈ lw_all := lw_g (lw_at lw_m6 116 rfl) rfl
theorem q1390 : (Jvm.Cond.code ({ cls := "Publicanry$Lot", name := "installment", desc := "(I)I" } : Jvm.MethodName) prog_11_method_8_code (2 : Nat) (Option.some Jvm.ClassFile.FieldType.int)) ∈ lw_all := lw_g (lw_at lw_m6 117 rfl) rfl
theorem q1392 : (Jvm.Cond.instanceMethod ({ cls := "Publicanry$Lot", name := "end", desc := "()V" } : Jvm.MethodName)) ∈ lw_all := lw_g (lw_at lw_m6 119 rfl) rfl
theorem q1393 : (Jvm.Cond.selects "Publicanry$Lot" ({ cls := "Publicanry$Lot", name := "end", desc := "()V" } : Jvm.MethodName) ({ cls := "Publicanry$Lot", name := "end", desc := "()V" } : Jvm.MethodName)) ∈ lw_all := lw_g (lw_at lw_m6 120 rfl) rfl
theorem q1394 : (Jvm.Cond.code ({ cls := "Publicanry$Lot", name := "end", desc := "()V" } : Jvm.MethodName) prog_11_method_10_code (1 : Nat) (Option.none : Option Jvm.ClassFile.FieldType)) ∈ lw_all := lw_g (lw_at lw_m6 121 rfl) rfl
theorem q1395 : (Jvm.Cond.methodLink "Publicanry$Lot" (107 : Nat) ({ cls := "Publicanry$Lot", name := "isLeased", desc := "()Z" } : Jvm.MethodName)) ∈ lw_all := lw_g (lw_at lw_m6 122 rfl) rfl
theorem q1396 : (Jvm.Cond.fieldLink "Publicanry$Lot" (110 : Nat) "Publicanry$Stand" "OVER" "LPublicanry$Stand;") ∈ lw_all := lw_g (lw_at lw_m6 123 rfl) rfl
theorem q1398 : (Jvm.Cond.methodLink "Publicanry$Lot" (116 : Nat) ({ cls := "java/util/Optional", name := "get", desc := "()Ljava/lang/Object;" } : Jvm.MethodName)) ∈ lw_all := lw_g (lw_at lw_m6 125 rfl) rfl
theorem q2439 : (Jvm.Cond.selects "Publicanry$Lot" ({ cls := "java/lang/Object", name := "equals", desc := "(Ljava/lang/Object;)Z" } : Jvm.MethodName) ({ cls := "java/lang/Object", name := "equals", desc := "(Ljava/lang/Object;)Z" } : Jvm.MethodName)) ∈ lw_all := lw_g (lw_at lw_m10 206 rfl) rfl
theorem q2677 : (Jvm.Cond.castable "Publicanry$Lot" "java/lang/Object") ∈ lw_tbl := lw_at lw_m11 204 rfl
theorem in_X15 : ∀ w ∈ wsX150, w ∈ lw_all := lw_in wsX150 [1279, 1281, 1283, 1285, 1287, 1289, 1291, 1293, 1295, 1297, 1299, 1301, 1303, 1305, 1307] (by decide +kernel) (by decide +kernel)
/-! Publicanry$Levy -/
set_option maxRecDepth 100000
def RX17 : String := "Publicanry$Levy"
def TX17 : u_T := fun k => match k with
  | 0 => ("Publicanry$Levy", "year", "I", true)
  | 1 => ("Publicanry$Levy", "asked", "I", true)
  | 2 => ("Publicanry$Levy", "got", "I", true)
  | 3 => ("Publicanry$Levy", "due", "I", true)
  | 4 => ("Publicanry$Levy", "lot", "I", true)
  | _ => ("Publicanry$Levy", "isSued", "Z", false)
def tyX17 : Nat → FieldType := fun k => match k with
  | 0 => .int
  | 1 => .int
  | 2 => .int
  | 3 => .int
  | 4 => .int
  | _ => .boolean
abbrev wsX170 : List Cond := u_ws RX17 TX17 6
theorem nmX17 : ∀ a, a < 6 → ∀ b, b < 6 → a ≠ b → (TX17 a).2.1 ≠ (TX17 b).2.1 := by decide +kernel
theorem tyX17_ok : ∀ k, k < 6 → parseFieldDescriptor (TX17 k).2.2.1 = some (tyX17 k) := by decide +kernel
abbrev cX17_told : ByteArray := prog_10_method_3_code
def yX17_told : MethodName := ⟨RX17, "told", "(I)I"⟩
def dkwX17_told_3 : List UInt8 := [172, 42, 180, 0, 25, 184, 0, 29, 172]
abbrev dktX17_told_3 : List UInt8 := dkwX17_told_3 ++ []
def dkwX17_told_2 : List UInt8 := [42, 180, 0, 7, 172, 42, 180, 0, 13, 172, 42, 180, 0, 16, 172, 42, 180, 0, 19, 172, 42, 180, 0, 22]
abbrev dktX17_told_2 : List UInt8 := dkwX17_told_2 ++ dktX17_told_3
def dkwX17_told_1 : List UInt8 := [170, 0, 0, 0, 0, 0, 60, 0, 0, 0, 0, 0, 0, 0, 4, 0, 0, 0, 35, 0, 0, 0, 40, 0, 0, 0, 45, 0, 0, 0, 50, 0, 0, 0, 55]
abbrev dktX17_told_1 : List UInt8 := dkwX17_told_1 ++ dktX17_told_2
def dkwX17_told_0 : List UInt8 := [27]
abbrev dktX17_told_0 : List UInt8 := dkwX17_told_0 ++ dktX17_told_1
theorem dksX17_told_0 : cX17_told.data.toList.drop 0 = dktX17_told_0 := by decide +kernel
theorem dksX17_told_1 : cX17_told.data.toList.drop 1 = dktX17_told_1 := dk_seg dksX17_told_0 1 rfl rfl
theorem dksX17_told_2 : cX17_told.data.toList.drop 36 = dktX17_told_2 := dk_seg dksX17_told_1 35 rfl rfl
theorem dksX17_told_3 : cX17_told.data.toList.drop 60 = dktX17_told_3 := dk_seg dksX17_told_2 24 rfl rfl
theorem dX17_told_0 : decode cX17_told 0 = .ok (.iload_n 1, 1) := dk_27 (dk_at dksX17_told_0 0 rfl rfl)
theorem dX17_told_1 : decode cX17_told 1 = .ok (.tableswitch 60 0 4 #[35, 40, 45, 50, 55], 35) := by decide +kernel
theorem dX17_told_36 : decode cX17_told 36 = .ok (.aload_n 0, 1) := dk_42 (dk_at dksX17_told_2 0 rfl rfl)
theorem dX17_told_37 : decode cX17_told 37 = .ok (.getfield 7, 3) := dk_180 0 7 (dk_at dksX17_told_2 1 rfl rfl)
theorem dX17_told_40 : decode cX17_told 40 = .ok (.ireturn, 1) := dk_172 (dk_at dksX17_told_2 4 rfl rfl)
theorem dX17_told_41 : decode cX17_told 41 = .ok (.aload_n 0, 1) := dk_42 (dk_at dksX17_told_2 5 rfl rfl)
theorem dX17_told_42 : decode cX17_told 42 = .ok (.getfield 13, 3) := dk_180 0 13 (dk_at dksX17_told_2 6 rfl rfl)
theorem dX17_told_45 : decode cX17_told 45 = .ok (.ireturn, 1) := dk_172 (dk_at dksX17_told_2 9 rfl rfl)
theorem dX17_told_46 : decode cX17_told 46 = .ok (.aload_n 0, 1) := dk_42 (dk_at dksX17_told_2 10 rfl rfl)
theorem dX17_told_47 : decode cX17_told 47 = .ok (.getfield 16, 3) := dk_180 0 16 (dk_at dksX17_told_2 11 rfl rfl)
theorem dX17_told_50 : decode cX17_told 50 = .ok (.ireturn, 1) := dk_172 (dk_at dksX17_told_2 14 rfl rfl)
theorem dX17_told_51 : decode cX17_told 51 = .ok (.aload_n 0, 1) := dk_42 (dk_at dksX17_told_2 15 rfl rfl)
theorem dX17_told_52 : decode cX17_told 52 = .ok (.getfield 19, 3) := dk_180 0 19 (dk_at dksX17_told_2 16 rfl rfl)
theorem dX17_told_55 : decode cX17_told 55 = .ok (.ireturn, 1) := dk_172 (dk_at dksX17_told_2 19 rfl rfl)
theorem dX17_told_56 : decode cX17_told 56 = .ok (.aload_n 0, 1) := dk_42 (dk_at dksX17_told_2 20 rfl rfl)
theorem dX17_told_57 : decode cX17_told 57 = .ok (.getfield 22, 3) := dk_180 0 22 (dk_at dksX17_told_2 21 rfl rfl)
theorem dX17_told_60 : decode cX17_told 60 = .ok (.ireturn, 1) := dk_172 (dk_at dksX17_told_3 0 rfl rfl)
theorem dX17_told_61 : decode cX17_told 61 = .ok (.aload_n 0, 1) := dk_42 (dk_at dksX17_told_3 1 rfl rfl)
theorem dX17_told_62 : decode cX17_told 62 = .ok (.getfield 25, 3) := dk_180 0 25 (dk_at dksX17_told_3 2 rfl rfl)
theorem dX17_told_65 : decode cX17_told 65 = .ok (.invokestatic 29, 3) := dk_184 0 29 (dk_at dksX17_told_3 5 rfl rfl)
theorem dX17_told_68 : decode cX17_told 68 = .ok (.ireturn, 1) := dk_172 (dk_at dksX17_told_3 8 rfl rfl)
abbrev cX17_over : ByteArray := prog_10_method_2_code
def yX17_over : MethodName := ⟨RX17, "over", "()I"⟩
def dkwX17_over_0 : List UInt8 := [42, 180, 0, 16, 42, 180, 0, 19, 100, 172]
abbrev dktX17_over_0 : List UInt8 := dkwX17_over_0 ++ []
theorem dksX17_over_0 : cX17_over.data.toList.drop 0 = dktX17_over_0 := by decide +kernel
theorem dX17_over_0 : decode cX17_over 0 = .ok (.aload_n 0, 1) := dk_42 (dk_at dksX17_over_0 0 rfl rfl)
theorem dX17_over_1 : decode cX17_over 1 = .ok (.getfield 16, 3) := dk_180 0 16 (dk_at dksX17_over_0 1 rfl rfl)
theorem dX17_over_4 : decode cX17_over 4 = .ok (.aload_n 0, 1) := dk_42 (dk_at dksX17_over_0 4 rfl rfl)
theorem dX17_over_5 : decode cX17_over 5 = .ok (.getfield 19, 3) := dk_180 0 19 (dk_at dksX17_over_0 5 rfl rfl)
theorem dX17_over_8 : decode cX17_over 8 = .ok (.isub, 1) := dk_100 (dk_at dksX17_over_0 8 rfl rfl)
theorem dX17_over_9 : decode cX17_over 9 = .ok (.ireturn, 1) := dk_172 (dk_at dksX17_over_0 9 rfl rfl)
abbrev cX17_init : ByteArray := prog_10_method_1_code
def yX17_init : MethodName := ⟨RX17, "<init>", "(IIIII)V"⟩
def dkwX17_init_1 : List UInt8 := [181, 0, 19, 42, 21, 5, 181, 0, 22, 177]
abbrev dktX17_init_1 : List UInt8 := dkwX17_init_1 ++ []
def dkwX17_init_0 : List UInt8 := [42, 183, 0, 1, 42, 27, 181, 0, 7, 42, 28, 181, 0, 13, 42, 29, 181, 0, 16, 42, 21, 4]
abbrev dktX17_init_0 : List UInt8 := dkwX17_init_0 ++ dktX17_init_1
theorem dksX17_init_0 : cX17_init.data.toList.drop 0 = dktX17_init_0 := by decide +kernel
theorem dksX17_init_1 : cX17_init.data.toList.drop 22 = dktX17_init_1 := dk_seg dksX17_init_0 22 rfl rfl
theorem dX17_init_0 : decode cX17_init 0 = .ok (.aload_n 0, 1) := dk_42 (dk_at dksX17_init_0 0 rfl rfl)
theorem dX17_init_1 : decode cX17_init 1 = .ok (.invokespecial 1, 3) := dk_183 0 1 (dk_at dksX17_init_0 1 rfl rfl)
theorem dX17_init_4 : decode cX17_init 4 = .ok (.aload_n 0, 1) := dk_42 (dk_at dksX17_init_0 4 rfl rfl)
theorem dX17_init_5 : decode cX17_init 5 = .ok (.iload_n 1, 1) := dk_27 (dk_at dksX17_init_0 5 rfl rfl)
theorem dX17_init_6 : decode cX17_init 6 = .ok (.putfield 7, 3) := dk_181 0 7 (dk_at dksX17_init_0 6 rfl rfl)
theorem dX17_init_9 : decode cX17_init 9 = .ok (.aload_n 0, 1) := dk_42 (dk_at dksX17_init_0 9 rfl rfl)
theorem dX17_init_10 : decode cX17_init 10 = .ok (.iload_n 2, 1) := dk_28 (dk_at dksX17_init_0 10 rfl rfl)
theorem dX17_init_11 : decode cX17_init 11 = .ok (.putfield 13, 3) := dk_181 0 13 (dk_at dksX17_init_0 11 rfl rfl)
theorem dX17_init_14 : decode cX17_init 14 = .ok (.aload_n 0, 1) := dk_42 (dk_at dksX17_init_0 14 rfl rfl)
theorem dX17_init_15 : decode cX17_init 15 = .ok (.iload_n 3, 1) := dk_29 (dk_at dksX17_init_0 15 rfl rfl)
theorem dX17_init_16 : decode cX17_init 16 = .ok (.putfield 16, 3) := dk_181 0 16 (dk_at dksX17_init_0 16 rfl rfl)
theorem dX17_init_19 : decode cX17_init 19 = .ok (.aload_n 0, 1) := dk_42 (dk_at dksX17_init_0 19 rfl rfl)
theorem dX17_init_20 : decode cX17_init 20 = .ok (.iload 4, 2) := dk_21 4 (dk_at dksX17_init_0 20 rfl rfl)
theorem dX17_init_22 : decode cX17_init 22 = .ok (.putfield 19, 3) := dk_181 0 19 (dk_at dksX17_init_1 0 rfl rfl)
theorem dX17_init_25 : decode cX17_init 25 = .ok (.aload_n 0, 1) := dk_42 (dk_at dksX17_init_1 3 rfl rfl)
theorem dX17_init_26 : decode cX17_init 26 = .ok (.iload 5, 2) := dk_21 5 (dk_at dksX17_init_1 4 rfl rfl)
theorem dX17_init_28 : decode cX17_init 28 = .ok (.putfield 22, 3) := dk_181 0 22 (dk_at dksX17_init_1 6 rfl rfl)
theorem dX17_init_31 : decode cX17_init 31 = .ok (.return_, 1) := dk_177 (dk_at dksX17_init_1 9 rfl rfl)
theorem q115 : (Jvm.Cond.initialized "Publicanry$Levy") ∈ lw_all := lw_g (lw_at lw_m1 42 rfl) rfl
theorem q464 : (Jvm.Cond.selects "Publicanry$Levy" ({ cls := "java/lang/Object", name := "notifyAll", desc := "()V" } : Jvm.MethodName) ({ cls := "java/lang/Object", name := "notifyAll", desc := "()V" } : Jvm.MethodName)) ∈ lw_all := lw_g (lw_at lw_m2 151 rfl) rfl
theorem q566 : (Jvm.Cond.selects "Publicanry$Levy" ({ cls := "java/lang/Object", name := "notify", desc := "()V" } : Jvm.MethodName) ({ cls := "java/lang/Object", name := "notify", desc := "()V" } : Jvm.MethodName)) ∈ lw_all := lw_g (lw_at lw_m3 13 rfl) rfl
theorem q709 : (Jvm.Cond.instanceMethod ({ cls := "Publicanry$Levy", name := "told", desc := "(I)I" } : Jvm.MethodName)) ∈ lw_all := lw_g (lw_at lw_m3 156 rfl) rfl
theorem q710 : (Jvm.Cond.selects "Publicanry$Levy" ({ cls := "Publicanry$Levy", name := "told", desc := "(I)I" } : Jvm.MethodName) ({ cls := "Publicanry$Levy", name := "told", desc := "(I)I" } : Jvm.MethodName)) ∈ lw_all := lw_g (lw_at lw_m3 157 rfl) rfl
theorem q711 : (Jvm.Cond.code ({ cls := "Publicanry$Levy", name := "told", desc := "(I)I" } : Jvm.MethodName) prog_10_method_3_code (2 : Nat) (Option.some Jvm.ClassFile.FieldType.int)) ∈ lw_all := lw_g (lw_at lw_m3 158 rfl) rfl
theorem q712 : (Jvm.Cond.methodLinkNest "Publicanry$Levy" (29 : Nat) ({ cls := "Publicanry", name := "one", desc := "(Z)I" } : Jvm.MethodName) "Publicanry") ∈ lw_tbl := lw_at lw_m3 159 rfl
theorem q883 : (Jvm.Cond.selects "Publicanry$Levy" ({ cls := "java/lang/Object", name := "getClass", desc := "()Ljava/lang/Class;" } : Jvm.MethodName) ({ cls := "java/lang/Object", name := "getClass", desc := "()Ljava/lang/Class;" } : Jvm.MethodName)) ∈ lw_all := lw_g (lw_at lw_m4 90 rfl) rfl
theorem q1436 : (Jvm.Cond.instanceMethod ({ cls := "Publicanry$Levy", name := "over", desc := "()I" } : Jvm.MethodName)) ∈ lw_all := lw_g (lw_at lw_m6 163 rfl) rfl
theorem q1437 : (Jvm.Cond.selects "Publicanry$Levy" ({ cls := "Publicanry$Levy", name := "over", desc := "()I" } : Jvm.MethodName) ({ cls := "Publicanry$Levy", name := "over", desc := "()I" } : Jvm.MethodName)) ∈ lw_all := lw_g (lw_at lw_m6 164 rfl) rfl
theorem q1438 : (Jvm.Cond.code ({ cls := "Publicanry$Levy", name := "over", desc := "()I" } : Jvm.MethodName) prog_10_method_2_code (1 : Nat) (Option.some Jvm.ClassFile.FieldType.int)) ∈ lw_all := lw_g (lw_at lw_m6 165 rfl) rfl
theorem q1538 : (Jvm.Cond.instantiable "Publicanry$Levy" (6 : Nat)) ∈ lw_all := lw_g (lw_at lw_m7 25 rfl) rfl
theorem q1540 : (Jvm.Cond.instanceMethod ({ cls := "Publicanry$Levy", name := "<init>", desc := "(IIIII)V" } : Jvm.MethodName)) ∈ lw_all := lw_g (lw_at lw_m7 27 rfl) rfl
theorem q1541 : (Jvm.Cond.code ({ cls := "Publicanry$Levy", name := "<init>", desc := "(IIIII)V" } : Jvm.MethodName) prog_10_method_1_code (6 : Nat) (Option.none : Option Jvm.ClassFile.FieldType)) ∈ lw_all := lw_g (lw_at lw_m7 28 rfl) rfl
theorem q1542 : (Jvm.Cond.methodLink "Publicanry$Levy" (1 : Nat) ({ cls := "java/lang/Object", name := "<init>", desc := "()V" } : Jvm.MethodName)) ∈ lw_all := lw_g (lw_at lw_m7 29 rfl) rfl
theorem q1543 : (Jvm.Cond.fieldLink "Publicanry$Levy" (7 : Nat) "Publicanry$Levy" "year" "I") ∈ lw_all := lw_g (lw_at lw_m7 30 rfl) rfl
theorem q1545 : (Jvm.Cond.fieldLink "Publicanry$Levy" (13 : Nat) "Publicanry$Levy" "asked" "I") ∈ lw_all := lw_g (lw_at lw_m7 32 rfl) rfl
theorem q1546 : (Jvm.Cond.fieldLink "Publicanry$Levy" (16 : Nat) "Publicanry$Levy" "got" "I") ∈ lw_all := lw_g (lw_at lw_m7 33 rfl) rfl
theorem q1547 : (Jvm.Cond.fieldLink "Publicanry$Levy" (19 : Nat) "Publicanry$Levy" "due" "I") ∈ lw_all := lw_g (lw_at lw_m7 34 rfl) rfl
theorem q1549 : (Jvm.Cond.fieldLink "Publicanry$Levy" (22 : Nat) "Publicanry$Levy" "lot" "I") ∈ lw_all := lw_g (lw_at lw_m7 36 rfl) rfl
theorem q1551 : (Jvm.Cond.fieldLink "Publicanry$Levy" (25 : Nat) "Publicanry$Levy" "isSued" "Z") ∈ lw_all := lw_g (lw_at lw_m7 38 rfl) rfl
theorem q1553 : (Jvm.Cond.laysFinal "Publicanry$Levy" "Publicanry$Levy" "year" "I") ∈ lw_all := lw_g (lw_at lw_m7 40 rfl) rfl
theorem q1554 : (Jvm.Cond.soleField "Publicanry$Levy" "year") ∈ lw_all := lw_g (lw_at lw_m7 41 rfl) rfl
theorem q1555 : (Jvm.Cond.laysFinal "Publicanry$Levy" "Publicanry$Levy" "asked" "I") ∈ lw_all := lw_g (lw_at lw_m7 42 rfl) rfl
theorem q1556 : (Jvm.Cond.soleField "Publicanry$Levy" "asked") ∈ lw_all := lw_g (lw_at lw_m7 43 rfl) rfl
theorem q1557 : (Jvm.Cond.laysFinal "Publicanry$Levy" "Publicanry$Levy" "got" "I") ∈ lw_all := lw_g (lw_at lw_m7 44 rfl) rfl
theorem q1558 : (Jvm.Cond.soleField "Publicanry$Levy" "got") ∈ lw_all := lw_g (lw_at lw_m7 45 rfl) rfl
theorem q1559 : (Jvm.Cond.laysFinal "Publicanry$Levy" "Publicanry$Levy" "due" "I") ∈ lw_all := lw_g (lw_at lw_m7 46 rfl) rfl
theorem q1560 : (Jvm.Cond.soleField "Publicanry$Levy" "due") ∈ lw_all := lw_g (lw_at lw_m7 47 rfl) rfl
theorem q1561 : (Jvm.Cond.laysFinal "Publicanry$Levy" "Publicanry$Levy" "lot" "I") ∈ lw_all := lw_g (lw_at lw_m7 48 rfl) rfl
theorem q1562 : (Jvm.Cond.soleField "Publicanry$Levy" "lot") ∈ lw_all := lw_g (lw_at lw_m7 49 rfl) rfl
theorem q1563 : (Jvm.Cond.lays "Publicanry$Levy" "Publicanry$Levy" "isSued" "Z") ∈ lw_all := lw_g (lw_at lw_m7 50 rfl) rfl
theorem q1564 : (Jvm.Cond.soleField "Publicanry$Levy" "isSued") ∈ lw_all := lw_g (lw_at lw_m7 51 rfl) rfl
theorem q1565 : (Jvm.Cond.superclass "Publicanry$Levy" "java/lang/Object") ∈ lw_all := lw_g (lw_at lw_m7 52 rfl) rfl
theorem q2438 : (Jvm.Cond.selects "Publicanry$Levy" ({ cls := "java/lang/Object", name := "equals", desc := "(Ljava/lang/Object;)Z" } : Jvm.MethodName) ({ cls := "java/lang/Object", name := "equals", desc := "(Ljava/lang/Object;)Z" } : Jvm.MethodName)) ∈ lw_all := lw_g (lw_at lw_m10 205 rfl) rfl
theorem q2680 : (Jvm.Cond.castable "Publicanry$Levy" "java/lang/Object") ∈ lw_tbl := lw_at lw_m11 207 rfl
theorem in_X17 : ∀ w ∈ wsX170, w ∈ lw_all := lw_in wsX170 [1553, 1555, 1557, 1559, 1561, 1563] (by decide +kernel) (by decide +kernel)
/-! Publicanry$Duty$1 -/
set_option maxRecDepth 100000
def RX18 : String := "Publicanry$Duty$1"
abbrev cX18_due : ByteArray := prog_5_method_2_code
def yX18_due : MethodName := ⟨RX18, "due", "(LPublicanry$Village;I)I"⟩
def dkwX18_due_0 : List UInt8 := [43, 180, 0, 7, 28, 104, 17, 3, 232, 108, 172]
abbrev dktX18_due_0 : List UInt8 := dkwX18_due_0 ++ []
theorem dksX18_due_0 : cX18_due.data.toList.drop 0 = dktX18_due_0 := by decide +kernel
theorem dX18_due_0 : decode cX18_due 0 = .ok (.aload_n 1, 1) := dk_43 (dk_at dksX18_due_0 0 rfl rfl)
theorem dX18_due_1 : decode cX18_due 1 = .ok (.getfield 7, 3) := dk_180 0 7 (dk_at dksX18_due_0 1 rfl rfl)
theorem dX18_due_4 : decode cX18_due 4 = .ok (.iload_n 2, 1) := dk_28 (dk_at dksX18_due_0 4 rfl rfl)
theorem dX18_due_5 : decode cX18_due 5 = .ok (.imul, 1) := dk_104 (dk_at dksX18_due_0 5 rfl rfl)
theorem dX18_due_6 : decode cX18_due 6 = .ok (.sipush 1000, 3) := dk_17 3 232 (dk_at dksX18_due_0 6 rfl rfl)
theorem dX18_due_9 : decode cX18_due 9 = .ok (.idiv, 1) := dk_108 (dk_at dksX18_due_0 9 rfl rfl)
theorem dX18_due_10 : decode cX18_due 10 = .ok (.ireturn, 1) := dk_172 (dk_at dksX18_due_0 10 rfl rfl)
abbrev cX18_got : ByteArray := prog_5_method_5_code
def yX18_got : MethodName := ⟨RX18, "got", "(LPublicanry$Village;IZLPublicanry$Chest;LPublicanry$Chest;Z)I"⟩
def dkwX18_got_1 : List UInt8 := [21, 7, 100, 181, 0, 13, 25, 5, 25, 4, 5, 21, 7, 104, 182, 0, 22, 87, 21, 7, 172]
abbrev dktX18_got_1 : List UInt8 := dkwX18_got_1 ++ []
def dkwX18_got_0 : List UInt8 := [43, 180, 0, 13, 28, 184, 0, 16, 54, 7, 21, 6, 154, 0, 6, 21, 7, 172, 43, 89, 180, 0, 13]
abbrev dktX18_got_0 : List UInt8 := dkwX18_got_0 ++ dktX18_got_1
theorem dksX18_got_0 : cX18_got.data.toList.drop 0 = dktX18_got_0 := by decide +kernel
theorem dksX18_got_1 : cX18_got.data.toList.drop 23 = dktX18_got_1 := dk_seg dksX18_got_0 23 rfl rfl
theorem dX18_got_0 : decode cX18_got 0 = .ok (.aload_n 1, 1) := dk_43 (dk_at dksX18_got_0 0 rfl rfl)
theorem dX18_got_1 : decode cX18_got 1 = .ok (.getfield 13, 3) := dk_180 0 13 (dk_at dksX18_got_0 1 rfl rfl)
theorem dX18_got_4 : decode cX18_got 4 = .ok (.iload_n 2, 1) := dk_28 (dk_at dksX18_got_0 4 rfl rfl)
theorem dX18_got_5 : decode cX18_got 5 = .ok (.invokestatic 16, 3) := dk_184 0 16 (dk_at dksX18_got_0 5 rfl rfl)
theorem dX18_got_8 : decode cX18_got 8 = .ok (.istore 7, 2) := dk_54 7 (dk_at dksX18_got_0 8 rfl rfl)
theorem dX18_got_10 : decode cX18_got 10 = .ok (.iload 6, 2) := dk_21 6 (dk_at dksX18_got_0 10 rfl rfl)
theorem dX18_got_12 : decode cX18_got 12 = .ok (.ifCond .ne 6, 3) := dk_154 0 6 (dk_at dksX18_got_0 12 rfl rfl)
theorem dX18_got_15 : decode cX18_got 15 = .ok (.iload 7, 2) := dk_21 7 (dk_at dksX18_got_0 15 rfl rfl)
theorem dX18_got_17 : decode cX18_got 17 = .ok (.ireturn, 1) := dk_172 (dk_at dksX18_got_0 17 rfl rfl)
theorem dX18_got_18 : decode cX18_got 18 = .ok (.aload_n 1, 1) := dk_43 (dk_at dksX18_got_0 18 rfl rfl)
theorem dX18_got_19 : decode cX18_got 19 = .ok (.dup, 1) := dk_89 (dk_at dksX18_got_0 19 rfl rfl)
theorem dX18_got_20 : decode cX18_got 20 = .ok (.getfield 13, 3) := dk_180 0 13 (dk_at dksX18_got_0 20 rfl rfl)
theorem dX18_got_23 : decode cX18_got 23 = .ok (.iload 7, 2) := dk_21 7 (dk_at dksX18_got_1 0 rfl rfl)
theorem dX18_got_25 : decode cX18_got 25 = .ok (.isub, 1) := dk_100 (dk_at dksX18_got_1 2 rfl rfl)
theorem dX18_got_26 : decode cX18_got 26 = .ok (.putfield 13, 3) := dk_181 0 13 (dk_at dksX18_got_1 3 rfl rfl)
theorem dX18_got_29 : decode cX18_got 29 = .ok (.aload 5, 2) := dk_25 5 (dk_at dksX18_got_1 6 rfl rfl)
theorem dX18_got_31 : decode cX18_got 31 = .ok (.aload 4, 2) := dk_25 4 (dk_at dksX18_got_1 8 rfl rfl)
theorem dX18_got_33 : decode cX18_got 33 = .ok (.iconst 2, 1) := dk_5 (dk_at dksX18_got_1 10 rfl rfl)
theorem dX18_got_34 : decode cX18_got 34 = .ok (.iload 7, 2) := dk_21 7 (dk_at dksX18_got_1 11 rfl rfl)
theorem dX18_got_36 : decode cX18_got 36 = .ok (.imul, 1) := dk_104 (dk_at dksX18_got_1 13 rfl rfl)
theorem dX18_got_37 : decode cX18_got 37 = .ok (.invokevirtual 22, 3) := dk_182 0 22 (dk_at dksX18_got_1 14 rfl rfl)
theorem dX18_got_40 : decode cX18_got 40 = .ok (.pop, 1) := dk_87 (dk_at dksX18_got_1 17 rfl rfl)
theorem dX18_got_41 : decode cX18_got 41 = .ok (.iload 7, 2) := dk_21 7 (dk_at dksX18_got_1 18 rfl rfl)
theorem dX18_got_43 : decode cX18_got 43 = .ok (.ireturn, 1) := dk_172 (dk_at dksX18_got_1 20 rfl rfl)
abbrev cX18_worth : ByteArray := prog_5_method_4_code
def yX18_worth : MethodName := ⟨RX18, "worth", "(I)I"⟩
def dkwX18_worth_0 : List UInt8 := [5, 27, 104, 172]
abbrev dktX18_worth_0 : List UInt8 := dkwX18_worth_0 ++ []
theorem dksX18_worth_0 : cX18_worth.data.toList.drop 0 = dktX18_worth_0 := by decide +kernel
theorem dX18_worth_0 : decode cX18_worth 0 = .ok (.iconst 2, 1) := dk_5 (dk_at dksX18_worth_0 0 rfl rfl)
theorem dX18_worth_1 : decode cX18_worth 1 = .ok (.iload_n 1, 1) := dk_27 (dk_at dksX18_worth_0 1 rfl rfl)
theorem dX18_worth_2 : decode cX18_worth 2 = .ok (.imul, 1) := dk_104 (dk_at dksX18_worth_0 2 rfl rfl)
theorem dX18_worth_3 : decode cX18_worth 3 = .ok (.ireturn, 1) := dk_172 (dk_at dksX18_worth_0 3 rfl rfl)
abbrev cX18_mostRate : ByteArray := prog_5_method_3_code
def yX18_mostRate : MethodName := ⟨RX18, "mostRate", "()I"⟩
theorem dX18_mostRate_0 : decode cX18_mostRate 0 = .ok (.sipush 300, 3) := by decide +kernel
theorem dX18_mostRate_3 : decode cX18_mostRate 3 = .ok (.ireturn, 1) := by decide +kernel
theorem q459 : (Jvm.Cond.selects "Publicanry$Duty$1" ({ cls := "java/lang/Object", name := "notifyAll", desc := "()V" } : Jvm.MethodName) ({ cls := "java/lang/Object", name := "notifyAll", desc := "()V" } : Jvm.MethodName)) ∈ lw_all := lw_g (lw_at lw_m2 146 rfl) rfl
theorem q561 : (Jvm.Cond.selects "Publicanry$Duty$1" ({ cls := "java/lang/Object", name := "notify", desc := "()V" } : Jvm.MethodName) ({ cls := "java/lang/Object", name := "notify", desc := "()V" } : Jvm.MethodName)) ∈ lw_all := lw_g (lw_at lw_m3 8 rfl) rfl
theorem q598 : (Jvm.Cond.selects "Publicanry$Duty$1" ({ cls := "Publicanry$Duty", name := "ordinal", desc := "()I" } : Jvm.MethodName) ({ cls := "java/lang/Enum", name := "ordinal", desc := "()I" } : Jvm.MethodName)) ∈ lw_all := lw_g (lw_at lw_m3 45 rfl) rfl
theorem q624 : (Jvm.Cond.selects "Publicanry$Duty$1" ({ cls := "Publicanry$Duty", name := "due", desc := "(LPublicanry$Village;I)I" } : Jvm.MethodName) ({ cls := "Publicanry$Duty$1", name := "due", desc := "(LPublicanry$Village;I)I" } : Jvm.MethodName)) ∈ lw_all := lw_g (lw_at lw_m3 71 rfl) rfl
theorem q625 : (Jvm.Cond.instanceMethod ({ cls := "Publicanry$Duty$1", name := "due", desc := "(LPublicanry$Village;I)I" } : Jvm.MethodName)) ∈ lw_all := lw_g (lw_at lw_m3 72 rfl) rfl
theorem q626 : (Jvm.Cond.code ({ cls := "Publicanry$Duty$1", name := "due", desc := "(LPublicanry$Village;I)I" } : Jvm.MethodName) prog_5_method_2_code (3 : Nat) (Option.some Jvm.ClassFile.FieldType.int)) ∈ lw_all := lw_g (lw_at lw_m3 73 rfl) rfl
theorem q647 : (Jvm.Cond.selects "Publicanry$Duty$1" ({ cls := "Publicanry$Duty", name := "got", desc := "(LPublicanry$Village;IZLPublicanry$Chest;LPublicanry$Chest;Z)I" } : Jvm.MethodName) ({ cls := "Publicanry$Duty$1", name := "got", desc := "(LPublicanry$Village;IZLPublicanry$Chest;LPublicanry$Chest;Z)I" } : Jvm.MethodName)) ∈ lw_all := lw_g (lw_at lw_m3 94 rfl) rfl
theorem q648 : (Jvm.Cond.instanceMethod ({ cls := "Publicanry$Duty$1", name := "got", desc := "(LPublicanry$Village;IZLPublicanry$Chest;LPublicanry$Chest;Z)I" } : Jvm.MethodName)) ∈ lw_all := lw_g (lw_at lw_m3 95 rfl) rfl
theorem q649 : (Jvm.Cond.code ({ cls := "Publicanry$Duty$1", name := "got", desc := "(LPublicanry$Village;IZLPublicanry$Chest;LPublicanry$Chest;Z)I" } : Jvm.MethodName) prog_5_method_5_code (8 : Nat) (Option.some Jvm.ClassFile.FieldType.int)) ∈ lw_all := lw_g (lw_at lw_m3 96 rfl) rfl
theorem q650 : (Jvm.Cond.methodLink "Publicanry$Duty$1" (16 : Nat) ({ cls := "java/lang/Math", name := "min", desc := "(II)I" } : Jvm.MethodName)) ∈ lw_all := lw_g (lw_at lw_m3 97 rfl) rfl
theorem q651 : (Jvm.Cond.methodLink "Publicanry$Duty$1" (22 : Nat) ({ cls := "Publicanry$Chest", name := "pay", desc := "(LPublicanry$Chest;I)I" } : Jvm.MethodName)) ∈ lw_all := lw_g (lw_at lw_m3 98 rfl) rfl
theorem q666 : (Jvm.Cond.selects "Publicanry$Duty$1" ({ cls := "Publicanry$Duty", name := "worth", desc := "(I)I" } : Jvm.MethodName) ({ cls := "Publicanry$Duty$1", name := "worth", desc := "(I)I" } : Jvm.MethodName)) ∈ lw_all := lw_g (lw_at lw_m3 113 rfl) rfl
theorem q667 : (Jvm.Cond.instanceMethod ({ cls := "Publicanry$Duty$1", name := "worth", desc := "(I)I" } : Jvm.MethodName)) ∈ lw_all := lw_g (lw_at lw_m3 114 rfl) rfl
theorem q668 : (Jvm.Cond.code ({ cls := "Publicanry$Duty$1", name := "worth", desc := "(I)I" } : Jvm.MethodName) prog_5_method_4_code (2 : Nat) (Option.some Jvm.ClassFile.FieldType.int)) ∈ lw_all := lw_g (lw_at lw_m3 115 rfl) rfl
theorem q878 : (Jvm.Cond.selects "Publicanry$Duty$1" ({ cls := "java/lang/Object", name := "getClass", desc := "()Ljava/lang/Class;" } : Jvm.MethodName) ({ cls := "java/lang/Object", name := "getClass", desc := "()Ljava/lang/Class;" } : Jvm.MethodName)) ∈ lw_all := lw_g (lw_at lw_m4 85 rfl) rfl
theorem q939 : (Jvm.Cond.fieldLink "Publicanry$Duty$1" (13 : Nat) "Publicanry$Village" "grain" "I") ∈ lw_all := lw_g (lw_at lw_m4 146 rfl) rfl
theorem q947 : (Jvm.Cond.fieldLink "Publicanry$Duty$1" (7 : Nat) "Publicanry$Village" "yield" "I") ∈ lw_all := lw_g (lw_at lw_m4 154 rfl) rfl
theorem q1082 : (Jvm.Cond.selects "Publicanry$Duty$1" ({ cls := "Publicanry$Duty", name := "mostRate", desc := "()I" } : Jvm.MethodName) ({ cls := "Publicanry$Duty$1", name := "mostRate", desc := "()I" } : Jvm.MethodName)) ∈ lw_all := lw_g (lw_at lw_m5 49 rfl) rfl
theorem q1083 : (Jvm.Cond.instanceMethod ({ cls := "Publicanry$Duty$1", name := "mostRate", desc := "()I" } : Jvm.MethodName)) ∈ lw_all := lw_g (lw_at lw_m5 50 rfl) rfl
theorem q1084 : (Jvm.Cond.code ({ cls := "Publicanry$Duty$1", name := "mostRate", desc := "()I" } : Jvm.MethodName) prog_5_method_3_code (1 : Nat) (Option.some Jvm.ClassFile.FieldType.int)) ∈ lw_all := lw_g (lw_at lw_m5 51 rfl) rfl
theorem q2431 : (Jvm.Cond.selects "Publicanry$Duty$1" ({ cls := "java/lang/Object", name := "equals", desc := "(Ljava/lang/Object;)Z" } : Jvm.MethodName) ({ cls := "java/lang/Enum", name := "equals", desc := "(Ljava/lang/Object;)Z" } : Jvm.MethodName)) ∈ lw_all := lw_g (lw_at lw_m10 198 rfl) rfl
theorem q2660 : (Jvm.Cond.castable "Publicanry$Duty$1" "java/lang/Object") ∈ lw_tbl := lw_at lw_m11 187 rfl
theorem q2685 : (Jvm.Cond.castable "Publicanry$Duty$1" "Publicanry$Duty") ∈ lw_tbl := lw_at lw_m11 212 rfl
/-! Publicanry$Duty$2 -/
set_option maxRecDepth 100000
def RX19 : String := "Publicanry$Duty$2"
abbrev cX19_due : ByteArray := prog_6_method_2_code
def yX19_due : MethodName := ⟨RX19, "due", "(LPublicanry$Village;I)I"⟩
def dkwX19_due_0 : List UInt8 := [43, 180, 0, 7, 28, 104, 16, 100, 108, 172]
abbrev dktX19_due_0 : List UInt8 := dkwX19_due_0 ++ []
theorem dksX19_due_0 : cX19_due.data.toList.drop 0 = dktX19_due_0 := by decide +kernel
theorem dX19_due_0 : decode cX19_due 0 = .ok (.aload_n 1, 1) := dk_43 (dk_at dksX19_due_0 0 rfl rfl)
theorem dX19_due_1 : decode cX19_due 1 = .ok (.getfield 7, 3) := dk_180 0 7 (dk_at dksX19_due_0 1 rfl rfl)
theorem dX19_due_4 : decode cX19_due 4 = .ok (.iload_n 2, 1) := dk_28 (dk_at dksX19_due_0 4 rfl rfl)
theorem dX19_due_5 : decode cX19_due 5 = .ok (.imul, 1) := dk_104 (dk_at dksX19_due_0 5 rfl rfl)
theorem dX19_due_6 : decode cX19_due 6 = .ok (.bipush 100, 2) := dk_16 100 (dk_at dksX19_due_0 6 rfl rfl)
theorem dX19_due_8 : decode cX19_due 8 = .ok (.idiv, 1) := dk_108 (dk_at dksX19_due_0 8 rfl rfl)
theorem dX19_due_9 : decode cX19_due 9 = .ok (.ireturn, 1) := dk_172 (dk_at dksX19_due_0 9 rfl rfl)
abbrev cX19_mostRate : ByteArray := prog_6_method_3_code
def yX19_mostRate : MethodName := ⟨RX19, "mostRate", "()I"⟩
theorem dX19_mostRate_0 : decode cX19_mostRate 0 = .ok (.bipush 60, 2) := by decide +kernel
theorem dX19_mostRate_2 : decode cX19_mostRate 2 = .ok (.ireturn, 1) := by decide +kernel
theorem q460 : (Jvm.Cond.selects "Publicanry$Duty$2" ({ cls := "java/lang/Object", name := "notifyAll", desc := "()V" } : Jvm.MethodName) ({ cls := "java/lang/Object", name := "notifyAll", desc := "()V" } : Jvm.MethodName)) ∈ lw_all := lw_g (lw_at lw_m2 147 rfl) rfl
theorem q562 : (Jvm.Cond.selects "Publicanry$Duty$2" ({ cls := "java/lang/Object", name := "notify", desc := "()V" } : Jvm.MethodName) ({ cls := "java/lang/Object", name := "notify", desc := "()V" } : Jvm.MethodName)) ∈ lw_all := lw_g (lw_at lw_m3 9 rfl) rfl
theorem q599 : (Jvm.Cond.selects "Publicanry$Duty$2" ({ cls := "Publicanry$Duty", name := "ordinal", desc := "()I" } : Jvm.MethodName) ({ cls := "java/lang/Enum", name := "ordinal", desc := "()I" } : Jvm.MethodName)) ∈ lw_all := lw_g (lw_at lw_m3 46 rfl) rfl
theorem q627 : (Jvm.Cond.selects "Publicanry$Duty$2" ({ cls := "Publicanry$Duty", name := "due", desc := "(LPublicanry$Village;I)I" } : Jvm.MethodName) ({ cls := "Publicanry$Duty$2", name := "due", desc := "(LPublicanry$Village;I)I" } : Jvm.MethodName)) ∈ lw_all := lw_g (lw_at lw_m3 74 rfl) rfl
theorem q628 : (Jvm.Cond.instanceMethod ({ cls := "Publicanry$Duty$2", name := "due", desc := "(LPublicanry$Village;I)I" } : Jvm.MethodName)) ∈ lw_all := lw_g (lw_at lw_m3 75 rfl) rfl
theorem q629 : (Jvm.Cond.code ({ cls := "Publicanry$Duty$2", name := "due", desc := "(LPublicanry$Village;I)I" } : Jvm.MethodName) prog_6_method_2_code (3 : Nat) (Option.some Jvm.ClassFile.FieldType.int)) ∈ lw_all := lw_g (lw_at lw_m3 76 rfl) rfl
theorem q652 : (Jvm.Cond.selects "Publicanry$Duty$2" ({ cls := "Publicanry$Duty", name := "got", desc := "(LPublicanry$Village;IZLPublicanry$Chest;LPublicanry$Chest;Z)I" } : Jvm.MethodName) ({ cls := "Publicanry$Duty", name := "got", desc := "(LPublicanry$Village;IZLPublicanry$Chest;LPublicanry$Chest;Z)I" } : Jvm.MethodName)) ∈ lw_all := lw_g (lw_at lw_m3 99 rfl) rfl
theorem q669 : (Jvm.Cond.selects "Publicanry$Duty$2" ({ cls := "Publicanry$Duty", name := "worth", desc := "(I)I" } : Jvm.MethodName) ({ cls := "Publicanry$Duty", name := "worth", desc := "(I)I" } : Jvm.MethodName)) ∈ lw_all := lw_g (lw_at lw_m3 116 rfl) rfl
theorem q879 : (Jvm.Cond.selects "Publicanry$Duty$2" ({ cls := "java/lang/Object", name := "getClass", desc := "()Ljava/lang/Class;" } : Jvm.MethodName) ({ cls := "java/lang/Object", name := "getClass", desc := "()Ljava/lang/Class;" } : Jvm.MethodName)) ∈ lw_all := lw_g (lw_at lw_m4 86 rfl) rfl
theorem q936 : (Jvm.Cond.fieldLink "Publicanry$Duty$2" (7 : Nat) "Publicanry$Village" "herd" "I") ∈ lw_all := lw_g (lw_at lw_m4 143 rfl) rfl
theorem q1085 : (Jvm.Cond.selects "Publicanry$Duty$2" ({ cls := "Publicanry$Duty", name := "mostRate", desc := "()I" } : Jvm.MethodName) ({ cls := "Publicanry$Duty$2", name := "mostRate", desc := "()I" } : Jvm.MethodName)) ∈ lw_all := lw_g (lw_at lw_m5 52 rfl) rfl
theorem q1086 : (Jvm.Cond.instanceMethod ({ cls := "Publicanry$Duty$2", name := "mostRate", desc := "()I" } : Jvm.MethodName)) ∈ lw_all := lw_g (lw_at lw_m5 53 rfl) rfl
theorem q1087 : (Jvm.Cond.code ({ cls := "Publicanry$Duty$2", name := "mostRate", desc := "()I" } : Jvm.MethodName) prog_6_method_3_code (1 : Nat) (Option.some Jvm.ClassFile.FieldType.int)) ∈ lw_all := lw_g (lw_at lw_m5 54 rfl) rfl
theorem q2434 : (Jvm.Cond.selects "Publicanry$Duty$2" ({ cls := "java/lang/Object", name := "equals", desc := "(Ljava/lang/Object;)Z" } : Jvm.MethodName) ({ cls := "java/lang/Enum", name := "equals", desc := "(Ljava/lang/Object;)Z" } : Jvm.MethodName)) ∈ lw_all := lw_g (lw_at lw_m10 201 rfl) rfl
theorem q2661 : (Jvm.Cond.castable "Publicanry$Duty$2" "java/lang/Object") ∈ lw_tbl := lw_at lw_m11 188 rfl
theorem q2686 : (Jvm.Cond.castable "Publicanry$Duty$2" "Publicanry$Duty") ∈ lw_tbl := lw_at lw_m11 213 rfl
/-! Publicanry$Duty$3 -/
set_option maxRecDepth 100000
def RX20 : String := "Publicanry$Duty$3"
abbrev cX20_due : ByteArray := prog_7_method_2_code
def yX20_due : MethodName := ⟨RX20, "due", "(LPublicanry$Village;I)I"⟩
def dkwX20_due_0 : List UInt8 := [43, 180, 0, 7, 28, 104, 172]
abbrev dktX20_due_0 : List UInt8 := dkwX20_due_0 ++ []
theorem dksX20_due_0 : cX20_due.data.toList.drop 0 = dktX20_due_0 := by decide +kernel
theorem dX20_due_0 : decode cX20_due 0 = .ok (.aload_n 1, 1) := dk_43 (dk_at dksX20_due_0 0 rfl rfl)
theorem dX20_due_1 : decode cX20_due 1 = .ok (.getfield 7, 3) := dk_180 0 7 (dk_at dksX20_due_0 1 rfl rfl)
theorem dX20_due_4 : decode cX20_due 4 = .ok (.iload_n 2, 1) := dk_28 (dk_at dksX20_due_0 4 rfl rfl)
theorem dX20_due_5 : decode cX20_due 5 = .ok (.imul, 1) := dk_104 (dk_at dksX20_due_0 5 rfl rfl)
theorem dX20_due_6 : decode cX20_due 6 = .ok (.ireturn, 1) := dk_172 (dk_at dksX20_due_0 6 rfl rfl)
abbrev cX20_mostRate : ByteArray := prog_7_method_3_code
def yX20_mostRate : MethodName := ⟨RX20, "mostRate", "()I"⟩
theorem dX20_mostRate_0 : decode cX20_mostRate 0 = .ok (.bipush 9, 2) := by decide +kernel
theorem dX20_mostRate_2 : decode cX20_mostRate 2 = .ok (.ireturn, 1) := by decide +kernel
theorem q461 : (Jvm.Cond.selects "Publicanry$Duty$3" ({ cls := "java/lang/Object", name := "notifyAll", desc := "()V" } : Jvm.MethodName) ({ cls := "java/lang/Object", name := "notifyAll", desc := "()V" } : Jvm.MethodName)) ∈ lw_all := lw_g (lw_at lw_m2 148 rfl) rfl
theorem q563 : (Jvm.Cond.selects "Publicanry$Duty$3" ({ cls := "java/lang/Object", name := "notify", desc := "()V" } : Jvm.MethodName) ({ cls := "java/lang/Object", name := "notify", desc := "()V" } : Jvm.MethodName)) ∈ lw_all := lw_g (lw_at lw_m3 10 rfl) rfl
theorem q600 : (Jvm.Cond.selects "Publicanry$Duty$3" ({ cls := "Publicanry$Duty", name := "ordinal", desc := "()I" } : Jvm.MethodName) ({ cls := "java/lang/Enum", name := "ordinal", desc := "()I" } : Jvm.MethodName)) ∈ lw_all := lw_g (lw_at lw_m3 47 rfl) rfl
theorem q630 : (Jvm.Cond.selects "Publicanry$Duty$3" ({ cls := "Publicanry$Duty", name := "due", desc := "(LPublicanry$Village;I)I" } : Jvm.MethodName) ({ cls := "Publicanry$Duty$3", name := "due", desc := "(LPublicanry$Village;I)I" } : Jvm.MethodName)) ∈ lw_all := lw_g (lw_at lw_m3 77 rfl) rfl
theorem q631 : (Jvm.Cond.instanceMethod ({ cls := "Publicanry$Duty$3", name := "due", desc := "(LPublicanry$Village;I)I" } : Jvm.MethodName)) ∈ lw_all := lw_g (lw_at lw_m3 78 rfl) rfl
theorem q632 : (Jvm.Cond.code ({ cls := "Publicanry$Duty$3", name := "due", desc := "(LPublicanry$Village;I)I" } : Jvm.MethodName) prog_7_method_2_code (3 : Nat) (Option.some Jvm.ClassFile.FieldType.int)) ∈ lw_all := lw_g (lw_at lw_m3 79 rfl) rfl
theorem q653 : (Jvm.Cond.selects "Publicanry$Duty$3" ({ cls := "Publicanry$Duty", name := "got", desc := "(LPublicanry$Village;IZLPublicanry$Chest;LPublicanry$Chest;Z)I" } : Jvm.MethodName) ({ cls := "Publicanry$Duty", name := "got", desc := "(LPublicanry$Village;IZLPublicanry$Chest;LPublicanry$Chest;Z)I" } : Jvm.MethodName)) ∈ lw_all := lw_g (lw_at lw_m3 100 rfl) rfl
theorem q670 : (Jvm.Cond.selects "Publicanry$Duty$3" ({ cls := "Publicanry$Duty", name := "worth", desc := "(I)I" } : Jvm.MethodName) ({ cls := "Publicanry$Duty", name := "worth", desc := "(I)I" } : Jvm.MethodName)) ∈ lw_all := lw_g (lw_at lw_m3 117 rfl) rfl
theorem q880 : (Jvm.Cond.selects "Publicanry$Duty$3" ({ cls := "java/lang/Object", name := "getClass", desc := "()Ljava/lang/Class;" } : Jvm.MethodName) ({ cls := "java/lang/Object", name := "getClass", desc := "()Ljava/lang/Class;" } : Jvm.MethodName)) ∈ lw_all := lw_g (lw_at lw_m4 87 rfl) rfl
theorem q931 : (Jvm.Cond.fieldLink "Publicanry$Duty$3" (7 : Nat) "Publicanry$Village" "houses" "I") ∈ lw_all := lw_g (lw_at lw_m4 138 rfl) rfl
theorem q1088 : (Jvm.Cond.selects "Publicanry$Duty$3" ({ cls := "Publicanry$Duty", name := "mostRate", desc := "()I" } : Jvm.MethodName) ({ cls := "Publicanry$Duty$3", name := "mostRate", desc := "()I" } : Jvm.MethodName)) ∈ lw_all := lw_g (lw_at lw_m5 55 rfl) rfl
theorem q1089 : (Jvm.Cond.instanceMethod ({ cls := "Publicanry$Duty$3", name := "mostRate", desc := "()I" } : Jvm.MethodName)) ∈ lw_all := lw_g (lw_at lw_m5 56 rfl) rfl
theorem q1090 : (Jvm.Cond.code ({ cls := "Publicanry$Duty$3", name := "mostRate", desc := "()I" } : Jvm.MethodName) prog_7_method_3_code (1 : Nat) (Option.some Jvm.ClassFile.FieldType.int)) ∈ lw_all := lw_g (lw_at lw_m5 57 rfl) rfl
theorem q2435 : (Jvm.Cond.selects "Publicanry$Duty$3" ({ cls := "java/lang/Object", name := "equals", desc := "(Ljava/lang/Object;)Z" } : Jvm.MethodName) ({ cls := "java/lang/Enum", name := "equals", desc := "(Ljava/lang/Object;)Z" } : Jvm.MethodName)) ∈ lw_all := lw_g (lw_at lw_m10 202 rfl) rfl
theorem q2662 : (Jvm.Cond.castable "Publicanry$Duty$3" "java/lang/Object") ∈ lw_tbl := lw_at lw_m11 189 rfl
theorem q2687 : (Jvm.Cond.castable "Publicanry$Duty$3" "Publicanry$Duty") ∈ lw_tbl := lw_at lw_m11 214 rfl
