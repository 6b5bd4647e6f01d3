/-! CONTEXT: what every method of this system takes along of the machine: classes known, nest mates, castables, statics (printed by wip gen/ctx.py) -/
set_option maxRecDepth 100000
def nwM : List (String × Nat × MethodName × String) := [("PublicanryLaw", 158, ⟨"PublicanryLaw$Out", "<init>", "()V"⟩, "PublicanryLaw"), ("Publicanry", 39, ⟨"Publicanry$World", "<init>", "()V"⟩, "Publicanry"), ("Publicanry", 46, ⟨"Publicanry$Chest", "<init>", "()V"⟩, "Publicanry"), ("Publicanry", 52, ⟨"Publicanry$Governor", "<init>", "()V"⟩, "Publicanry"), ("Publicanry", 59, ⟨"Publicanry$Guard", "<init>", "()V"⟩, "Publicanry"), ("Publicanry$Village", 107, ⟨"Publicanry", "hold", "(III)I"⟩, "Publicanry"), ("Publicanry$Village", 11, ⟨"Publicanry$Chest", "<init>", "()V"⟩, "Publicanry"), ("Publicanry$Village", 73, ⟨"Publicanry", "has", "(II)Z"⟩, "Publicanry"), ("Publicanry$Company", 11, ⟨"Publicanry$Chest", "<init>", "()V"⟩, "Publicanry"), ("Publicanry$Lot", 103, ⟨"Publicanry", "one", "(Z)I"⟩, "Publicanry"), ("Publicanry$Levy", 29, ⟨"Publicanry", "one", "(Z)I"⟩, "Publicanry"), ("Publicanry$World", 1, ⟨"Publicanry$Chest", "<init>", "()V"⟩, "Publicanry"), ("Publicanry$Governor", 9, ⟨"Publicanry$Chest", "<init>", "()V"⟩, "Publicanry"), ("PublicanryModel", 127, ⟨"PublicanryModel$Village", "<init>", "()V"⟩, "PublicanryModel"), ("PublicanryModel", 154, ⟨"PublicanryModel$Company", "<init>", "()V"⟩, "PublicanryModel"), ("PublicanryModel", 221, ⟨"PublicanryModel$Lot", "<init>", "()V"⟩, "PublicanryModel")]
def nwF : List (String × Nat × String × String × String × String) := [("java/util/ArrayList$Itr", 28, "java/util/ArrayList", "size", "I", "java/util/ArrayList"), ("PublicanryLaw", 13, "PublicanryLaw$Out", "n", "J", "PublicanryLaw"), ("PublicanryLaw", 132, "PublicanryLaw$Out", "d", "D", "PublicanryLaw"), ("PublicanryLaw", 124, "PublicanryLaw$Out", "s", "Ljava/lang/String;", "PublicanryLaw")]
def nwC : List (String × String) := [("java/lang/IndexOutOfBoundsException", "java/lang/IndexOutOfBoundsException"), ("java/lang/IndexOutOfBoundsException", "java/lang/Object"), ("java/lang/ArrayIndexOutOfBoundsException", "java/lang/ArrayIndexOutOfBoundsException"), ("java/lang/ArrayIndexOutOfBoundsException", "java/lang/IndexOutOfBoundsException"), ("java/lang/ArrayIndexOutOfBoundsException", "java/lang/Object"), ("java/lang/String", "java/lang/Object"), ("java/util/ArrayList$Itr", "java/util/Iterator"), ("java/util/ArrayList$Itr", "java/lang/Object"), ("java/util/ArrayList", "java/lang/Object"), ("java/lang/Integer", "java/lang/Object"), ("java/lang/IllegalMonitorStateException", "java/lang/IllegalMonitorStateException"), ("java/lang/IllegalMonitorStateException", "java/lang/Object"), ("java/lang/StringBuilder", "java/lang/Object"), ("java/lang/Throwable", "java/lang/Object"), ("java/lang/IllegalArgumentException", "java/lang/IllegalArgumentException"), ("java/lang/IllegalArgumentException", "java/lang/Object"), ("java/lang/IllegalStateException", "java/lang/IllegalStateException"), ("java/lang/IllegalStateException", "java/lang/Object"), ("java/util/Optional", "java/lang/Object"), ("Publicanry", "java/lang/Object"), ("Publicanry$Village", "java/lang/Object"), ("PublicanryModel$Village", "java/lang/Object"), ("Publicanry$Company", "java/lang/Object"), ("PublicanryModel$Company", "java/lang/Object"), ("Publicanry$Partner", "java/lang/Object"), ("Publicanry$Lot", "java/lang/Object"), ("PublicanryModel$Lot", "java/lang/Object"), ("Publicanry$Levy", "java/lang/Object"), ("Publicanry$Duty$1", "java/lang/Object"), ("Publicanry$Duty$1", "Publicanry$Duty"), ("Publicanry$Duty$2", "java/lang/Object"), ("Publicanry$Duty$2", "Publicanry$Duty"), ("Publicanry$Chest", "java/lang/Object"), ("Publicanry$Duty$3", "java/lang/Object"), ("Publicanry$Duty$3", "Publicanry$Duty"), ("Publicanry$World", "java/lang/Object"), ("Publicanry$Governor", "java/lang/Object"), ("Publicanry$Guard", "java/lang/Object"), ("Publicanry$Rule", "java/lang/Object"), ("Publicanry$Duty", "java/lang/Object"), ("PublicanryModel", "java/lang/Object"), ("PublicanryLaw$Out", "java/lang/Object"), ("Publicanry$Stand", "java/lang/Object"), ("[B", "java/lang/Cloneable"), ("[B", "java/lang/Object"), ("[I", "java/lang/Object"), ("[J", "java/lang/Object"), ("[LPublicanry$Duty;", "java/lang/Cloneable"), ("[LPublicanry$Duty;", "java/lang/Object"), ("[LPublicanry$Rule;", "java/lang/Object"), ("[Ljava/lang/Object;", "java/lang/Object"), ("[Z", "java/lang/Object"), ("[[I", "java/lang/Object")]
def nwD : List MethodName := [⟨"java/lang/IndexOutOfBoundsException", "<init>", "()V"⟩, ⟨"java/lang/IndexOutOfBoundsException", "<init>", "(Ljava/lang/String;)V"⟩, ⟨"java/lang/Object", "equals", "(Ljava/lang/Object;)Z"⟩, ⟨"java/lang/Object", "getClass", "()Ljava/lang/Class;"⟩, ⟨"java/lang/Enum", "ordinal", "()I"⟩, ⟨"java/lang/Throwable", "<init>", "()V"⟩, ⟨"java/lang/Throwable", "<init>", "(Ljava/lang/String;)V"⟩, ⟨"java/lang/Exception", "<init>", "()V"⟩, ⟨"java/lang/Exception", "<init>", "(Ljava/lang/String;)V"⟩, ⟨"java/lang/RuntimeException", "<init>", "()V"⟩, ⟨"java/lang/RuntimeException", "<init>", "(Ljava/lang/String;)V"⟩, ⟨"Publicanry$Chest", "take", "(I)V"⟩, ⟨"Publicanry$Duty", "due", "(LPublicanry$Village;I)I"⟩, ⟨"Publicanry$Duty", "mostRate", "()I"⟩, ⟨"java/util/Iterator", "hasNext", "()Z"⟩, ⟨"java/util/Iterator", "next", "()Ljava/lang/Object;"⟩]
/-- statics that hold a reference: class, name, descriptor, number of the address -/
def stR : List (String × String × String × Nat) := [("java/util/Optional", "EMPTY", "Ljava/util/Optional;", 0), ("java/util/ArrayList", "DEFAULTCAPACITY_EMPTY_ELEMENTDATA", "[Ljava/lang/Object;", 1), ("Publicanry$Stand", "OFFERED", "LPublicanry$Stand;", 10), ("Publicanry$Stand", "LEASED", "LPublicanry$Stand;", 11), ("Publicanry$Stand", "OVER", "LPublicanry$Stand;", 12), ("Publicanry$Stand", "FAILED", "LPublicanry$Stand;", 13), ("Publicanry$Duty", "$VALUES", "[LPublicanry$Duty;", 30), ("java/lang/Integer$IntegerCache", "cache", "[Ljava/lang/Integer;", 31), ("java/lang/Integer", "DigitTens", "[B", 32), ("java/lang/Integer", "DigitOnes", "[B", 33)]
def stI : List (String × String × String × Int32) := [("java/lang/String", "COMPACT_STRINGS", "Z", 1), ("java/lang/Integer$IntegerCache", "high", "I", 127)]
def dutyC (d : Nat) : String := if d = 0 then "Publicanry$Duty$1" else if d = 1 then "Publicanry$Duty$2" else "Publicanry$Duty$3"
def dutyF (d : Nat) : Int32 := if d = 0 then 100 else if d = 1 then 10 else 2
/-- string constants: class, entry, text, number of the address -/
def strL : List (String × Nat × String × Nat) := [("Publicanry", 98, "village", 1098), ("Publicanry", 151, "full", 1151), ("Publicanry", 174, "more", 1174), ("Publicanry", 190, "villages", 1190), ("Publicanry", 118, "duty", 1118), ("Publicanry", 220, "edict", 1220), ("Publicanry", 110, "company", 1110), ("Publicanry", 234, "shares", 1234), ("Publicanry", 245, "amount", 1245), ("Publicanry", 253, "chest", 1253), ("Publicanry", 260, "ring", 1260), ("Publicanry", 114, "lot", 1114), ("Publicanry", 292, "bid", 1292), ("Publicanry", 315, "not offered", 1315), ("Publicanry", 367, "force", 1367), ("Publicanry", 371, "price", 1371), ("Publicanry", 383, "grain", 1383), ("Publicanry", 424, "no levy", 1424), ("Publicanry", 457, "many", 1457), ("Publicanry", 478, "remission", 1478), ("Publicanry", 558, "seasons", 1558), ("Publicanry", 560, "over", 1560), ("Publicanry", 578, "what", 1578), ("Publicanry", 606, "partner", 1606), ("Publicanry", 632, ": ", 1632), ("Publicanry", 637, " houses", 1637), ("Publicanry", 639, ", revolt", 1639), ("Publicanry", 641, ", burnt", 1641), ("Publicanry", 643, ", owes ", 1643), ("Publicanry", 659, "got", 1659), ("Publicanry", 660, "sky", 1660), ("PublicanryModel", 404, "", 2404), ("PublicanryModel", 413, ": ", 2413), ("PublicanryModel", 418, " houses", 2418), ("PublicanryModel", 420, ", revolt", 2420), ("PublicanryModel", 422, ", burnt", 2422), ("PublicanryModel", 424, ", owes ", 2424)]
abbrev xI_hasNext : MethodName := ⟨"java/util/Iterator", "hasNext", "()Z"⟩
abbrev xI_next : MethodName := ⟨"java/util/Iterator", "next", "()Ljava/lang/Object;"⟩
/-- arrays of arrays -/
def va_AR (t : FieldType) (U : State) : Prop := (Cond.arrayOver (.array t)).before #[] U = true
theorem va_AR.moved {t : FieldType} {u U : State} (hvm : u.vm.Alike U.vm) (h : va_AR t u) : va_AR t U := by
  obtain ⟨comp, c, k, h1, h2, h3, h4, h5⟩ := arrayOverA_spec h
  obtain ⟨k', hk', he⟩ := hvm.2.2 _ _ h3
  have hi : (U.vm.classes.findIdx? fun (x : Class) => match x.kind with | .array component _ => component == comp | _ => false) = some c := by
    have hb1 := va_idx_bare U.vm comp
    have hb2 := va_idx_bare u.vm comp
    first | rw [hvm.bare_eq] at hb1 | rw [← hvm.bare_eq] at hb1
    exact hb1.symm.trans (hb2.trans h2)
  have hkind : k'.kind = .array comp (.array t) := by rw [he]; exact h4
  have f1 : U.vm.findClass (FieldType.array t).toString = some comp := by rw [hvm.findClass]; exact h1
  have f2 : U.vm.findClass ("[" ++ (FieldType.array t).toString) = some c := by rw [hvm.findClass]; exact h5
  unfold va_AR Cond.before Cond.holds
  simp only [Cond.value]
  rw [f1, Option.bind_some]
  refine (congrArg (fun o : Option Nat => (o.bind (fun c => (U.vm.classes[c]?).map fun (k : Class) => match k.kind with | .array _ ty => decide (ty = FieldType.array t) && decide (U.vm.findClass ("[" ++ (FieldType.array t).toString) = some c) | _ => false) == some true)) hi).trans ?_
  simp [hk', hkind, f2]
/-- the cache of small Integers -/
def IC (κ : Kx) (U : State) : Prop := ∃ cell : Cell, (kH κ)[kA κ 31]? = some cell ∧ U.isArrayOf cell (.object "java/lang/Integer") ∧ cell.vm ≠ .unknown ∧ cell.slots.size = 256 ∧ (∀ n, n < 256 → cell.slots[n]? = some (.ref (kA κ (5000 + n)))) ∧ kA κ 31 < kZ κ
theorem IC.moved {κ : Kx} {u U : State} (hvm : u.vm.Alike U.vm) (h : IC κ u) : IC κ U := by
  obtain ⟨cell, h1, h2, h3⟩ := h
  exact ⟨cell, h1, State.isArrayOf_alike hvm h2, h3⟩
/-- the texts of the constants that 'tell' joins -/
def strB : List (Nat × List Nat) := [(1632, [58, 32]), (1637, [32, 104, 111, 117, 115, 101, 115]), (1639, [44, 32, 114, 101, 118, 111, 108, 116]), (1641, [44, 32, 98, 117, 114, 110, 116]), (1643, [44, 32, 111, 119, 101, 115, 32]), (2404, []), (2413, [58, 32]), (2418, [32, 104, 111, 117, 115, 101, 115]), (2420, [44, 32, 114, 101, 118, 111, 108, 116]), (2422, [44, 32, 98, 117, 114, 110, 116]), (2424, [44, 32, 111, 119, 101, 115, 32])]
def dTen (t : Nat) : Int32 := nI (48 + t / 10)
def dOne (t : Nat) : Int32 := nI (48 + t % 10)
/-- boxes, digits and texts that stand from the start on -/
def BX (κ : Kx) : Prop :=
  (∀ n, n < 256 → va_at (kD κ) Cl (kA κ (5000 + n), .inr (19, [.int (nI n - 128)])) (kH κ) ∧ kA κ (5000 + n) < kZ κ) ∧
  ((∃ f : Nat → Int32, va_at (kD κ) Cl (kA κ 32, .inl (kT κ 3, (100, .inl f))) (kH κ) ∧ ∀ t, t < 100 → f t = dTen t) ∧ (∃ f : Nat → Int32, va_at (kD κ) Cl (kA κ 33, .inl (kT κ 3, (100, .inl f))) (kH κ) ∧ ∀ t, t < 100 → f t = dOne t) ∧ kA κ 32 < kZ κ ∧ kA κ 33 < kZ κ) ∧
  ∀ q ∈ strB, ∃ (bA : Nat) (hh zz : Int32) (f : Nat → Int32), va_at (kD κ) Cl (kA κ q.1, .inr (21, [.ref bA, .int 0, .int hh, .int zz])) (kH κ) ∧ va_at (kD κ) Cl (bA, .inl (kT κ 3, (q.2.length, .inl f))) (kH κ) ∧ (∀ t, t < q.2.length → f t = nI (q.2.getD t 0)) ∧ bA < kZ κ ∧ kA κ q.1 < kZ κ
/-- thrown classes that a row for another class does not catch -/
def ncL : List (String × String) := [("java/lang/IllegalArgumentException", "java/lang/IndexOutOfBoundsException"), ("java/lang/IllegalStateException", "java/lang/IndexOutOfBoundsException"), ("java/lang/IllegalStateException", "java/lang/IllegalArgumentException")]
def SX (κ : Kx) (U : State) : Prop :=
  (∀ q ∈ nwM, va_Nw (.methodLinkNest q.1 q.2.1 q.2.2.1 q.2.2.2) U) ∧
  (∀ q ∈ nwF, va_Nw (.fieldLinkNest q.1 q.2.1 q.2.2.1 q.2.2.2.1 q.2.2.2.2.1 q.2.2.2.2.2) U) ∧
  (∀ q ∈ nwC, va_Nw (.castable q.1 q.2) U) ∧
  (∀ q ∈ nwD, va_Nw (.declares q) U) ∧
  (va_Fw RJ18 xI_hasNext yJ18_hasNext U ∧ va_Fw RJ18 xI_next yJ18_next U) ∧
  (va_AO "Publicanry$Rule" U ∧ va_AO "Publicanry$Duty" U ∧ va_AO "java/lang/Object" U ∧ va_AR .int U ∧ IC κ U ∧ BX κ) ∧
  (∀ q ∈ stR, va_Z q.1 q.2.1 q.2.2.1 (.ref (kA κ q.2.2.2)) (Af κ) U (kH κ)) ∧
  (∀ q ∈ stI, va_Z q.1 q.2.1 q.2.2.1 (.int q.2.2.2) (Af κ) U (kH κ)) ∧
  (∀ j, j < 4 → va_O "Publicanry$Stand" (kA κ (10 + j)) (Af κ) U (kH κ) ∧ va_OF "java/lang/Enum" "ordinal" "I" (.int (nI j)) (kA κ (10 + j)) (Af κ) U (kH κ)) ∧
  (∀ d, d < 3 → va_O (dutyC d) (kA κ (20 + d)) (Af κ) U (kH κ) ∧ va_OF "java/lang/Enum" "ordinal" "I" (.int (nI d)) (kA κ (20 + d)) (Af κ) U (kH κ) ∧ va_OF "Publicanry$Duty" "first" "I" (.int (dutyF d)) (kA κ (20 + d)) (Af κ) U (kH κ)) ∧
  (∀ q ∈ strL, vk_R q.1 q.2.1 q.2.2.1 (kA κ q.2.2.2) U) ∧
  (vx_Zq Bundle.tN "UNASSIGNED_STACK" Bundle.steD (Af κ) U (kH κ) ∧ vx_Zq Bundle.tN "SUPPRESSED_SENTINEL" Bundle.listD (Af κ) U (kH κ) ∧ ∀ q ∈ ncL, va_Nc q.1 q.2 U)
theorem SX.warm {κ : Kx} {s U : State} (hW : s.WarmedH U.vm) (h : SX κ s) : SX κ U := by
  obtain ⟨a1, a2, a3, a4, ⟨a5, a6⟩, ⟨a7, a8, a9, c1, c2, c3⟩, b1, b2, b3, b4, b5, b6, b7, b8⟩ := h
  have hv := hW.alike
  exact ⟨fun q hq => (a1 q hq).warmM hW, fun q hq => (a2 q hq).warmF hW, fun q hq => (a3 q hq).warmC hW, fun q hq => (a4 q hq).warmD hW, ⟨va_Fw.moved (by decide) hv a5, va_Fw.moved (by decide) hv a6⟩, ⟨va_AO.moved hv a7, va_AO.moved hv a8, va_AO.moved hv a9, va_AR.moved hv c1, IC.moved hv c2, c3⟩, fun q hq => va_Z.moved hv (b1 q hq), fun q hq => va_Z.moved hv (b2 q hq), fun j hj => ⟨va_O.moved hv (b3 j hj).1, va_OF.moved hv (b3 j hj).2⟩, fun d hd => ⟨va_O.moved hv (b4 d hd).1, va_OF.moved hv (b4 d hd).2.1, va_OF.moved hv (b4 d hd).2.2⟩, fun q hq => (b5 q hq).warm hW, vx_Zq.moved hv b6, vx_Zq.moved hv b7, fun q hq => va_Nc.moved hv (b8 q hq)⟩
theorem SX.same {κ : Kx} {u U : State} (h : u.vm = U.vm) (hx : SX κ u) : SX κ U := by
  obtain ⟨a1, a2, a3, a4, ⟨a5, a6⟩, ⟨a7, a8, a9, c1, c2, c3⟩, b1, b2, b3, b4, b5, b6, b7, b8⟩ := hx
  have hv : u.vm.Alike U.vm := h ▸ Vm.Alike.refl u.vm
  exact ⟨fun q hq => (a1 q hq).same rfl h, fun q hq => (a2 q hq).same rfl h, fun q hq => (a3 q hq).same rfl h, fun q hq => (a4 q hq).same rfl h, ⟨va_Fw.moved (by decide) hv a5, va_Fw.moved (by decide) hv a6⟩, ⟨va_AO.moved hv a7, va_AO.moved hv a8, va_AO.moved hv a9, va_AR.moved hv c1, IC.moved hv c2, c3⟩, fun q hq => va_Z.moved hv (b1 q hq), fun q hq => va_Z.moved hv (b2 q hq), fun j hj => ⟨va_O.moved hv (b3 j hj).1, va_OF.moved hv (b3 j hj).2⟩, fun d hd => ⟨va_O.moved hv (b4 d hd).1, va_OF.moved hv (b4 d hd).2.1, va_OF.moved hv (b4 d hd).2.2⟩, fun q hq => (b5 q hq).same h.symm, vx_Zq.moved hv b6, vx_Zq.moved hv b7, fun q hq => va_Nc.moved hv (b8 q hq)⟩
/-- cells that stand from the start on -/
def HX (κ : Kx) : Prop :=
  va_at (kD κ) Cl (kA κ 0, .inr (18, [.null])) (kH κ) ∧
  va_at (kD κ) Cl (kA κ 1, .inl (kT κ 4, (0, .inr (.inr (.inr (.inr (fun _ => none))))))) (kH κ) ∧
  va_at (kD κ) Cl (kA κ 30, .inl (kT κ 7, (3, .inr (.inr (.inr (.inr (fun t => some (kA κ (20 + t)))))))) ) (kH κ) ∧
  (kA κ 0 < kZ κ ∧ kA κ 1 < kZ κ ∧ kA κ 30 < kZ κ ∧ kZ κ ≤ (kH κ).size) ∧
  (∀ i j, i < 4 → j < 4 → kA κ (10 + i) = kA κ (10 + j) → i = j) ∧ (∀ i j, i < 3 → j < 3 → kA κ (20 + i) = kA κ (20 + j) → i = j)
def KK (κ : Kx) (U : State) : Prop := va_K (kD κ) Cl (tys κ) U ∧ SX κ U ∧ HX κ
theorem KK.warm {κ : Kx} {s U : State} (hW : s.WarmedH U.vm) (h : KK κ s) : KK κ U := ⟨va_K.moved hW.alike h.1, h.2.1.warm hW, h.2.2⟩
theorem KK.same {κ : Kx} {u U : State} (e : u.vm = U.vm) (h : KK κ u) : KK κ U := ⟨va_K.moved (e ▸ Vm.Alike.refl u.vm) h.1, h.2.1.same e, h.2.2⟩
def RC (κ : Kx) (w : Wd) (y : Ly) (X : XR) (U : State) : Prop := Rp κ w y X [] U.heap ∧ KK κ U
theorem RC.blind {κ : Kx} {w : Wd} {y : Ly} {X : XR} {av : List Value} : FrameBlind (va_Pc av (RC κ w y X)) := fun a U g mk q => ⟨q.1, q.2.1, KK.same (u := U) (U := U.calling g mk a) rfl q.2.2⟩
theorem RC.pre {κ : Kx} {w : Wd} {y : Ly} {X : XR} {L : va_W} {H : Heap} {s : State} {av : List Value} (hR : Rp κ w y X L H) (hK : KK κ s) : ∀ U : State, U.heap = H → s.WarmedH U.vm → va_Pc av (RC κ w y (xl X L)) av.toArray U := fun U hU hW => ⟨rfl, by rw [hU]; exact hR.down, hK.warm hW⟩
theorem Rp.va_F {κ : Kx} {s t : State} {H : Heap} {locs : List Loc} (hS : va_S (Af κ) s.heap H locs) (ht : t.heap = H) : va_F (Af κ) s t := hS.F ht
section CR
variable {p : Program} {l : Launch} {e : Env} {R : Room} {s : State} {m : MethodId} {args : Array Value} {below : List Frame} {meth : Method} {c : Code} {H : Heap} {locs : List Loc} {cells slots : Nat} {Q : State → Prop}
variable {cc : ByteArray} {pc nL mc ms n index maxL : Nat} {ls : Array Slot} {rest As st0 : List Value} {κ : Kx} {w : Wd} {y : Ly} {X : XR} {L : va_W} {own C host : String} {Y : MethodName} {bytes : ByteArray} {ret : Option FieldType} {rm : Room} {Qc : Array Value → State → Outcome → State → Prop} {b : Addr} {g : JFrame} {free : Addr → Prop}
theorem cr_V (S : CallFix p m c cc nL s args lw_all own) (hK : KK κ s) (hR : Rp κ w y X L H) (hM : Met l Y (ws_ Y bytes maxL ret) rm (va_Pc (.ref b :: As) (RC κ w y (xl X L))) Qc mc ms free)
    (q1 : Cond.methodLink own index Y ∈ lw_all) (q2 : Cond.instanceMethod Y ∈ lw_all) (q3 : Cond.selects C Y Y ∈ lw_all) (q4 : Cond.initialized C ∈ lw_all) (q5 : Cond.code Y bytes maxL ret ∈ lw_all) (hrc : rm.cells = mc) (hrs : rm.slots = ms)
    (hd : Y.cls = C ∧ Y.cls ≠ "java/lang/invoke/MethodHandle" ∧ Y.cls ≠ "java/lang/invoke/VarHandle" ∧ (parseMethodDescriptor Y.desc).map (fun d => d.parameters.length) = some n) (hRm : rm.frames + 1 ≤ R.frames ∧ 8 + (maxL + 11) + rm.locals ≤ R.locals)
    (hrecv : ∃ cell : Cell, H[b]? = some cell ∧ cell.vm.isStatics = false ∧ s.vm.findClass C = some cell.cls)
    (hg : g.method = m) (hn : As.length = n) (hsize : g.locals.size = nL) (hstack : g.stack = As.reverse ++ .ref b :: rest) (hW : 2 * g.monitorRoom + (rest.map fun v => v.category).sum ≤ 8) (hdg : decode cc g.pc = .ok (.invokevirtual index, 3)) (hf : cells + mc ≤ R.cells ∧ slots + ms ≤ R.slots) :
    va_Run p l e R s m args below meth c H locs cells slots mc ms g rest (Qc (Value.ref b :: As).toArray) free :=
  va_runV S hM (cwV n S.2.2.2.2 (lw_V q1 q2 q3 q4 q5) rfl hrc hrs hd hRm) ⟨RC.blind, hrecv, RC.pre hR hK⟩ hg hn hsize hstack hW hdg hf
theorem cr_S (S : CallFix p m c cc nL s args lw_all own) (hK : KK κ s) (hR : Rp κ w y X L H) (hM : Met l Y (ws_ Y bytes maxL ret) rm (va_Pc As (RC κ w y (xl X L))) Qc mc ms free)
    (q1 : Cond.methodLink own index Y ∈ lw_all) (q2 : Cond.static Y ∈ lw_all) (q3 : Cond.initialized Y.cls ∈ lw_all) (q5 : Cond.code Y bytes maxL ret ∈ lw_all) (hrc : rm.cells = mc) (hrs : rm.slots = ms)
    (hd : Y.cls ≠ "java/lang/invoke/MethodHandle" ∧ Y.cls ≠ "java/lang/invoke/VarHandle" ∧ (parseMethodDescriptor Y.desc).map (fun d => d.parameters.length) = some n) (hRm : rm.frames + 1 ≤ R.frames ∧ 8 + (maxL + 11) + rm.locals ≤ R.locals)
    (hg : g.method = m) (hn : As.length = n) (hsize : g.locals.size = nL) (hstack : g.stack = As.reverse ++ rest) (hW : 2 * g.monitorRoom + (rest.map fun v => v.category).sum ≤ 8) (hdg : decode cc g.pc = .ok (.invokestatic index, 3)) (hf : cells + mc ≤ R.cells ∧ slots + ms ≤ R.slots) :
    va_Run p l e R s m args below meth c H locs cells slots mc ms g rest (Qc As.toArray) free :=
  va_runS S hM (va_cwS n S.2.2.2.2 (lw_S q1 q2 q3 q5) rfl hrc hrs hd hRm) ⟨RC.blind, RC.pre hR hK⟩ hg hn hsize hstack hW hdg hf
theorem cr_SN (S : CallFix p m c cc nL s args lw_all own) (hK : KK κ s) (hR : Rp κ w y X L H) (hM : Met l Y (ws_ Y bytes maxL ret) rm (va_Pc As (RC κ w y (xl X L))) Qc mc ms free)
    (q1 : (own, index, Y, host) ∈ nwM) (q2 : Cond.static Y ∈ lw_all) (q3 : Cond.initialized Y.cls ∈ lw_all) (q5 : Cond.code Y bytes maxL ret ∈ lw_all) (hrc : rm.cells = mc) (hrs : rm.slots = ms)
    (hd : Y.cls ≠ "java/lang/invoke/MethodHandle" ∧ Y.cls ≠ "java/lang/invoke/VarHandle" ∧ (parseMethodDescriptor Y.desc).map (fun d => d.parameters.length) = some n) (hRm : rm.frames + 1 ≤ R.frames ∧ 8 + (maxL + 11) + rm.locals ≤ R.locals)
    (hg : g.method = m) (hn : As.length = n) (hsize : g.locals.size = nL) (hstack : g.stack = As.reverse ++ rest) (hW : 2 * g.monitorRoom + (rest.map fun v => v.category).sum ≤ 8) (hdg : decode cc g.pc = .ok (.invokestatic index, 3)) (hf : cells + mc ≤ R.cells ∧ slots + ms ≤ R.slots) :
    va_Run p l e R s m args below meth c H locs cells slots mc ms g rest (Qc As.toArray) free :=
  va_runSN S hM ⟨va_cnB n S.2.2.2.2 (lw_meth q5) rfl hrc hrs (hK.2.1.1 _ q1) (S.2.2.2.2 _ q3) hd hRm, S.2.2.2.2 _ q2, trivial⟩ ⟨RC.blind, RC.pre hR hK⟩ hg hn hsize hstack hW hdg hf
end CR
section CE
variable {p : Program} {l : Launch} {e : Env} {R : Room} {s : State} {m : MethodId} {args : Array Value} {below : List Frame} {meth : Method} {c : Code} {H : Heap} {locs : List Loc} {cells slots : Nat} {Q : State → Prop}
variable {pc mc ms : Nat} {ls : Array Slot} {rest st0 : List Value} {a : Array Value} {κ : Kx} {w : Wd} {y : Ly} {X : XR} {L : va_W} {Sg : Type} {fw : Sg → Wd} {fy : Sg → Ly}
theorem ce_qi {post : Int32 → Sg → Prop} (hr : va_Run p l e R s m args below meth c H locs cells slots mc ms (F0 m pc ls st0) rest (va_Qi post (fun u t => Rp κ (fw u) (fy u) (xl X L) [] t.heap) (Af κ) a) (Af κ)) (hR : Rp κ w y X L H) (hS : va_S (Af κ) s.heap H locs)
    (kk : ∀ (r : Int32) (u : Sg) (H1 : Heap) (locs1 : List Loc), post r u → Rp κ (fw u) (fy u) X L H1 → H.size ≤ H1.size → va_S (Af κ) s.heap H1 locs1 → W p l e R s m args below meth c H1 locs1 (cells + mc) (slots + ms) Q (F0 m (pc + 3) ls (.int r :: rest))) : W p l e R s m args below meth c H locs cells slots Q (F0 m pc ls st0) :=
  va_calli hr hS (fun _ _ h => h) (fun _ h => h) (fun r u t H1 locs1 ht _ hp hB hz _ hS => kk r u H1 locs1 hp (hR.up (by rw [← ht]; exact hB)) hz hS)
theorem ce_ql {post : Int64 → Sg → Prop} (hr : va_Run p l e R s m args below meth c H locs cells slots mc ms (F0 m pc ls st0) rest (va_Ql post (fun u t => Rp κ (fw u) (fy u) (xl X L) [] t.heap) (Af κ) a) (Af κ)) (hR : Rp κ w y X L H) (hS : va_S (Af κ) s.heap H locs)
    (kk : ∀ (r : Int64) (u : Sg) (H1 : Heap) (locs1 : List Loc), post r u → Rp κ (fw u) (fy u) X L H1 → H.size ≤ H1.size → va_S (Af κ) s.heap H1 locs1 → W p l e R s m args below meth c H1 locs1 (cells + mc) (slots + ms) Q (F0 m (pc + 3) ls (.long r :: rest))) : W p l e R s m args below meth c H locs cells slots Q (F0 m pc ls st0) :=
  va_calll hr hS (fun _ _ h => h) (fun _ h => h) (fun r u t H1 locs1 ht _ hp hB hz _ hS => kk r u H1 locs1 hp (hR.up (by rw [← ht]; exact hB)) hz hS)
theorem ce_qd {post : UInt64 → Sg → Prop} (hr : va_Run p l e R s m args below meth c H locs cells slots mc ms (F0 m pc ls st0) rest (va_Qd post (fun u t => Rp κ (fw u) (fy u) (xl X L) [] t.heap) (Af κ) a) (Af κ)) (hR : Rp κ w y X L H) (hS : va_S (Af κ) s.heap H locs)
    (kk : ∀ (r : UInt64) (u : Sg) (H1 : Heap) (locs1 : List Loc), post r u → Rp κ (fw u) (fy u) X L H1 → H.size ≤ H1.size → va_S (Af κ) s.heap H1 locs1 → W p l e R s m args below meth c H1 locs1 (cells + mc) (slots + ms) Q (F0 m (pc + 3) ls (.double r :: rest))) : W p l e R s m args below meth c H locs cells slots Q (F0 m pc ls st0) :=
  va_calld hr hS (fun _ _ h => h) (fun _ h => h) (fun r u t H1 locs1 ht _ hp hB hz _ hS => kk r u H1 locs1 hp (hR.up (by rw [← ht]; exact hB)) hz hS)
theorem ce_qv {post : Sg → Prop} (hr : va_Run p l e R s m args below meth c H locs cells slots mc ms (F0 m pc ls st0) rest (va_Qv post (fun u t => Rp κ (fw u) (fy u) (xl X L) [] t.heap) (Af κ) a) (Af κ)) (hR : Rp κ w y X L H) (hS : va_S (Af κ) s.heap H locs)
    (kk : ∀ (u : Sg) (H1 : Heap) (locs1 : List Loc), post u → Rp κ (fw u) (fy u) X L H1 → H.size ≤ H1.size → va_S (Af κ) s.heap H1 locs1 → W p l e R s m args below meth c H1 locs1 (cells + mc) (slots + ms) Q (F0 m (pc + 3) ls rest)) : W p l e R s m args below meth c H locs cells slots Q (F0 m pc ls st0) :=
  va_callv hr hS (fun _ _ h => h) (fun _ h => h) (fun u t H1 locs1 ht _ hp hB hz _ hS => kk u H1 locs1 hp (hR.up (by rw [← ht]; exact hB)) hz hS)
theorem ce_qr {post : Sg → Prop} {P : Sg → Nat → State → Prop} (hr : va_Run p l e R s m args below meth c H locs cells slots mc ms (F0 m pc ls st0) rest (va_Qr post (fun u a t => Rp κ (fw u) (fy u) (xl X L) [] t.heap ∧ P u a t) (Af κ) a) (Af κ)) (hR : Rp κ w y X L H) (hS : va_S (Af κ) s.heap H locs)
    (kk : ∀ (u : Sg) (a : Nat) (t : State) (H1 : Heap) (locs1 : List Loc), t.heap = H1 → post u → P u a t → Rp κ (fw u) (fy u) X L H1 → H.size ≤ H1.size → va_S (Af κ) s.heap H1 locs1 → W p l e R s m args below meth c H1 locs1 (cells + mc) (slots + ms) Q (F0 m (pc + 3) ls (.ref a :: rest))) : W p l e R s m args below meth c H locs cells slots Q (F0 m pc ls st0) :=
  va_callr hr hS (fun _ _ h => h) (fun _ h => h) (fun u a t H1 locs1 ht _ hp hB hz _ hS => kk u a t H1 locs1 ht hp hB.2 (hR.up (by rw [← ht]; exact hB.1)) hz hS)
end CE
