/-! THE JDK 2: Optional, enum constants, and the rows of calls to lists and iterators (printed by wip gen/jdk2.py) -/
set_option maxRecDepth 100000
/-- an Optional at a, with v in it -/
def OptAt (κ : Kx) (H : Heap) (a : Nat) (v : Option Nat) : Prop := va_at (kD κ) Cl (a, .inr (18, [va_rf v])) H
def OC (κ : Kx) (a : Nat) (v : Option Nat) (U : State) : Prop := OptAt κ U.heap a v ∧ KK κ U
theorem em_at {κ : Kx} {w : Wd} {y : Ly} {X : XR} {L : va_W} {H : Heap} {s : State} (hK : KK κ s) (hR : Rp κ w y X L H) : OptAt κ H (kA κ 0) none := hK.2.2.1.kept (hR.1.2 _ hK.2.2.2.2.2.1.1)
/-- a lot's holder -/
theorem ho_at {κ : Kx} {w : Wd} {y : Ly} {X : XR} {L : va_W} {H : Heap} {s : State} (hK : KK κ s) (hR : Rp κ w y X L H) (i : Nat) : OptAt κ H (if y.1 14 i = 1 then y.2 14 i else kA κ 0) (if y.1 14 i = 1 then some (y.2 9 (gv w 14 i 0).toNatClampNeg) else none) := by
  by_cases h : y.1 14 i = 1
  · rw [if_pos h, if_pos h]
    exact hR.role (k := 14) ⟨h, by decide⟩
  · rw [if_neg h, if_neg h]
    exact em_at hK hR
/-- a village's levy -/
theorem op_at {κ : Kx} {w : Wd} {y : Ly} {X : XR} {L : va_W} {H : Heap} {s : State} (hK : KK κ s) (hR : Rp κ w y X L H) (i : Nat) : OptAt κ H (if y.1 15 i = 1 then y.2 15 i else kA κ 0) (if y.1 15 i = 1 then some (y.2 16 i) else none) := by
  by_cases h : y.1 15 i = 1
  · rw [if_pos h, if_pos h]
    exact hR.role (k := 15) ⟨h, by decide⟩
  · rw [if_neg h, if_neg h]
    exact em_at hK hR
theorem hd_J9_isPresent : yJ9_isPresent.cls = RJ9 ∧ yJ9_isPresent.cls ≠ "java/lang/invoke/MethodHandle" ∧ yJ9_isPresent.cls ≠ "java/lang/invoke/VarHandle" ∧ (parseMethodDescriptor yJ9_isPresent.desc).map (fun d => d.parameters.length) = some 0 := by decide +kernel
abbrev rm_J9_isPresent : Room := {}
set_option maxHeartbeats 4000000 in
theorem m_J9_isPresent {l : Launch} {κ : Kx} {a : Nat} {v : Option Nat}  : Met l yJ9_isPresent (ws_ yJ9_isPresent cJ9_isPresent 1 (Option.some Jvm.ClassFile.FieldType.boolean)) rm_J9_isPresent (va_Pc [.ref a] (OC κ a v)) (Qs (.int (bi (v ≠ none)))) 0 0 (nofree) := by
  refine Met.ofW (cc := cJ9_isPresent) (maxL := 1) (ret := (Option.some Jvm.ClassFile.FieldType.boolean)) (by decide) rfl ?_
  intro p e s m args below meth c s₁ B hml hv
  obtain ⟨rfl, hR, hK⟩ := hv
  have hx := B.exec
  have hb := B.bytes
  have hr := B.returns
  have hts := atoms_spec (ws := ws_ yJ9_isPresent cJ9_isPresent 1 (Option.some Jvm.ClassFile.FieldType.boolean)) B.pre
  have hts : ∀ w ∈ lw_all, w.before _ s = true := fun w h => hts w (List.mem_cons_of_mem _ h)
  have hown : s.vm.findClass RJ9 = some m.cls := findClass_of_methodNamed B.named
  have hlocks := B.notSynchronized
  have hl := lv_entry ([.ref a]) (n := 1) (Nat.le_of_ble_eq_true rfl)
  rw [lg_entry_eq]
  generalize (lg_sl ([.ref a]) ++ List.replicate (1 - (lg_sl ([.ref a])).length) Slot.unset).toArray = ls at hl ⊢
  have hl : lv_has ls 1 [(0, .ref a)] := hl
  refine lv_aload_n hx hb dJ9_isPresent_0 rfl (lv_at hl 0 rfl) ?_
  refine xa_get (T := TJ9) (N := 1) (v := va_rf v) hx hb hts in_J9 hown hK.1 hR rfl 0 (by decide) q1367 rfl rfl dJ9_isPresent_1 ?_
  cases v with
  | none =>
    refine lv_ifnullN (tgt := 11) hx hb dJ9_isPresent_4 (by decide) ?_
    refine lv_iconst (v := 0) hx hb dJ9_isPresent_11 (by decide) ?_
    exact W.zret (v := 0) hx hb hr rfl (fun t ht _ => ⟨by rw [bi_0.mpr (by simp)], ht⟩) (fun q h => by cases h) dJ9_isPresent_12
  | some x =>
    refine lv_ifnull hx hb dJ9_isPresent_4 ?_
    refine lv_iconst (v := 1) hx hb dJ9_isPresent_7 (by decide) ?_
    refine lv_goto (tgt := 12) hx hb dJ9_isPresent_8 (by decide) ?_
    exact W.zret (v := 1) hx hb hr rfl (fun t ht _ => ⟨by rw [bi_1.mpr (by simp)], ht⟩) (fun q h => by cases h) dJ9_isPresent_12
theorem hd_J9_isEmpty : yJ9_isEmpty.cls = RJ9 ∧ yJ9_isEmpty.cls ≠ "java/lang/invoke/MethodHandle" ∧ yJ9_isEmpty.cls ≠ "java/lang/invoke/VarHandle" ∧ (parseMethodDescriptor yJ9_isEmpty.desc).map (fun d => d.parameters.length) = some 0 := by decide +kernel
abbrev rm_J9_isEmpty : Room := {}
set_option maxHeartbeats 4000000 in
theorem m_J9_isEmpty {l : Launch} {κ : Kx} {a : Nat} {v : Option Nat}  : Met l yJ9_isEmpty (ws_ yJ9_isEmpty cJ9_isEmpty 1 (Option.some Jvm.ClassFile.FieldType.boolean)) rm_J9_isEmpty (va_Pc [.ref a] (OC κ a v)) (Qs (.int (bi (v = none)))) 0 0 (nofree) := by
  refine Met.ofW (cc := cJ9_isEmpty) (maxL := 1) (ret := (Option.some Jvm.ClassFile.FieldType.boolean)) (by decide) rfl ?_
  intro p e s m args below meth c s₁ B hml hv
  obtain ⟨rfl, hR, hK⟩ := hv
  have hx := B.exec
  have hb := B.bytes
  have hr := B.returns
  have hts := atoms_spec (ws := ws_ yJ9_isEmpty cJ9_isEmpty 1 (Option.some Jvm.ClassFile.FieldType.boolean)) B.pre
  have hts : ∀ w ∈ lw_all, w.before _ s = true := fun w h => hts w (List.mem_cons_of_mem _ h)
  have hown : s.vm.findClass RJ9 = some m.cls := findClass_of_methodNamed B.named
  have hlocks := B.notSynchronized
  have hl := lv_entry ([.ref a]) (n := 1) (Nat.le_of_ble_eq_true rfl)
  rw [lg_entry_eq]
  generalize (lg_sl ([.ref a]) ++ List.replicate (1 - (lg_sl ([.ref a])).length) Slot.unset).toArray = ls at hl ⊢
  have hl : lv_has ls 1 [(0, .ref a)] := hl
  refine lv_aload_n hx hb dJ9_isEmpty_0 rfl (lv_at hl 0 rfl) ?_
  refine xa_get (T := TJ9) (N := 1) (v := va_rf v) hx hb hts in_J9 hown hK.1 hR rfl 0 (by decide) q1367 rfl rfl dJ9_isEmpty_1 ?_
  cases v with
  | none =>
    refine lv_ifnonnullN hx hb dJ9_isEmpty_4 ?_
    refine lv_iconst (v := 1) hx hb dJ9_isEmpty_7 (by decide) ?_
    refine lv_goto (tgt := 12) hx hb dJ9_isEmpty_8 (by decide) ?_
    exact W.zret (v := 1) hx hb hr rfl (fun t ht _ => ⟨by rw [bi_1.mpr rfl], ht⟩) (fun q h => by cases h) dJ9_isEmpty_12
  | some x =>
    refine lv_ifnonnull (tgt := 11) hx hb dJ9_isEmpty_4 (by decide) ?_
    refine lv_iconst (v := 0) hx hb dJ9_isEmpty_11 (by decide) ?_
    exact W.zret (v := 0) hx hb hr rfl (fun t ht _ => ⟨by rw [bi_0.mpr (by simp)], ht⟩) (fun q h => by cases h) dJ9_isEmpty_12
theorem hd_J9_get : yJ9_get.cls = RJ9 ∧ yJ9_get.cls ≠ "java/lang/invoke/MethodHandle" ∧ yJ9_get.cls ≠ "java/lang/invoke/VarHandle" ∧ (parseMethodDescriptor yJ9_get.desc).map (fun d => d.parameters.length) = some 0 := by decide +kernel
abbrev rm_J9_get : Room := {}
set_option maxHeartbeats 4000000 in
theorem m_J9_get {l : Launch} {κ : Kx} {a : Nat} {v : Option Nat} {z : Nat} (hv : v = some z) : Met l yJ9_get (ws_ yJ9_get cJ9_get 1 (Option.some (Jvm.ClassFile.FieldType.object "java/lang/Object"))) rm_J9_get (va_Pc [.ref a] (OC κ a v)) (Qs (.ref z)) 0 0 (nofree) := by
  refine Met.ofW (cc := cJ9_get) (maxL := 1) (ret := (Option.some (Jvm.ClassFile.FieldType.object "java/lang/Object"))) (by decide) rfl ?_
  intro p e s m args below meth c s₁ B hml hv
  obtain ⟨rfl, hR, hK⟩ := hv
  have hx := B.exec
  have hb := B.bytes
  have hr := B.returns
  have hts := atoms_spec (ws := ws_ yJ9_get cJ9_get 1 (Option.some (Jvm.ClassFile.FieldType.object "java/lang/Object"))) B.pre
  have hts : ∀ w ∈ lw_all, w.before _ s = true := fun w h => hts w (List.mem_cons_of_mem _ h)
  have hown : s.vm.findClass RJ9 = some m.cls := findClass_of_methodNamed B.named
  have hlocks := B.notSynchronized
  have hl := lv_entry ([.ref a]) (n := 1) (Nat.le_of_ble_eq_true rfl)
  rw [lg_entry_eq]
  generalize (lg_sl ([.ref a]) ++ List.replicate (1 - (lg_sl ([.ref a])).length) Slot.unset).toArray = ls at hl ⊢
  have hl : lv_has ls 1 [(0, .ref a)] := hl
  subst hv
  refine lv_aload_n hx hb dJ9_get_0 rfl (lv_at hl 0 rfl) ?_
  refine xa_get (T := TJ9) (N := 1) (v := .ref z) hx hb hts in_J9 hown hK.1 hR rfl 0 (by decide) q1367 rfl rfl dJ9_get_1 ?_
  refine lv_ifnonnull (tgt := 17) hx hb dJ9_get_4 (by decide) ?_
  refine lv_aload_n hx hb dJ9_get_17 rfl (lv_at hl 0 rfl) ?_
  refine xa_get (T := TJ9) (N := 1) (v := .ref z) hx hb hts in_J9 hown hK.1 hR rfl 0 (by decide) q1367 rfl rfl dJ9_get_18 ?_
  exact W.aret hx hb hr (Or.inl ⟨_, rfl⟩) (Or.inr ⟨_, rfl⟩) (fun t ht _ => ⟨rfl, ht⟩) (fun q h => by cases h) dJ9_get_21
theorem hds_J9_empty : yJ9_empty.cls ≠ "java/lang/invoke/MethodHandle" ∧ yJ9_empty.cls ≠ "java/lang/invoke/VarHandle" ∧ (parseMethodDescriptor yJ9_empty.desc).map (fun d => d.parameters.length) = some 0 := by decide +kernel
abbrev rm_J9_empty : Room := {}
set_option maxHeartbeats 4000000 in
theorem m_J9_empty {l : Launch} {κ : Kx} {w : Wd} {y : Ly} {X : XR}  : Met l yJ9_empty (ws_ yJ9_empty cJ9_empty 1 (Option.some (Jvm.ClassFile.FieldType.object "java/util/Optional"))) rm_J9_empty (va_Pc [] (RC κ w y X)) (Qs (.ref (kA κ 0))) 0 0 (nofree) := by
  refine Met.ofW (cc := cJ9_empty) (maxL := 1) (ret := (Option.some (Jvm.ClassFile.FieldType.object "java/util/Optional"))) (by decide) rfl ?_
  intro p e s m args below meth c s₁ B hml hv
  obtain ⟨rfl, hR, hK⟩ := hv
  have hx := B.exec
  have hb := B.bytes
  have hr := B.returns
  have hts := atoms_spec (ws := ws_ yJ9_empty cJ9_empty 1 (Option.some (Jvm.ClassFile.FieldType.object "java/util/Optional"))) B.pre
  have hts : ∀ w ∈ lw_all, w.before _ s = true := fun w h => hts w (List.mem_cons_of_mem _ h)
  have hown : s.vm.findClass RJ9 = some m.cls := findClass_of_methodNamed B.named
  have hlocks := B.notSynchronized
  have hS : va_S (Af κ) s.heap s.heap [] := va_S.rf
  have hl := lv_entry ([]) (n := 1) (Nat.le_of_ble_eq_true rfl)
  rw [lg_entry_eq]
  generalize (lg_sl ([]) ++ List.replicate (1 - (lg_sl ([])).length) Slot.unset).toArray = ls at hl ⊢
  have hl : lv_has ls 1 [] := hl
  refine jr_gets (C := "java/util/Optional") (n := "EMPTY") (d := "Ljava/util/Optional;") (j := 0) hx hb hown hK hR hS (List.mem_of_getElem? (i := 0) rfl) q843 hts dJ9_empty_0 ?_
  refine lv_astore_n (lv' := [(0, .ref (kA κ 0))]) hx hb dJ9_empty_3 rfl hl (by decide) rfl (fun ls hl => ?_)
  refine lv_aload_n hx hb dJ9_empty_4 rfl (lv_at hl 0 rfl) ?_
  exact W.aret hx hb hr (Or.inl ⟨_, rfl⟩) (Or.inr ⟨_, rfl⟩) (fun t ht _ => ⟨rfl, ht⟩) (fun q h => by cases h) dJ9_empty_5
theorem hds_J13_requireNonNull : yJ13_requireNonNull.cls ≠ "java/lang/invoke/MethodHandle" ∧ yJ13_requireNonNull.cls ≠ "java/lang/invoke/VarHandle" ∧ (parseMethodDescriptor yJ13_requireNonNull.desc).map (fun d => d.parameters.length) = some 1 := by decide +kernel
abbrev rm_J13_requireNonNull : Room := {}
set_option maxHeartbeats 4000000 in
theorem m_J13_requireNonNull {l : Launch} {κ : Kx} {w : Wd} {y : Ly} {X : XR} {a : Nat} : Met l yJ13_requireNonNull (ws_ yJ13_requireNonNull cJ13_requireNonNull 1 (Option.some (Jvm.ClassFile.FieldType.object "java/lang/Object"))) rm_J13_requireNonNull (va_Pc [.ref a] (RC κ w y X)) (Qs (.ref a)) 0 0 (nofree) := by
  refine Met.ofW (cc := cJ13_requireNonNull) (maxL := 1) (ret := (Option.some (Jvm.ClassFile.FieldType.object "java/lang/Object"))) (by decide) rfl ?_
  intro p e s m args below meth c s₁ B hml hv
  obtain ⟨rfl, hR, hK⟩ := hv
  have hx := B.exec
  have hb := B.bytes
  have hr := B.returns
  have hts := atoms_spec (ws := ws_ yJ13_requireNonNull cJ13_requireNonNull 1 (Option.some (Jvm.ClassFile.FieldType.object "java/lang/Object"))) B.pre
  have hts : ∀ w ∈ lw_all, w.before _ s = true := fun w h => hts w (List.mem_cons_of_mem _ h)
  have hown : s.vm.findClass RJ13 = some m.cls := findClass_of_methodNamed B.named
  have hlocks := B.notSynchronized
  have hS : va_S (Af κ) s.heap s.heap [] := va_S.rf
  have hl := lv_entry ([.ref a]) (n := 1) (Nat.le_of_ble_eq_true rfl)
  rw [lg_entry_eq]
  generalize (lg_sl ([.ref a]) ++ List.replicate (1 - (lg_sl ([.ref a])).length) Slot.unset).toArray = ls at hl ⊢
  have hl : lv_has ls 1 [(0, .ref a)] := hl
  refine lv_aload_n hx hb dJ13_requireNonNull_0 rfl (lv_at hl 0 rfl) ?_
  refine lv_ifnonnull (tgt := 12) hx hb dJ13_requireNonNull_1 (by decide) ?_
  refine lv_aload_n hx hb dJ13_requireNonNull_12 rfl (lv_at hl 0 rfl) ?_
  exact W.aret hx hb hr (Or.inl ⟨_, rfl⟩) (Or.inr ⟨_, rfl⟩) (fun t ht _ => ⟨rfl, ht⟩) (fun q h => by cases h) dJ13_requireNonNull_13
theorem hd_J9_init : yJ9_init.cls = RJ9 ∧ yJ9_init.cls ≠ "java/lang/invoke/MethodHandle" ∧ yJ9_init.cls ≠ "java/lang/invoke/VarHandle" ∧ (parseMethodDescriptor yJ9_init.desc).map (fun d => d.parameters.length) = some 1 := by decide +kernel
abbrev rm_J9_init : Room := { frames := 1, locals := 24 }
set_option maxHeartbeats 4000000 in
theorem m_J9_init {l : Launch} {κ : Kx} {w : Wd} {y : Ly} {X : XR} {q a : Nat} (hX : X q (.inr (18, [.null]))) : Met l yJ9_init (ws_ yJ9_init cJ9_init 2 (Option.none : Option Jvm.ClassFile.FieldType)) rm_J9_init (va_Pc [.ref q, .ref a] (RC κ w y X)) (va_Qv (fun _ : Unit => True) (fun _ t => Rp κ w y (upX X q (.inr (18, [.ref a]))) [] t.heap) (Af κ)) 0 0 (Af κ) := by
  refine Met.ofW (cc := cJ9_init) (maxL := 2) (ret := (Option.none : Option Jvm.ClassFile.FieldType)) (by decide) rfl ?_
  intro p e s m args below meth c s₁ B hml hv
  obtain ⟨rfl, hR, hK⟩ := hv
  have hx := B.exec
  have hb := B.bytes
  have hr := B.returns
  have hts := atoms_spec (ws := ws_ yJ9_init cJ9_init 2 (Option.none : Option Jvm.ClassFile.FieldType)) B.pre
  have hts : ∀ w ∈ lw_all, w.before _ s = true := fun w h => hts w (List.mem_cons_of_mem _ h)
  have hown : s.vm.findClass RJ9 = some m.cls := findClass_of_methodNamed B.named
  have hlocks := B.notSynchronized
  have hS : va_S (Af κ) s.heap s.heap [] := va_S.rf
  have hl := lv_entry ([.ref q, .ref a]) (n := 2) (Nat.le_of_ble_eq_true rfl)
  rw [lg_entry_eq]
  generalize (lg_sl ([.ref q, .ref a]) ++ List.replicate (2 - (lg_sl ([.ref q, .ref a])).length) Slot.unset).toArray = ls at hl ⊢
  have hl : lv_has ls 2 [(0, .ref q), (1, .ref a)] := hl
  have hin : meth.name = "<init>" := (name_of_methodNamed B.named B.method).1
  refine lv_aload_n hx hb dJ9_init_0 rfl (lv_at hl 0 rfl) ?_
  refine W.objInit hx hb hown (hts _ q1366) (hts _ q127) (hts _ q128) rfl (by rw [hml]; exact hl.1) rfl dJ9_init_1 (Nat.le_of_ble_eq_true rfl) (Nat.le_of_ble_eq_true rfl) ?_
  refine W.eq (g2 := F0 m 4 ls []) rfl ?_
  refine lv_aload_n hx hb dJ9_init_4 rfl (lv_at hl 0 rfl) ?_
  refine lv_aload_n hx hb dJ9_init_5 rfl (lv_at hl 1 rfl) ?_
  refine xa_putF (T := TJ9) (N := 1) hx hb hts in_J9 tyJ9 tyJ9_ok nmJ9 hown hK.1 hS (hR.2.2.2.1 _ _ hX).2.1 (hR.X hX) rfl 0 (by decide) q1367 rfl rfl hin rfl rfl rfl (Nat.le_of_ble_eq_true rfl) dJ9_init_6 (fun H1 locs h1 hz ho hS => ?_)
  have hR := hR.putX hX h1 hz ho
  clear h1 hz ho
  generalize H1 = H at hR hS ⊢
  exact W.vret hx hb hr (fun t ht hW9 => ⟨⟨(), rfl, trivial, rpt ht hR⟩, hS.F ht⟩) hS.2.2 dJ9_init_9
theorem hds_J9_of : yJ9_of.cls ≠ "java/lang/invoke/MethodHandle" ∧ yJ9_of.cls ≠ "java/lang/invoke/VarHandle" ∧ (parseMethodDescriptor yJ9_of.desc).map (fun d => d.parameters.length) = some 1 := by decide +kernel
abbrev rm_J9_of : Room := { frames := 2, cells := 1, slots := 1, locals := 48 }
set_option maxHeartbeats 4000000 in
theorem m_J9_of {l : Launch} {κ : Kx} {w : Wd} {y : Ly} {X : XR} {a : Nat} : Met l yJ9_of (ws_ yJ9_of cJ9_of 1 (Option.some (Jvm.ClassFile.FieldType.object "java/util/Optional"))) rm_J9_of (va_Pc [.ref a] (RC κ w y X)) (va_Qr (fun _ : Unit => True) (fun _ q t => Rp κ w y X [(q, .inr (18, [.ref a]))] t.heap) (Af κ)) 1 1 (Af κ) := by
  refine Met.ofW (cc := cJ9_of) (maxL := 1) (ret := (Option.some (Jvm.ClassFile.FieldType.object "java/util/Optional"))) (by decide) rfl ?_
  intro p e s m args below meth c s₁ B hml hv
  obtain ⟨rfl, hR, hK⟩ := hv
  have hx := B.exec
  have hb := B.bytes
  have hr := B.returns
  have hts := atoms_spec (ws := ws_ yJ9_of cJ9_of 1 (Option.some (Jvm.ClassFile.FieldType.object "java/util/Optional"))) B.pre
  have hts : ∀ w ∈ lw_all, w.before _ s = true := fun w h => hts w (List.mem_cons_of_mem _ h)
  have hown : s.vm.findClass RJ9 = some m.cls := findClass_of_methodNamed B.named
  have hlocks := B.notSynchronized
  have hS : va_S (Af κ) s.heap s.heap [] := va_S.rf
  have hl := lv_entry ([.ref a]) (n := 1) (Nat.le_of_ble_eq_true rfl)
  rw [lg_entry_eq]
  generalize (lg_sl ([.ref a]) ++ List.replicate (1 - (lg_sl ([.ref a])).length) Slot.unset).toArray = ls at hl ⊢
  have hl : lv_has ls 1 [(0, .ref a)] := hl
  refine xa_new (C := RJ9) (T := TJ9) (N := 1) (ci := 18) (fs := [.null]) hx hb hts in_J9 tyJ9 tyJ9_ok hown q1358 q1359 q93 hK.1 hS rfl (fun j hj => by rcases (show j = 0 by omega) with rfl; rfl) (Nat.le_of_ble_eq_true rfl) (Nat.le_of_ble_eq_true rfl) dJ9_of_0 (fun q H1 hq h1 hz ho hS => ?_)
  have hR := hR.newL hq h1 (by omega) ho
  clear hq h1 hz ho
  generalize H1 = H at hR hS ⊢
  refine lv_dup hx hb dJ9_of_3 rfl ?_
  refine lv_aload_n hx hb dJ9_of_4 rfl (lv_at hl 0 rfl) ?_
  refine ce_s (cr_S (n := 1) (As := [.ref a]) (rest := [.ref q, .ref q]) ⟨hx, hb, hml, hown, hts⟩ hK hR (m_J13_requireNonNull) q1360 q1361 q100 q1362 rfl rfl hds_J13_requireNonNull ⟨Nat.le_of_ble_eq_true rfl, Nat.le_of_ble_eq_true rfl⟩ rfl rfl hl.1 rfl (lv_room (Nat.le_of_ble_eq_true rfl)) dJ9_of_5 ⟨Nat.le_of_ble_eq_true rfl, Nat.le_of_ble_eq_true rfl⟩) ?_
  refine va_callv (va_runI (As := [.ref a]) (rest := [.ref q]) ⟨hx, hb, hml, hown, hts⟩ (m_J9_init (X := xl X [(q, .inr (18, [.null]))]) (Or.inr ⟨0, rfl⟩)) (cwI 1 hts (lw_meth q1365) rfl rfl rfl (hts _ q93) (hts _ q1363) (hts _ q1364) rfl (by decide +kernel) ⟨Nat.le_of_ble_eq_true rfl, Nat.le_of_ble_eq_true rfl⟩) ⟨RC.blind, RC.pre hR hK⟩ rfl rfl hl.1 rfl (lv_room (Nat.le_of_ble_eq_true rfl)) dJ9_of_8 ⟨Nat.le_of_ble_eq_true rfl, Nat.le_of_ble_eq_true rfl⟩) hS (fun _ _ h => h) (fun _ h => h) (fun u t H1 locs1 ht _ hp hB hz _ hS => ?_)
  rw [ht] at hB
  have hR := hR.wroteL (t := 0) rfl hB
  exact W.aret hx hb hr (Or.inl ⟨_, rfl⟩) (Or.inr ⟨_, rfl⟩) (fun t ht _ => ⟨⟨(), q, rfl, trivial, rpt ht hR⟩, hS.F ht⟩) hS.2.2 dJ9_of_11
theorem hd_J3_ordinal : yJ3_ordinal.cls = RJ3 ∧ yJ3_ordinal.cls ≠ "java/lang/invoke/MethodHandle" ∧ yJ3_ordinal.cls ≠ "java/lang/invoke/VarHandle" ∧ (parseMethodDescriptor yJ3_ordinal.desc).map (fun d => d.parameters.length) = some 0 := by decide +kernel
abbrev rm_J3_ordinal : Room := {}
set_option maxHeartbeats 4000000 in
theorem m_J3_ordinal {l : Launch} {κ : Kx} {w : Wd} {y : Ly} {X : XR} {a j : Nat} (ho : ∀ s : State, KK κ s → va_OF "java/lang/Enum" "ordinal" "I" (.int (nI j)) a (Af κ) s (kH κ)) : Met l yJ3_ordinal (ws_ yJ3_ordinal cJ3_ordinal 1 (Option.some Jvm.ClassFile.FieldType.int)) rm_J3_ordinal (va_Pc [.ref a] (RC κ w y X)) (Qs (.int (nI j))) 0 0 (nofree) := by
  refine Met.ofW (cc := cJ3_ordinal) (maxL := 1) (ret := (Option.some Jvm.ClassFile.FieldType.int)) (by decide) rfl ?_
  intro p e s m args below meth c s₁ B hml hv
  obtain ⟨rfl, hR, hK⟩ := hv
  have hx := B.exec
  have hb := B.bytes
  have hr := B.returns
  have hts := atoms_spec (ws := ws_ yJ3_ordinal cJ3_ordinal 1 (Option.some Jvm.ClassFile.FieldType.int)) B.pre
  have hts : ∀ w ∈ lw_all, w.before _ s = true := fun w h => hts w (List.mem_cons_of_mem _ h)
  have hown : s.vm.findClass RJ3 = some m.cls := findClass_of_methodNamed B.named
  have hlocks := B.notSynchronized
  have hS : va_S (Af κ) s.heap s.heap [] := va_S.rf
  have hl := lv_entry ([.ref a]) (n := 1) (Nat.le_of_ble_eq_true rfl)
  rw [lg_entry_eq]
  generalize (lg_sl ([.ref a]) ++ List.replicate (1 - (lg_sl ([.ref a])).length) Slot.unset).toArray = ls at hl ⊢
  have hl : lv_has ls 1 [(0, .ref a)] := hl
  refine lv_aload_n hx hb dJ3_ordinal_0 rfl (lv_at hl 0 rfl) ?_
  obtain ⟨cf, k, fi, f, cell, h1, h2, h3, h4, h5, h6⟩ := ho s hK
  refine W.getf hx hb hown (hts _ q2701) h1 h2 (by rw [hR.1.2 a (Nat.not_le.mp h6)]; exact h3) h4 (v := .int (nI j)) h5 rfl rfl dJ3_ordinal_1 ?_
  exact W.iret (v := nI j) hx hb hr (fun t ht _ => ⟨rfl, ht⟩) (fun q h => by cases h) dJ3_ordinal_4
section R3
variable {p : Program} {l : Launch} {e : Env} {R : Room} {s : State} {m : MethodId} {args : Array Value} {below : List Frame} {meth : Method} {c : Code} {H : Heap} {locs : List Loc} {cells slots : Nat} {Q : State → Prop}
variable {cc : ByteArray} {pc nL mc ms n index maxL : Nat} {ls : Array Slot} {rest As st0 : List Value} {κ : Kx} {w : Wd} {y : Ly} {X : XR} {L : va_W} {own C : String} {Y Z : MethodName} {bytes : ByteArray} {ret : Option FieldType} {rm : Room} {Qc : Array Value → State → Outcome → State → Prop} {b : Addr} {g : JFrame} {free : Addr → Prop}
theorem rv_du (hK : KK κ s) (hR : Rp κ w y X L H) {d : Nat} (hd : d < 3) : ∃ cell : Cell, H[kA κ (20 + d)]? = some cell ∧ cell.vm.isStatics = false ∧ s.vm.findClass (dutyC d) = some cell.cls := by
  obtain ⟨⟨cell, h1, h2, h3, h4⟩, -⟩ := hK.2.1.2.2.2.2.2.2.2.2.2.1 d hd
  exact ⟨cell, by rw [hR.1.2 _ (Nat.not_le.mp h4)]; exact h1, h2, h3⟩
theorem rv_st (hK : KK κ s) (hR : Rp κ w y X L H) {j : Nat} (hj : j < 4) : ∃ cell : Cell, H[kA κ (10 + j)]? = some cell ∧ cell.vm.isStatics = false ∧ s.vm.findClass "Publicanry$Stand" = some cell.cls := by
  obtain ⟨⟨cell, h1, h2, h3, h4⟩, -⟩ := hK.2.1.2.2.2.2.2.2.2.2.1 j hj
  exact ⟨cell, by rw [hR.1.2 _ (Nat.not_le.mp h4)]; exact h1, h2, h3⟩
theorem du_3 {P : Nat → Prop} (h0 : P 0) (h1 : P 1) (h2 : P 2) {d : Nat} (hd : d < 3) : P d := by
  rcases (show d = 0 ∨ d = 1 ∨ d = 2 by omega) with rfl | rfl | rfl
  · exact h0
  · exact h1
  · exact h2
theorem cr_oD (S : CallFix p m c cc nL s args lw_all own) (hK : KK κ s) (hR : Rp κ w y X L H) {d : Nat} (hd : d < 3) (q1 : Cond.methodLink own index ⟨"Publicanry$Duty", "ordinal", "()I"⟩ ∈ lw_all) (hRm : 1 ≤ R.frames ∧ 20 ≤ R.locals)
    (hg : g.method = m) (hsize : g.locals.size = nL) (hstack : g.stack = .ref (kA κ (20 + d)) :: rest) (hW : 2 * g.monitorRoom + (rest.map fun v => v.category).sum ≤ 8) (hdg : decode cc g.pc = .ok (.invokevirtual index, 3)) (hf : cells + 0 ≤ R.cells ∧ slots + 0 ≤ R.slots) :
    va_Run p l e R s m args below meth c H locs cells slots 0 0 g rest (Qs (.int (nI d)) #[Value.ref (kA κ (20 + d))]) nofree := by
  have hM := m_J3_ordinal (l := l) (κ := κ) (w := w) (y := y) (X := xl X L) (a := kA κ (20 + d)) (j := d) (fun s hK => (hK.2.1.2.2.2.2.2.2.2.2.2.1 d hd).2.1)
  revert hM hstack
  refine du_3 (P := fun d => g.stack = .ref (kA κ (20 + d)) :: rest → Met l yJ3_ordinal _ _ (va_Pc [.ref (kA κ (20 + d))] (RC κ w y (xl X L))) (Qs (.int (nI d))) 0 0 nofree → va_Run p l e R s m args below meth c H locs cells slots 0 0 g rest (Qs (.int (nI d)) #[Value.ref (kA κ (20 + d))]) nofree) ?_ ?_ ?_ hd
  · intro hstack hM
    exact cr_U (n := 0) (C := "Publicanry$Duty$1") (owner := "java/lang/Enum") (As := []) S hK hR hM q1 q596 q598 q601 q83 q602 rfl rfl rfl (by decide +kernel) hRm (rv_du hK hR (d := 0) (by decide)) hg rfl hsize hstack hW hdg hf
  · intro hstack hM
    exact cr_U (n := 0) (C := "Publicanry$Duty$2") (owner := "java/lang/Enum") (As := []) S hK hR hM q1 q596 q599 q601 q83 q602 rfl rfl rfl (by decide +kernel) hRm (rv_du hK hR (d := 1) (by decide)) hg rfl hsize hstack hW hdg hf
  · intro hstack hM
    exact cr_U (n := 0) (C := "Publicanry$Duty$3") (owner := "java/lang/Enum") (As := []) S hK hR hM q1 q596 q600 q601 q83 q602 rfl rfl rfl (by decide +kernel) hRm (rv_du hK hR (d := 2) (by decide)) hg rfl hsize hstack hW hdg hf
theorem cr_oS (S : CallFix p m c cc nL s args lw_all own) (hK : KK κ s) (hR : Rp κ w y X L H) {j : Nat} (hj : j < 4) (q1 : Cond.methodLink own index ⟨"Publicanry$Stand", "ordinal", "()I"⟩ ∈ lw_all) (hRm : 1 ≤ R.frames ∧ 20 ≤ R.locals)
    (hg : g.method = m) (hsize : g.locals.size = nL) (hstack : g.stack = .ref (kA κ (10 + j)) :: rest) (hW : 2 * g.monitorRoom + (rest.map fun v => v.category).sum ≤ 8) (hdg : decode cc g.pc = .ok (.invokevirtual index, 3)) (hf : cells + 0 ≤ R.cells ∧ slots + 0 ≤ R.slots) :
    va_Run p l e R s m args below meth c H locs cells slots 0 0 g rest (Qs (.int (nI j)) #[Value.ref (kA κ (10 + j))]) nofree :=
  cr_U (n := 0) (C := "Publicanry$Stand") (owner := "java/lang/Enum") (As := []) S hK hR (m_J3_ordinal (l := l) (κ := κ) (w := w) (y := y) (X := xl X L) (a := kA κ (10 + j)) (j := j) (fun s hK => (hK.2.1.2.2.2.2.2.2.2.2.1 j hj).2)) q1 q745 q746 q601 q83 q602 rfl rfl rfl (by decide +kernel) hRm (rv_st hK hR hj) hg rfl hsize hstack hW hdg hf
theorem jr_size (S : CallFix p m c cc nL s args lw_all own) (hK : KK κ s) (hR : Rp κ w y X L H) {k i : Nat} (hk : IsLs k) (hl : live y k i)  (q1 : Cond.methodLink own index yJ2_size ∈ lw_all) (hRm : rm_J2_size.frames + 1 ≤ R.frames ∧ 8 + (1 + 11) + rm_J2_size.locals ≤ R.locals) (hsize : ls.size = nL) (hW : (rest.map fun v => v.category).sum ≤ 8) (hdg : decode cc pc = .ok (.invokevirtual index, 3)) (hf : cells + 0 ≤ R.cells ∧ slots + 0 ≤ R.slots) (kk : W p l e R s m args below meth c H locs cells slots Q (F0 m (pc + 3) ls (.int (nI (y.1 (k + 100) i)) :: rest))) : W p l e R s m args below meth c H locs cells slots Q (F0 m pc ls (.ref (y.2 k i) :: rest)) := by
  exact ce_s (cr_V (n := 0) (As := []) (rest := rest) S hK hR (m_J2_size hk hl) q1 q537 q538 q77 q539 rfl rfl hd_J2_size hRm (rv_ls hK hR hk hl) rfl rfl hsize rfl (lv_room hW) hdg hf) kk
theorem jr_isEmpty (S : CallFix p m c cc nL s args lw_all own) (hK : KK κ s) (hR : Rp κ w y X L H) {k i : Nat} (hk : IsLs k) (hl : live y k i) (hn : y.1 (k + 100) i ≤ 10) (q1 : Cond.methodLink own index yJ2_isEmpty ∈ lw_all) (hRm : rm_J2_isEmpty.frames + 1 ≤ R.frames ∧ 8 + (1 + 11) + rm_J2_isEmpty.locals ≤ R.locals) (hsize : ls.size = nL) (hW : (rest.map fun v => v.category).sum ≤ 8) (hdg : decode cc pc = .ok (.invokevirtual index, 3)) (hf : cells + 0 ≤ R.cells ∧ slots + 0 ≤ R.slots) (kk : W p l e R s m args below meth c H locs cells slots Q (F0 m (pc + 3) ls (.int (bi (y.1 (k + 100) i = 0)) :: rest))) : W p l e R s m args below meth c H locs cells slots Q (F0 m pc ls (.ref (y.2 k i) :: rest)) := by
  exact ce_s (cr_V (n := 0) (As := []) (rest := rest) S hK hR (m_J2_isEmpty hk hl hn) q1 q1205 q1206 q77 q1207 rfl rfl hd_J2_isEmpty hRm (rv_ls hK hR hk hl) rfl rfl hsize rfl (lv_room hW) hdg hf) kk
theorem jr_get (S : CallFix p m c cc nL s args lw_all own) (hK : KK κ s) (hR : Rp κ w y X L H) {k i : Nat} (hk : IsLs k) (hl : live y k i) (hA : LsA y k i) {j : Int32} (hj : vp_in j (y.1 (k + 100) i)) {a : Nat} (ha : y.2 (k + 300) (16 * i + j.toNatClampNeg) = a) (q1 : Cond.methodLink own index yJ2_get ∈ lw_all) (hRm : rm_J2_get.frames + 1 ≤ R.frames ∧ 8 + (2 + 11) + rm_J2_get.locals ≤ R.locals) (hsize : ls.size = nL) (hW : (rest.map fun v => v.category).sum ≤ 8) (hdg : decode cc pc = .ok (.invokevirtual index, 3)) (hf : cells + 0 ≤ R.cells ∧ slots + 0 ≤ R.slots) (kk : W p l e R s m args below meth c H locs cells slots Q (F0 m (pc + 3) ls (.ref a :: rest))) : W p l e R s m args below meth c H locs cells slots Q (F0 m pc ls (.int j :: .ref (y.2 k i) :: rest)) := by
  subst ha
  exact ce_s (cr_V (n := 1) (As := [.int j]) (rest := rest) S hK hR (m_J2_get hk hl hA hj) q1 q686 q687 q77 q688 rfl rfl hd_J2_get hRm (rv_ls hK hR hk hl) rfl rfl hsize rfl (lv_room hW) hdg hf) kk
theorem jr_iter (S : CallFix p m c cc nL s args lw_all own) (hK : KK κ s) (hR : Rp κ w y X L H) (hS : va_S (Af κ) s.heap H locs) {k i : Nat} (hk : IsLs k) (hl : live y k i) (q1 : Cond.methodLink own index yJ2_iterator ∈ lw_all) (hRm : rm_J2_iterator.frames + 1 ≤ R.frames ∧ 8 + (1 + 11) + rm_J2_iterator.locals ≤ R.locals) (hsize : ls.size = nL) (hW : (rest.map fun v => v.category).sum ≤ 8) (hdg : decode cc pc = .ok (.invokevirtual index, 3)) (hf : cells + 1 ≤ R.cells ∧ slots + 4 ≤ R.slots) (kk : ∀ (q : Nat) (H1 : Heap) (locs1 : List Loc), Rp κ w y X (L ++ [(q, itC y k i 0 (-1))]) H1 → va_S (Af κ) s.heap H1 locs1 → W p l e R s m args below meth c H1 locs1 (cells + 1) (slots + 4) Q (F0 m (pc + 3) ls (.ref q :: rest))) : W p l e R s m args below meth c H locs cells slots Q (F0 m pc ls (.ref (y.2 k i) :: rest)) :=
  va_callr (cr_V (n := 0) (As := []) (rest := rest) S hK hR (m_J2_iterator hk hl) q1 q326 q327 q77 q328 rfl rfl hd_J2_iterator hRm (rv_ls hK hR hk hl) rfl rfl hsize rfl (lv_room hW) hdg hf) hS (fun _ _ h => h) (fun _ h => h) (fun u q t H1 locs1 ht _ _ hB _ _ hS => kk q H1 locs1 (hR.up2 (ht ▸ hB)) hS)
theorem lw_F {own : String} {idx : Nat} {C : String} {x y : MethodName} {b : ByteArray} {L : Nat} {r : Option FieldType} (h1 : Cond.methodLink own idx x ∈ lw_all) (h2 : Cond.selects C x y ∈ lw_all) (h3 : Cond.instanceMethod y ∈ lw_all) (h4 : Cond.initialized y.cls ∈ lw_all) (h5 : Cond.code y b L r ∈ lw_all) : GoodIn lw_all (va_wsF own idx C x y (ws_ y b L r)) := by
  refine lw_app ?_ (lw_meth h5)
  intro w hw
  simp only [List.mem_cons, List.not_mem_nil, or_false] at hw
  rcases hw with e | e | e | e
  · rw [e]; exact h1
  · rw [e]; exact h2
  · rw [e]; exact h3
  · rw [e]; exact h4
theorem jr_hasNext (S : CallFix p m c cc nL s args lw_all own) (hK : KK κ s) (hR : Rp κ w y X L H) {k i t cu q : Nat} {z : Int32} (ht : L[t]? = some (q, itC y k i cu z)) (hk : IsLs k) (hl : live y k i) (hc : cu ≤ y.1 (k + 100) i) (hn : y.1 (k + 100) i ≤ 10) (q1 : Cond.methodLink own index xI_hasNext ∈ lw_all) (hRm : rm_J18_hasNext.frames + 1 ≤ R.frames ∧ 8 + (1 + 11) + rm_J18_hasNext.locals ≤ R.locals) (hsize : ls.size = nL) (hW : (rest.map fun v => v.category).sum ≤ 8) (hdg : decode cc pc = .ok (.invokeinterface index 1, 5)) (hf : cells + 0 ≤ R.cells ∧ slots + 0 ≤ R.slots) (kk : W p l e R s m args below meth c H locs cells slots Q (F0 m (pc + 5) ls (.int (bi (¬ cu = y.1 (k + 100) i)) :: rest))) : W p l e R s m args below meth c H locs cells slots Q (F0 m pc ls (.ref q :: rest)) :=
  ce_s5 (va_runF (C := RJ18) (As := []) (rest := rest) (hK.1.1 17 _ rfl).2 S (m_J18_hasNext (X := xl X L) hk hl (Or.inr ⟨t, ht⟩) hc hn) (va_cwF 0 S.2.2.2.2 (lw_F q1 q353 q355 q105 q357) rfl rfl rfl hK.2.1.2.2.2.2.1.1 (by decide +kernel) hRm) ⟨RC.blind, rv_at hK (hR.L t _ ht) rfl, RC.pre hR hK⟩ rfl rfl hsize rfl (lv_room hW) hdg hf) kk
theorem jr_next (S : CallFix p m c cc nL s args lw_all own) (hK : KK κ s) (hR : Rp κ w y X L H) (hS : va_S (Af κ) s.heap H locs) {k i t cu q a : Nat} {z : Int32} (ht : L[t]? = some (q, itC y k i cu z)) (hk : IsLs k) (hl : live y k i) (hA : LsA y k i) (hc : cu < y.1 (k + 100) i) (ha : y.2 (k + 300) (16 * i + cu) = a) (q1 : Cond.methodLink own index xI_next ∈ lw_all) (hRm : rm_J18_next.frames + 1 ≤ R.frames ∧ 8 + (3 + 11) + rm_J18_next.locals ≤ R.locals) (hsize : ls.size = nL) (hW : (rest.map fun v => v.category).sum ≤ 8) (hdg : decode cc pc = .ok (.invokeinterface index 1, 5)) (hf : cells + 0 ≤ R.cells ∧ slots + 0 ≤ R.slots) (kk : ∀ (H1 : Heap) (locs1 : List Loc), Rp κ w y X (L.set t (q, itC y k i (cu + 1) (nI cu))) H1 → va_S (Af κ) s.heap H1 locs1 → W p l e R s m args below meth c H1 locs1 cells slots Q (F0 m (pc + 5) ls (.ref a :: rest))) : W p l e R s m args below meth c H locs cells slots Q (F0 m pc ls (.ref q :: rest)) := by
  subst ha
  refine va_callFr (va_runF (C := RJ18) (As := []) (rest := rest) (hK.1.1 17 _ rfl).2 S (m_J18_next (X := xl X L) hk hl hA (Or.inr ⟨t, ht⟩) hc) (va_cwF 0 S.2.2.2.2 (lw_F q1 q362 q364 q105 q366) rfl rfl rfl hK.2.1.2.2.2.2.1.2 (by decide +kernel) hRm) ⟨RC.blind, rv_at hK (hR.L t _ ht) rfl, RC.pre hR hK⟩ rfl rfl hsize rfl (lv_room hW) hdg hf) hS (fun _ _ h => h) (fun _ h => h) (fun u q9 t9 H1 locs1 ht9 _ _ hB _ _ hS => ?_)
  obtain ⟨e9, hB⟩ := hB
  rw [ht9] at hB
  subst e9
  exact kk H1 locs1 (hR.wroteL ht hB) hS
theorem jr_oisPresent (S : CallFix p m c cc nL s args lw_all own) (hK : KK κ s) {a : Nat} {v : Option Nat} (ho : OptAt κ H a v)  (q1 : Cond.methodLink own index yJ9_isPresent ∈ lw_all) (hRm : rm_J9_isPresent.frames + 1 ≤ R.frames ∧ 8 + (1 + 11) + rm_J9_isPresent.locals ≤ R.locals) (hsize : ls.size = nL) (hW : (rest.map fun v => v.category).sum ≤ 8) (hdg : decode cc pc = .ok (.invokevirtual index, 3)) (hf : cells + 0 ≤ R.cells ∧ slots + 0 ≤ R.slots) (kk : W p l e R s m args below meth c H locs cells slots Q (F0 m (pc + 3) ls (.int (bi (v ≠ none)) :: rest))) : W p l e R s m args below meth c H locs cells slots Q (F0 m pc ls (.ref a :: rest)) :=
  ce_s (va_runV (As := []) (rest := rest) S (m_J9_isPresent) (cwV 0 S.2.2.2.2 (lw_V q1 q704 q705 q93 q706) rfl rfl rfl hd_J9_isPresent hRm) ⟨fun a U g mk q => ⟨q.1, q.2.1, KK.same (u := U) (U := U.calling g mk a) rfl q.2.2⟩, rv_at hK ho rfl, fun U hU hW => ⟨rfl, by rw [hU]; exact ho, hK.warm hW⟩⟩ rfl rfl hsize rfl (lv_room hW) hdg hf) kk
theorem jr_oisEmpty (S : CallFix p m c cc nL s args lw_all own) (hK : KK κ s) {a : Nat} {v : Option Nat} (ho : OptAt κ H a v)  (q1 : Cond.methodLink own index yJ9_isEmpty ∈ lw_all) (hRm : rm_J9_isEmpty.frames + 1 ≤ R.frames ∧ 8 + (1 + 11) + rm_J9_isEmpty.locals ≤ R.locals) (hsize : ls.size = nL) (hW : (rest.map fun v => v.category).sum ≤ 8) (hdg : decode cc pc = .ok (.invokevirtual index, 3)) (hf : cells + 0 ≤ R.cells ∧ slots + 0 ≤ R.slots) (kk : W p l e R s m args below meth c H locs cells slots Q (F0 m (pc + 3) ls (.int (bi (v = none)) :: rest))) : W p l e R s m args below meth c H locs cells slots Q (F0 m pc ls (.ref a :: rest)) :=
  ce_s (va_runV (As := []) (rest := rest) S (m_J9_isEmpty) (cwV 0 S.2.2.2.2 (lw_V q1 q1372 q1373 q93 q1374) rfl rfl rfl hd_J9_isEmpty hRm) ⟨fun a U g mk q => ⟨q.1, q.2.1, KK.same (u := U) (U := U.calling g mk a) rfl q.2.2⟩, rv_at hK ho rfl, fun U hU hW => ⟨rfl, by rw [hU]; exact ho, hK.warm hW⟩⟩ rfl rfl hsize rfl (lv_room hW) hdg hf) kk
theorem jr_oget (S : CallFix p m c cc nL s args lw_all own) (hK : KK κ s) {a : Nat} {v : Option Nat} (ho : OptAt κ H a v) {z : Nat} (hv : v = some z) (q1 : Cond.methodLink own index yJ9_get ∈ lw_all) (hRm : rm_J9_get.frames + 1 ≤ R.frames ∧ 8 + (1 + 11) + rm_J9_get.locals ≤ R.locals) (hsize : ls.size = nL) (hW : (rest.map fun v => v.category).sum ≤ 8) (hdg : decode cc pc = .ok (.invokevirtual index, 3)) (hf : cells + 0 ≤ R.cells ∧ slots + 0 ≤ R.slots) (kk : W p l e R s m args below meth c H locs cells slots Q (F0 m (pc + 3) ls (.ref z :: rest))) : W p l e R s m args below meth c H locs cells slots Q (F0 m pc ls (.ref a :: rest)) :=
  ce_s (va_runV (As := []) (rest := rest) S (m_J9_get hv) (cwV 0 S.2.2.2.2 (lw_V q1 q520 q521 q93 q522) rfl rfl rfl hd_J9_get hRm) ⟨fun a U g mk q => ⟨q.1, q.2.1, KK.same (u := U) (U := U.calling g mk a) rfl q.2.2⟩, rv_at hK ho rfl, fun U hU hW => ⟨rfl, by rw [hU]; exact ho, hK.warm hW⟩⟩ rfl rfl hsize rfl (lv_room hW) hdg hf) kk
end R3
theorem op_pre {P : Prop} [Decidable P] {z : Nat} {D : Decidable ((if P then some z else none) ≠ (none : Option Nat))} : @bi ((if P then some z else none) ≠ none) D = bi P := by by_cases h : P <;> simp [bi, h]
theorem op_emp {P : Prop} [Decidable P] {z : Nat} {D : Decidable ((if P then some z else none) = (none : Option Nat))} : @bi ((if P then some z else none) = none) D = bi (¬ P) := by by_cases h : P <;> simp [bi, h]
