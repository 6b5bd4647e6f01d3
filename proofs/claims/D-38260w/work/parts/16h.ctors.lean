/-! CONSTRUCTORS that write ints alone (printed by wip gen/ctors.py) -/
set_option maxRecDepth 100000
theorem hd_X17_init : yX17_init.cls = RX17 ∧ yX17_init.cls ≠ "java/lang/invoke/MethodHandle" ∧ yX17_init.cls ≠ "java/lang/invoke/VarHandle" ∧ (parseMethodDescriptor yX17_init.desc).map (fun d => d.parameters.length) = some 5 := by decide +kernel
abbrev rm_X17_init : Room := { frames := 1, locals := 24 }
set_option maxHeartbeats 4000000 in
theorem m_X17_init {l : Launch} {κ : Kx} {w : Wd} {y : Ly} {X : XR} {q : Nat} {p1 p2 p3 p4 p5 : Int32} (hX : X q (.inr (10, [.int 0, .int 0, .int 0, .int 0, .int 0, .int 0]))) : Met l yX17_init (ws_ yX17_init cX17_init 6 (Option.none : Option Jvm.ClassFile.FieldType)) rm_X17_init (va_Pc [.ref q, .int p1, .int p2, .int p3, .int p4, .int p5] (RC κ w y X)) (va_Qv (fun _ : Unit => True) (fun _ t => Rp κ w y (upX X q (.inr (10, [.int p1, .int p2, .int p3, .int p4, .int p5, .int 0]))) [] t.heap) (Af κ)) 0 0 (Af κ) := by
  refine Met.ofW (cc := cX17_init) (maxL := 6) (ret := (Option.none : Option Jvm.ClassFile.FieldType)) (by decide) rfl ?_
  intro p e s m args below meth c s₁ B hml hv
  obtain ⟨rfl, hR, hK⟩ := hv
  have hx := B.exec
  have hb := B.bytes
  have hr := B.returns
  have hts := atoms_spec (ws := ws_ yX17_init cX17_init 6 (Option.none : Option Jvm.ClassFile.FieldType)) B.pre
  have hts : ∀ w ∈ lw_all, w.before _ s = true := fun w h => hts w (List.mem_cons_of_mem _ h)
  have hown : s.vm.findClass RX17 = some m.cls := findClass_of_methodNamed B.named
  have hlocks := B.notSynchronized
  have hS : va_S (Af κ) s.heap s.heap [] := va_S.rf
  have hl := lv_entry ([.ref q, .int p1, .int p2, .int p3, .int p4, .int p5]) (n := 6) (Nat.le_of_ble_eq_true rfl)
  rw [lg_entry_eq]
  generalize (lg_sl ([.ref q, .int p1, .int p2, .int p3, .int p4, .int p5]) ++ List.replicate (6 - (lg_sl ([.ref q, .int p1, .int p2, .int p3, .int p4, .int p5])).length) Slot.unset).toArray = ls at hl ⊢
  have hl : lv_has ls 6 [(0, .ref q), (1, .int p1), (2, .int p2), (3, .int p3), (4, .int p4), (5, .int p5)] := hl
  have hin : meth.name = "<init>" := (name_of_methodNamed B.named B.method).1
  refine lv_aload_n hx hb dX17_init_0 rfl (lv_at hl 0 rfl) ?_
  refine W.objInit hx hb hown (hts _ q1542) (hts _ q127) (hts _ q128) rfl (by rw [hml]; exact hl.1) rfl dX17_init_1 (Nat.le_of_ble_eq_true rfl) (Nat.le_of_ble_eq_true rfl) ?_
  refine W.eq (g2 := F0 m 4 ls []) rfl ?_
  refine lv_aload_n hx hb dX17_init_4 rfl (lv_at hl 0 rfl) ?_
  refine lv_iload_n hx hb dX17_init_5 rfl (lv_at hl 1 rfl) ?_
  refine xa_putF (T := TX17) (N := 6) hx hb hts in_X17 tyX17 tyX17_ok nmX17 hown hK.1 hS (hR.2.2.2.1 _ _ hX).2.1 (hR.X hX) rfl 0 (by decide) q1543 rfl rfl hin rfl rfl rfl (Nat.le_of_ble_eq_true rfl) dX17_init_6 (fun H1 locs h1 hz ho hS => ?_)
  have hR := hR.putX hX h1 hz ho
  clear h1 hz ho
  generalize H1 = H at hR hS ⊢
  refine lv_aload_n hx hb dX17_init_9 rfl (lv_at hl 0 rfl) ?_
  refine lv_iload_n hx hb dX17_init_10 rfl (lv_at hl 2 rfl) ?_
  refine xa_putF (T := TX17) (N := 6) hx hb hts in_X17 tyX17 tyX17_ok nmX17 hown hK.1 hS (hR.2.2.2.1 _ _ (upX_self _ _ _)).2.1 (hR.X (upX_self _ _ _)) rfl 1 (by decide) q1545 rfl rfl hin rfl rfl rfl (Nat.le_of_ble_eq_true rfl) dX17_init_11 (fun H1 locs h1 hz ho hS => ?_)
  have hR := hR.putX2 h1 hz ho
  clear h1 hz ho
  generalize H1 = H at hR hS ⊢
  refine lv_aload_n hx hb dX17_init_14 rfl (lv_at hl 0 rfl) ?_
  refine lv_iload_n hx hb dX17_init_15 rfl (lv_at hl 3 rfl) ?_
  refine xa_putF (T := TX17) (N := 6) hx hb hts in_X17 tyX17 tyX17_ok nmX17 hown hK.1 hS (hR.2.2.2.1 _ _ (upX_self _ _ _)).2.1 (hR.X (upX_self _ _ _)) rfl 2 (by decide) q1546 rfl rfl hin rfl rfl rfl (Nat.le_of_ble_eq_true rfl) dX17_init_16 (fun H1 locs h1 hz ho hS => ?_)
  have hR := hR.putX2 h1 hz ho
  clear h1 hz ho
  generalize H1 = H at hR hS ⊢
  refine lv_aload_n hx hb dX17_init_19 rfl (lv_at hl 0 rfl) ?_
  refine lv_iload hx hb dX17_init_20 (lv_at hl 4 rfl) ?_
  refine xa_putF (T := TX17) (N := 6) hx hb hts in_X17 tyX17 tyX17_ok nmX17 hown hK.1 hS (hR.2.2.2.1 _ _ (upX_self _ _ _)).2.1 (hR.X (upX_self _ _ _)) rfl 3 (by decide) q1547 rfl rfl hin rfl rfl rfl (Nat.le_of_ble_eq_true rfl) dX17_init_22 (fun H1 locs h1 hz ho hS => ?_)
  have hR := hR.putX2 h1 hz ho
  clear h1 hz ho
  generalize H1 = H at hR hS ⊢
  refine lv_aload_n hx hb dX17_init_25 rfl (lv_at hl 0 rfl) ?_
  refine lv_iload hx hb dX17_init_26 (lv_at hl 5 rfl) ?_
  refine xa_putF (T := TX17) (N := 6) hx hb hts in_X17 tyX17 tyX17_ok nmX17 hown hK.1 hS (hR.2.2.2.1 _ _ (upX_self _ _ _)).2.1 (hR.X (upX_self _ _ _)) rfl 4 (by decide) q1549 rfl rfl hin rfl rfl rfl (Nat.le_of_ble_eq_true rfl) dX17_init_28 (fun H1 locs h1 hz ho hS => ?_)
  have hR := hR.putX2 h1 hz ho
  clear h1 hz ho
  generalize H1 = H at hR hS ⊢
  exact W.vret hx hb hr (fun t ht hW9 => ⟨⟨(), rfl, trivial, rpt ht hR⟩, hS.F ht⟩) hS.2.2 dX17_init_31
theorem hd_X14_init : yX14_init.cls = RX14 ∧ yX14_init.cls ≠ "java/lang/invoke/MethodHandle" ∧ yX14_init.cls ≠ "java/lang/invoke/VarHandle" ∧ (parseMethodDescriptor yX14_init.desc).map (fun d => d.parameters.length) = some 1 := by decide +kernel
abbrev rm_X14_init : Room := { frames := 1, locals := 24 }
set_option maxHeartbeats 4000000 in
theorem m_X14_init {l : Launch} {κ : Kx} {w : Wd} {y : Ly} {X : XR} {q : Nat} {p1 : Int32} (hX : X q (.inr (8, [.int 0, .int 0]))) : Met l yX14_init (ws_ yX14_init cX14_init 2 (Option.none : Option Jvm.ClassFile.FieldType)) rm_X14_init (va_Pc [.ref q, .int p1] (RC κ w y X)) (va_Qv (fun _ : Unit => True) (fun _ t => Rp κ w y (upX X q (.inr (8, [.int p1, .int 0]))) [] t.heap) (Af κ)) 0 0 (Af κ) := by
  refine Met.ofW (cc := cX14_init) (maxL := 2) (ret := (Option.none : Option Jvm.ClassFile.FieldType)) (by decide) rfl ?_
  intro p e s m args below meth c s₁ B hml hv
  obtain ⟨rfl, hR, hK⟩ := hv
  have hx := B.exec
  have hb := B.bytes
  have hr := B.returns
  have hts := atoms_spec (ws := ws_ yX14_init cX14_init 2 (Option.none : Option Jvm.ClassFile.FieldType)) B.pre
  have hts : ∀ w ∈ lw_all, w.before _ s = true := fun w h => hts w (List.mem_cons_of_mem _ h)
  have hown : s.vm.findClass RX14 = some m.cls := findClass_of_methodNamed B.named
  have hlocks := B.notSynchronized
  have hS : va_S (Af κ) s.heap s.heap [] := va_S.rf
  have hl := lv_entry ([.ref q, .int p1]) (n := 2) (Nat.le_of_ble_eq_true rfl)
  rw [lg_entry_eq]
  generalize (lg_sl ([.ref q, .int p1]) ++ List.replicate (2 - (lg_sl ([.ref q, .int p1])).length) Slot.unset).toArray = ls at hl ⊢
  have hl : lv_has ls 2 [(0, .ref q), (1, .int p1)] := hl
  have hin : meth.name = "<init>" := (name_of_methodNamed B.named B.method).1
  refine lv_aload_n hx hb dX14_init_0 rfl (lv_at hl 0 rfl) ?_
  refine W.objInit hx hb hown (hts _ q1185) (hts _ q127) (hts _ q128) rfl (by rw [hml]; exact hl.1) rfl dX14_init_1 (Nat.le_of_ble_eq_true rfl) (Nat.le_of_ble_eq_true rfl) ?_
  refine W.eq (g2 := F0 m 4 ls []) rfl ?_
  refine lv_aload_n hx hb dX14_init_4 rfl (lv_at hl 0 rfl) ?_
  refine lv_iload_n hx hb dX14_init_5 rfl (lv_at hl 1 rfl) ?_
  refine xa_putF (T := TX14) (N := 2) hx hb hts in_X14 tyX14 tyX14_ok nmX14 hown hK.1 hS (hR.2.2.2.1 _ _ hX).2.1 (hR.X hX) rfl 0 (by decide) q1186 rfl rfl hin rfl rfl rfl (Nat.le_of_ble_eq_true rfl) dX14_init_6 (fun H1 locs h1 hz ho hS => ?_)
  have hR := hR.putX hX h1 hz ho
  clear h1 hz ho
  generalize H1 = H at hR hS ⊢
  exact W.vret hx hb hr (fun t ht hW9 => ⟨⟨(), rfl, trivial, rpt ht hR⟩, hS.F ht⟩) hS.2.2 dX14_init_9
theorem hd_X2_init : yX2_init.cls = RX2 ∧ yX2_init.cls ≠ "java/lang/invoke/MethodHandle" ∧ yX2_init.cls ≠ "java/lang/invoke/VarHandle" ∧ (parseMethodDescriptor yX2_init.desc).map (fun d => d.parameters.length) = some 0 := by decide +kernel
abbrev rm_X2_init : Room := { frames := 1, locals := 24 }
set_option maxHeartbeats 4000000 in
theorem m_X2_init {l : Launch} {κ : Kx} {w : Wd} {y : Ly} {X : XR} {q : Nat} (hX : X q (.inr (1, [.int 0]))) : Met l yX2_init (ws_ yX2_init cX2_init 1 (Option.none : Option Jvm.ClassFile.FieldType)) rm_X2_init (va_Pc [.ref q] (RC κ w y X)) (va_Qv (fun _ : Unit => True) (fun _ t => Rp κ w y (X) [] t.heap) (Af κ)) 0 0 (Af κ) := by
  refine Met.ofW (cc := cX2_init) (maxL := 1) (ret := (Option.none : Option Jvm.ClassFile.FieldType)) (by decide) rfl ?_
  intro p e s m args below meth c s₁ B hml hv
  obtain ⟨rfl, hR, hK⟩ := hv
  have hx := B.exec
  have hb := B.bytes
  have hr := B.returns
  have hts := atoms_spec (ws := ws_ yX2_init cX2_init 1 (Option.none : Option Jvm.ClassFile.FieldType)) B.pre
  have hts : ∀ w ∈ lw_all, w.before _ s = true := fun w h => hts w (List.mem_cons_of_mem _ h)
  have hown : s.vm.findClass RX2 = some m.cls := findClass_of_methodNamed B.named
  have hlocks := B.notSynchronized
  have hS : va_S (Af κ) s.heap s.heap [] := va_S.rf
  have hl := lv_entry ([.ref q]) (n := 1) (Nat.le_of_ble_eq_true rfl)
  rw [lg_entry_eq]
  generalize (lg_sl ([.ref q]) ++ List.replicate (1 - (lg_sl ([.ref q])).length) Slot.unset).toArray = ls at hl ⊢
  have hl : lv_has ls 1 [(0, .ref q)] := hl
  refine lv_aload_n hx hb dX2_init_0 rfl (lv_at hl 0 rfl) ?_
  refine W.objInit hx hb hown (hts _ q168) (hts _ q127) (hts _ q128) rfl (by rw [hml]; exact hl.1) rfl dX2_init_1 (Nat.le_of_ble_eq_true rfl) (Nat.le_of_ble_eq_true rfl) ?_
  refine W.eq (g2 := F0 m 4 ls []) rfl ?_
  exact W.vret hx hb hr (fun t ht hW9 => ⟨⟨(), rfl, trivial, rpt ht hR⟩, hS.F ht⟩) hS.2.2 dX2_init_4
theorem hd_X5_init : yX5_init.cls = RX5 ∧ yX5_init.cls ≠ "java/lang/invoke/MethodHandle" ∧ yX5_init.cls ≠ "java/lang/invoke/VarHandle" ∧ (parseMethodDescriptor yX5_init.desc).map (fun d => d.parameters.length) = some 0 := by decide +kernel
abbrev rm_X5_init : Room := { frames := 1, locals := 24 }
set_option maxHeartbeats 4000000 in
theorem m_X5_init {l : Launch} {κ : Kx} {w : Wd} {y : Ly} {X : XR} {q : Nat} (hX : X q (.inr (4, [.int 0]))) : Met l yX5_init (ws_ yX5_init cX5_init 1 (Option.none : Option Jvm.ClassFile.FieldType)) rm_X5_init (va_Pc [.ref q] (RC κ w y X)) (va_Qv (fun _ : Unit => True) (fun _ t => Rp κ w y (X) [] t.heap) (Af κ)) 0 0 (Af κ) := by
  refine Met.ofW (cc := cX5_init) (maxL := 1) (ret := (Option.none : Option Jvm.ClassFile.FieldType)) (by decide) rfl ?_
  intro p e s m args below meth c s₁ B hml hv
  obtain ⟨rfl, hR, hK⟩ := hv
  have hx := B.exec
  have hb := B.bytes
  have hr := B.returns
  have hts := atoms_spec (ws := ws_ yX5_init cX5_init 1 (Option.none : Option Jvm.ClassFile.FieldType)) B.pre
  have hts : ∀ w ∈ lw_all, w.before _ s = true := fun w h => hts w (List.mem_cons_of_mem _ h)
  have hown : s.vm.findClass RX5 = some m.cls := findClass_of_methodNamed B.named
  have hlocks := B.notSynchronized
  have hS : va_S (Af κ) s.heap s.heap [] := va_S.rf
  have hl := lv_entry ([.ref q]) (n := 1) (Nat.le_of_ble_eq_true rfl)
  rw [lg_entry_eq]
  generalize (lg_sl ([.ref q]) ++ List.replicate (1 - (lg_sl ([.ref q])).length) Slot.unset).toArray = ls at hl ⊢
  have hl : lv_has ls 1 [(0, .ref q)] := hl
  refine lv_aload_n hx hb dX5_init_0 rfl (lv_at hl 0 rfl) ?_
  refine W.objInit hx hb hown (hts _ q200) (hts _ q127) (hts _ q128) rfl (by rw [hml]; exact hl.1) rfl dX5_init_1 (Nat.le_of_ble_eq_true rfl) (Nat.le_of_ble_eq_true rfl) ?_
  refine W.eq (g2 := F0 m 4 ls []) rfl ?_
  exact W.vret hx hb hr (fun t ht hW9 => ⟨⟨(), rfl, trivial, rpt ht hR⟩, hS.F ht⟩) hS.2.2 dX5_init_4
theorem hd_X6_init : yX6_init.cls = RX6 ∧ yX6_init.cls ≠ "java/lang/invoke/MethodHandle" ∧ yX6_init.cls ≠ "java/lang/invoke/VarHandle" ∧ (parseMethodDescriptor yX6_init.desc).map (fun d => d.parameters.length) = some 1 := by decide +kernel
abbrev rm_X6_init : Room := { frames := 1, locals := 24 }
set_option maxHeartbeats 4000000 in
theorem m_X6_init {l : Launch} {κ : Kx} {w : Wd} {y : Ly} {X : XR} {q : Nat} {p1 : Int32} (hX : X q (.inr (5, [.int 0, .int 0, .int 0, .int 0, .int 0, .int 0]))) : Met l yX6_init (ws_ yX6_init cX6_init 2 (Option.none : Option Jvm.ClassFile.FieldType)) rm_X6_init (va_Pc [.ref q, .int p1] (RC κ w y X)) (va_Qv (fun _ : Unit => True) (fun _ t => Rp κ w y (upX X q (.inr (5, [.int p1, .int 0, .int (-1), .int 0, .int 0, .int 0]))) [] t.heap) (Af κ)) 0 0 (Af κ) := by
  refine Met.ofW (cc := cX6_init) (maxL := 2) (ret := (Option.none : Option Jvm.ClassFile.FieldType)) (by decide) rfl ?_
  intro p e s m args below meth c s₁ B hml hv
  obtain ⟨rfl, hR, hK⟩ := hv
  have hx := B.exec
  have hb := B.bytes
  have hr := B.returns
  have hts := atoms_spec (ws := ws_ yX6_init cX6_init 2 (Option.none : Option Jvm.ClassFile.FieldType)) B.pre
  have hts : ∀ w ∈ lw_all, w.before _ s = true := fun w h => hts w (List.mem_cons_of_mem _ h)
  have hown : s.vm.findClass RX6 = some m.cls := findClass_of_methodNamed B.named
  have hlocks := B.notSynchronized
  have hS : va_S (Af κ) s.heap s.heap [] := va_S.rf
  have hl := lv_entry ([.ref q, .int p1]) (n := 2) (Nat.le_of_ble_eq_true rfl)
  rw [lg_entry_eq]
  generalize (lg_sl ([.ref q, .int p1]) ++ List.replicate (2 - (lg_sl ([.ref q, .int p1])).length) Slot.unset).toArray = ls at hl ⊢
  have hl : lv_has ls 2 [(0, .ref q), (1, .int p1)] := hl
  refine lv_aload_n hx hb dX6_init_0 rfl (lv_at hl 0 rfl) ?_
  refine W.objInit hx hb hown (hts _ q222) (hts _ q127) (hts _ q128) rfl (by rw [hml]; exact hl.1) rfl dX6_init_1 (Nat.le_of_ble_eq_true rfl) (Nat.le_of_ble_eq_true rfl) ?_
  refine W.eq (g2 := F0 m 4 ls []) rfl ?_
  refine lv_aload_n hx hb dX6_init_4 rfl (lv_at hl 0 rfl) ?_
  refine lv_iconst (v := (-1)) hx hb dX6_init_5 (by decide) ?_
  refine xa_put (T := TX6) (N := 6) hx hb hts in_X6 tyX6 tyX6_ok nmX6 hown hK.1 hS (hR.2.2.2.1 _ _ hX).2.1 (hR.X hX) rfl 2 (by decide) q229 rfl rfl rfl rfl (Nat.le_of_ble_eq_true rfl) dX6_init_6 (fun H1 locs h1 hz ho hS => ?_)
  have hR := hR.putX hX h1 hz ho
  clear h1 hz ho
  generalize H1 = H at hR hS ⊢
  refine lv_aload_n hx hb dX6_init_9 rfl (lv_at hl 0 rfl) ?_
  refine lv_iload_n hx hb dX6_init_10 rfl (lv_at hl 1 rfl) ?_
  refine xa_put (T := TX6) (N := 6) hx hb hts in_X6 tyX6 tyX6_ok nmX6 hown hK.1 hS (hR.2.2.2.1 _ _ (upX_self _ _ _)).2.1 (hR.X (upX_self _ _ _)) rfl 0 (by decide) q223 rfl rfl rfl rfl (Nat.le_of_ble_eq_true rfl) dX6_init_11 (fun H1 locs h1 hz ho hS => ?_)
  have hR := hR.putX2 h1 hz ho
  clear h1 hz ho
  generalize H1 = H at hR hS ⊢
  exact W.vret hx hb hr (fun t ht hW9 => ⟨⟨(), rfl, trivial, rpt ht hR⟩, hS.F ht⟩) hS.2.2 dX6_init_14
