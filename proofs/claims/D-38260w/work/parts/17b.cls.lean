/-! printed by wip gen: X12_greatest, X12_isLandEnough, X15_isOpen, X15_clashes, X15_isLeased, X15_highest, X15_letOn, X15_counts, X15_installment, X15_end, X17_told, X17_over, X18_due, X18_worth, X18_mostRate, X19_due, X19_mostRate, X2_coins, X2_take, X2_pay, X2_hasAll, X20_due, D_due, X20_mostRate, D_mostRate, X3_pay, X3_hasAll, X4_does, X6_tell, X6_become, X7_worth, D_worth, X1_village, X1_company -/
set_option maxRecDepth 100000
abbrev rm_X12_greatest : Room := { frames := 1, cells := 0, slots := 0, locals := 20 }
def st_X12_greatest_4 (κ : Kx) (y : Ly) (post : Int32 → Wd → Prop) (ex : Wd → (Int32) → Prop) (rec : Wd → Int32 → Int32 → Prop) (i0 : Nat) (n1 : Nat) (f1 : Nat → Int64) (w : Wd) (v2 : Int32) (v3 : Int32) : Prop := ((nI (nP y i0) ≤ v3) → (ex w v2)) ∧ ((¬ (nI (nP y i0) ≤ v3)) → ((vp_in (v3) n1) ∧ ((vp_in (v2) n1) ∧ (((lg_cmp (f1 (v3).toNatClampNeg) (f1 (v2).toNatClampNeg) ≤ 0) → (∀ x_27 : Int32, x_27 = v3 + (1 : Int32) → rec w v2 x_27)) ∧ ((¬ (lg_cmp (f1 (v3).toNatClampNeg) (f1 (v2).toNatClampNeg) ≤ 0)) → (∀ x_27_a : Int32, x_27_a = v3 + (1 : Int32) → rec w v3 x_27_a))))))
def sp_X12_greatest_4 (κ : Kx) (y : Ly) (post : Int32 → Wd → Prop) (ex : Wd → (Int32) → Prop) (i0 : Nat) (n1 : Nat) (f1 : Nat → Int64) : Nat → Wd → Int32 → Int32 → Prop
  | 0 => fun _ _ _ => False
  | n + 1 => fun w v2 v3 => st_X12_greatest_4 κ y post ex (sp_X12_greatest_4 κ y post ex i0 n1 f1 n) i0 n1 f1 w v2 v3
set_option maxHeartbeats 4000000 in
theorem lp_X12_greatest_4 {p : Program} {l : Launch} {e : Env} {s : State} {m : MethodId} {args : Array Value} {below : List Frame} {meth : Method} {c : Code} {κ : Kx} {y : Ly} {X : XR} {post : Int32 → Wd → Prop} {q1 : Nat} {i0 : Nat} {n1 : Nat} {f1 : Nat → Int64} (hx : p.tables.exec = Jvm.exec) (hb : c.code = cX12_greatest) (hr : meth.sig.returnType = (Option.some Jvm.ClassFile.FieldType.int)) (hml : c.maxLocals = 4) (hown : s.vm.findClass RX12 = some m.cls) (hts : ∀ w ∈ lw_all, w.before args s = true) (hlocks : meth.locks = false) (hK : KK κ s) (hW : WFc κ y) (l0 : live y 9 i0) (l1 : X q1 (.inl (kT κ 1, (n1, .inr (.inl f1))))) {C1 S1 : Nat} (hC : C1 ≤ 0) (hSl : S1 ≤ 0) {ex : Wd → (Int32) → Prop}
    (kx : ∀ (w : Wd) (v2 : Int32) (H : Heap) (locs : List Loc) (ls : Array Slot) (cells slots : Nat) , ex w v2 → Rp κ w y X [] H → va_S (Af κ) s.heap H locs → lv_has ls 4 [(2, .int (v2))] → cells ≤ C1 → slots ≤ S1 → W p l e (headSpec (ws_ yX12_greatest cX12_greatest 4 (Option.some Jvm.ClassFile.FieldType.int)) rm_X12_greatest).room s m args below meth c H locs cells slots (MQ below (va_Qi post (fun w t => Rp κ w y X [] t.heap) (Af κ)) args s 0 0 (Af κ)) (F0 m 33 ls [])) :
    ∀ (f : Nat) (w : Wd) (v2 : Int32) (v3 : Int32) (H : Heap) (locs : List Loc) (ls : Array Slot) (cells slots : Nat)  , sp_X12_greatest_4 κ y post ex i0 n1 f1 f w v2 v3 → Rp κ w y X [] H → va_S (Af κ) s.heap H locs → lv_has ls 4 [(0, .ref (y.2 9 i0)), (1, .ref (q1)), (2, .int (v2)), (3, .int (v3))] → cells + f * 0 ≤ C1 → slots + f * 0 ≤ S1 → W p l e (headSpec (ws_ yX12_greatest cX12_greatest 4 (Option.some Jvm.ClassFile.FieldType.int)) rm_X12_greatest).room s m args below meth c H locs cells slots (MQ below (va_Qi post (fun w t => Rp κ w y X [] t.heap) (Af κ)) args s 0 0 (Af κ)) (F0 m 4 ls []) := by
  intro f
  induction f with
  | zero =>
    intro w v2 v3 H locs ls cells slots  h
    exact False.elim h
  | succ f ih =>
    intro w v2 v3 H locs ls cells slots  h hR hS hl hc hs
    have h : st_X12_greatest_4 κ y post ex (sp_X12_greatest_4 κ y post ex i0 n1 f1 f) i0 n1 f1 w v2 v3 := h
    unfold st_X12_greatest_4 at h
    refine lv_iload_n hx hb dX12_greatest_4 rfl (lv_at hl 3 rfl) ?_
    refine lv_aload_n hx hb dX12_greatest_5 rfl (lv_at hl 0 rfl) ?_
    refine g9_2 hx hb hts hown hK hR l0 q1125 dX12_greatest_6 ?_
    refine jr_size ⟨hx, hb, hml, hown, hts⟩ hK hR ⟨fun _ _ _ _ _ => rfl, fun _ _ _ _ _ => rfl⟩ (hW.cpa l0) q1222 ⟨Nat.le_of_ble_eq_true rfl, Nat.le_of_ble_eq_true rfl⟩ hl.1 (Nat.le_of_ble_eq_true rfl) dX12_greatest_9 ⟨(Nat.le_trans (show cells + 0 ≤ C1 from by omega) hC), (Nat.le_trans (show slots + 0 ≤ S1 from by omega) hSl)⟩ ?_
    refine lv_icmp_ge (tgt := 33) hx hb dX12_greatest_12 (by decide) (fun c_12 => ?_) (fun c_12 => ?_)
    · have h := h.1 c_12
      exact kx w v2 _ _ _ _ _ h hR hS (lv_sub hl [2] rfl) (by omega) (by omega)
    · have h := h.2 c_12
      refine lv_aload_n hx hb dX12_greatest_15 rfl (lv_at hl 1 rfl) ?_
      refine lv_iload_n hx hb dX12_greatest_16 rfl (lv_at hl 3 rfl) ?_
      have o_17 := h.1
      have h := h.2
      refine xa_lald hx hb hK.1 (hR.2.2.2.1 _ _ l1).1 1 rfl o_17 dX12_greatest_17 ?_
      refine lv_aload_n hx hb dX12_greatest_18 rfl (lv_at hl 1 rfl) ?_
      refine lv_iload_n hx hb dX12_greatest_19 rfl (lv_at hl 2 rfl) ?_
      have o_20 := h.1
      have h := h.2
      refine xa_lald hx hb hK.1 (hR.2.2.2.1 _ _ l1).1 1 rfl o_20 dX12_greatest_20 ?_
      refine W.lcmp hx hb dX12_greatest_21 ?_
      refine lv_if_le (tgt := 27) hx hb dX12_greatest_22 (by decide) (fun c_22 => ?_) (fun c_22 => ?_)
      · have h := h.1 c_22
        obtain ⟨x_27, ex_27⟩ : ∃ z : Int32, z = v3 + (1 : Int32) := ⟨_, rfl⟩
        have h := h x_27 ex_27
        refine lv_iinc (v := x_27) (lv' := [(3, .int (x_27)), (0, .ref (y.2 9 i0)), (1, .ref (q1)), (2, .int (v2))]) hx hb dX12_greatest_27 hl (k := 3) rfl (by rw [ex_27]; rfl) (by decide) rfl (fun ls hl => ?_)
        refine lv_goto (tgt := 4) hx hb dX12_greatest_30 (by decide) ?_
        exact ih w v2 x_27 _ _ _ _ _  h hR hS (lv_sub hl [1, 2, 3, 0] rfl) (by omega) (by omega)
      · have h := h.2 c_22
        refine lv_iload_n hx hb dX12_greatest_25 rfl (lv_at hl 3 rfl) ?_
        refine lv_istore_n (lv' := [(2, .int (v3)), (0, .ref (y.2 9 i0)), (1, .ref (q1)), (3, .int (v3))]) hx hb dX12_greatest_26 rfl hl (by decide) rfl (fun ls hl => ?_)
        obtain ⟨x_27_a, ex_27_a⟩ : ∃ z : Int32, z = v3 + (1 : Int32) := ⟨_, rfl⟩
        have h := h x_27_a ex_27_a
        refine lv_iinc (v := x_27_a) (lv' := [(3, .int (x_27_a)), (2, .int (v3)), (0, .ref (y.2 9 i0)), (1, .ref (q1))]) hx hb dX12_greatest_27 hl (k := 3) rfl (by rw [ex_27_a]; rfl) (by decide) rfl (fun ls hl => ?_)
        refine lv_goto (tgt := 4) hx hb dX12_greatest_30 (by decide) ?_
        exact ih w v3 x_27_a _ _ _ _ _  h hR hS (lv_sub hl [2, 3, 1, 0] rfl) (by omega) (by omega)
def sp_X12_greatest (κ : Kx) (y : Ly) (post : Int32 → Wd → Prop) (w : Wd) (a0 : Nat) (n1 : Nat) (f1 : Nat → Int64) : Prop := sp_X12_greatest_4 κ y post (fun w_4 y2_4 => post (y2_4) w_4) a0 n1 f1 6 w (0 : Int32) (1 : Int32)
theorem hd_X12_greatest : yX12_greatest.cls = RX12 ∧ yX12_greatest.cls ≠ "java/lang/invoke/MethodHandle" ∧ yX12_greatest.cls ≠ "java/lang/invoke/VarHandle" ∧ (parseMethodDescriptor yX12_greatest.desc).map (fun d => d.parameters.length) = some 1 := by decide +kernel
set_option maxHeartbeats 4000000 in
theorem m_X12_greatest {l : Launch} {κ : Kx} {y : Ly} {X : XR} {post : Int32 → Wd → Prop} {w : Wd} {a0 : Nat} {n1 : Nat} {f1 : Nat → Int64} {q1 : Nat} (hW : WFc κ y) (l0 : live y 9 a0) (l1 : X q1 (.inl (kT κ 1, (n1, .inr (.inl f1))))) (h : sp_X12_greatest κ y post w a0 n1 f1) : Met l yX12_greatest (ws_ yX12_greatest cX12_greatest 4 (Option.some Jvm.ClassFile.FieldType.int)) rm_X12_greatest (va_Pc [.ref (y.2 9 a0), .ref (q1)] (RC κ w y X)) (va_Qi post (fun w t => Rp κ w y X [] t.heap) (Af κ)) 0 0 (Af κ) := by
  unfold sp_X12_greatest at h
  refine Met.ofW (cc := cX12_greatest) (maxL := 4) (ret := (Option.some Jvm.ClassFile.FieldType.int)) (by decide) rfl ?_
  intro p e s m args below meth c s₁ B hml hv
  obtain ⟨rfl, hR, hK⟩ := hv
  have hx := B.exec
  have hb := B.bytes
  have hr := B.returns
  have hts := atoms_spec (ws := ws_ yX12_greatest cX12_greatest 4 (Option.some Jvm.ClassFile.FieldType.int)) B.pre
  have hts : ∀ w ∈ lw_all, w.before _ s = true := fun w h => hts w (List.mem_cons_of_mem _ h)
  have hown : s.vm.findClass RX12 = some m.cls := findClass_of_methodNamed B.named
  have hlocks := B.notSynchronized
  have hS : va_S (Af κ) s.heap s.heap [] := va_S.rf
  have hl := lv_entry ([.ref (y.2 9 a0), .ref (q1)]) (n := 4) (Nat.le_of_ble_eq_true rfl)
  rw [lg_entry_eq]
  generalize (lg_sl ([.ref (y.2 9 a0), .ref (q1)]) ++ List.replicate (4 - (lg_sl ([.ref (y.2 9 a0), .ref (q1)])).length) Slot.unset).toArray = ls at hl ⊢
  have hl : lv_has ls 4 [(0, .ref (y.2 9 a0)), (1, .ref (q1))] := hl
  refine lv_iconst (v := (0 : Int32)) hx hb dX12_greatest_0 (by decide) ?_
  refine lv_istore_n (lv' := [(2, .int ((0 : Int32))), (0, .ref (y.2 9 a0)), (1, .ref (q1))]) hx hb dX12_greatest_1 rfl hl (by decide) rfl (fun ls hl => ?_)
  refine lv_iconst (v := (1 : Int32)) hx hb dX12_greatest_2 (by decide) ?_
  refine lv_istore_n (lv' := [(3, .int ((1 : Int32))), (2, .int ((0 : Int32))), (0, .ref (y.2 9 a0)), (1, .ref (q1))]) hx hb dX12_greatest_3 rfl hl (by decide) rfl (fun ls hl => ?_)
  refine lp_X12_greatest_4 (C1 := 0) (S1 := 0) hx hb hr hml hown hts hlocks hK hW l0 l1 (Nat.le_of_ble_eq_true rfl) (Nat.le_of_ble_eq_true rfl) (fun w_4 y2_4 H locs ls cells9 slots9 h hR hS hl hc9 hs9 => ?_) 6 w (0 : Int32) (1 : Int32) _ _ _ _ _  h hR hS (lv_sub hl [2, 3, 1, 0] rfl) (by omega) (by omega)
  refine W.widen (k := 0) (n := 0) hc9 hs9 ?_
  refine lv_iload_n hx hb dX12_greatest_33 rfl (lv_at hl 0 rfl) ?_
  refine W.widen (k := 0) (n := 0) (Nat.le_of_ble_eq_true rfl) (Nat.le_of_ble_eq_true rfl) ?_
  exact W.iret (v := y2_4) hx hb hr (fun t ht hW9 => ⟨⟨y2_4, w_4, rfl, h, rpt ht hR⟩, hS.F ht⟩) hS.2.2 dX12_greatest_34
abbrev rm_X12_isLandEnough : Room := { frames := 0, cells := 0, slots := 0, locals := 0 }
def sp_X12_isLandEnough (κ : Kx) (y : Ly) (post : Int32 → Wd → Prop) (w : Wd) (a0 : Nat) (p1 : Int32) : Prop := (((gv w 9 a0 3) - (gv w 9 a0 4) < p1 / (4 : Int32)) → (post ((0 : Int32)) w)) ∧ ((¬ ((gv w 9 a0 3) - (gv w 9 a0 4) < p1 / (4 : Int32))) → (post ((1 : Int32)) w))
theorem hd_X12_isLandEnough : yX12_isLandEnough.cls = RX12 ∧ yX12_isLandEnough.cls ≠ "java/lang/invoke/MethodHandle" ∧ yX12_isLandEnough.cls ≠ "java/lang/invoke/VarHandle" ∧ (parseMethodDescriptor yX12_isLandEnough.desc).map (fun d => d.parameters.length) = some 1 := by decide +kernel
set_option maxHeartbeats 4000000 in
theorem m_X12_isLandEnough {l : Launch} {κ : Kx} {y : Ly} {X : XR} {post : Int32 → Wd → Prop} {w : Wd} {a0 : Nat} {p1 : Int32}  (hW : WFc κ y) (l0 : live y 9 a0) (h : sp_X12_isLandEnough κ y post w a0 p1) : Met l yX12_isLandEnough (ws_ yX12_isLandEnough cX12_isLandEnough 2 (Option.some Jvm.ClassFile.FieldType.boolean)) rm_X12_isLandEnough (va_Pc [.ref (y.2 9 a0), .int (p1)] (RC κ w y X)) (va_Qi post (fun w t => Rp κ w y X [] t.heap) (Af κ)) 0 0 (Af κ) := by
  unfold sp_X12_isLandEnough at h
  refine Met.ofW (cc := cX12_isLandEnough) (maxL := 2) (ret := (Option.some Jvm.ClassFile.FieldType.boolean)) (by decide) rfl ?_
  intro p e s m args below meth c s₁ B hml hv
  obtain ⟨rfl, hR, hK⟩ := hv
  have hx := B.exec
  have hb := B.bytes
  have hr := B.returns
  have hts := atoms_spec (ws := ws_ yX12_isLandEnough cX12_isLandEnough 2 (Option.some Jvm.ClassFile.FieldType.boolean)) B.pre
  have hts : ∀ w ∈ lw_all, w.before _ s = true := fun w h => hts w (List.mem_cons_of_mem _ h)
  have hown : s.vm.findClass RX12 = some m.cls := findClass_of_methodNamed B.named
  have hlocks := B.notSynchronized
  have hS : va_S (Af κ) s.heap s.heap [] := va_S.rf
  have hl := lv_entry ([.ref (y.2 9 a0), .int (p1)]) (n := 2) (Nat.le_of_ble_eq_true rfl)
  rw [lg_entry_eq]
  generalize (lg_sl ([.ref (y.2 9 a0), .int (p1)]) ++ List.replicate (2 - (lg_sl ([.ref (y.2 9 a0), .int (p1)])).length) Slot.unset).toArray = ls at hl ⊢
  have hl : lv_has ls 2 [(0, .ref (y.2 9 a0)), (1, .int (p1))] := hl
  refine lv_aload_n hx hb dX12_isLandEnough_0 rfl (lv_at hl 0 rfl) ?_
  refine g9_3 hx hb hts hown hK hR l0 q1127 dX12_isLandEnough_1 ?_
  refine lv_aload_n hx hb dX12_isLandEnough_4 rfl (lv_at hl 0 rfl) ?_
  refine g9_4 hx hb hts hown hK hR l0 q1129 dX12_isLandEnough_5 ?_
  refine lv_isub hx hb dX12_isLandEnough_8 ?_
  refine lv_iload_n hx hb dX12_isLandEnough_9 rfl (lv_at hl 1 rfl) ?_
  refine lv_iconst (v := (4 : Int32)) hx hb dX12_isLandEnough_10 (by decide) ?_
  refine lv_idiv hx hb dX12_isLandEnough_11 (by decide) ?_
  refine lv_icmp_lt (tgt := 19) hx hb dX12_isLandEnough_12 (by decide) (fun c_12 => ?_) (fun c_12 => ?_)
  · have h := h.1 c_12
    refine lv_iconst (v := (0 : Int32)) hx hb dX12_isLandEnough_19 (by decide) ?_
    refine W.widen (k := 0) (n := 0) (Nat.le_of_ble_eq_true rfl) (Nat.le_of_ble_eq_true rfl) ?_
    exact W.zret (v := (0 : Int32)) hx hb hr nbo_0.n (fun t ht hW9 => ⟨⟨(0 : Int32), w, rfl, h, rpt ht hR⟩, hS.F ht⟩) hS.2.2 dX12_isLandEnough_20
  · have h := h.2 c_12
    refine lv_iconst (v := (1 : Int32)) hx hb dX12_isLandEnough_15 (by decide) ?_
    refine lv_goto (tgt := 20) hx hb dX12_isLandEnough_16 (by decide) ?_
    refine W.widen (k := 0) (n := 0) (Nat.le_of_ble_eq_true rfl) (Nat.le_of_ble_eq_true rfl) ?_
    exact W.zret (v := (1 : Int32)) hx hb hr nbo_1.n (fun t ht hW9 => ⟨⟨(1 : Int32), w, rfl, h, rpt ht hR⟩, hS.F ht⟩) hS.2.2 dX12_isLandEnough_20
abbrev rm_X15_isOpen : Room := { frames := 0, cells := 0, slots := 0, locals := 0 }
def sp_X15_isOpen (κ : Kx) (y : Ly) (post : Int32 → Wd → Prop) (w : Wd) (a0 : Nat) : Prop := ((gv w 11 a0 7).toNatClampNeg < 4) ∧ ((((gv w 11 a0 7).toNatClampNeg = 0) → (post ((1 : Int32)) w)) ∧ ((¬ ((gv w 11 a0 7).toNatClampNeg = 0)) → (((gv w 11 a0 7).toNatClampNeg < 4) ∧ (((¬ ((gv w 11 a0 7).toNatClampNeg = 1)) → (post ((0 : Int32)) w)) ∧ (((gv w 11 a0 7).toNatClampNeg = 1) → (post ((1 : Int32)) w))))))
theorem hd_X15_isOpen : yX15_isOpen.cls = RX15 ∧ yX15_isOpen.cls ≠ "java/lang/invoke/MethodHandle" ∧ yX15_isOpen.cls ≠ "java/lang/invoke/VarHandle" ∧ (parseMethodDescriptor yX15_isOpen.desc).map (fun d => d.parameters.length) = some 0 := by decide +kernel
set_option maxHeartbeats 4000000 in
theorem m_X15_isOpen {l : Launch} {κ : Kx} {y : Ly} {X : XR} {post : Int32 → Wd → Prop} {w : Wd} {a0 : Nat}  (hW : WFc κ y) (l0 : live y 11 a0) (h : sp_X15_isOpen κ y post w a0) : Met l yX15_isOpen (ws_ yX15_isOpen cX15_isOpen 1 (Option.some Jvm.ClassFile.FieldType.boolean)) rm_X15_isOpen (va_Pc [.ref (y.2 11 a0)] (RC κ w y X)) (va_Qi post (fun w t => Rp κ w y X [] t.heap) (Af κ)) 0 0 (Af κ) := by
  unfold sp_X15_isOpen at h
  refine Met.ofW (cc := cX15_isOpen) (maxL := 1) (ret := (Option.some Jvm.ClassFile.FieldType.boolean)) (by decide) rfl ?_
  intro p e s m args below meth c s₁ B hml hv
  obtain ⟨rfl, hR, hK⟩ := hv
  have hx := B.exec
  have hb := B.bytes
  have hr := B.returns
  have hts := atoms_spec (ws := ws_ yX15_isOpen cX15_isOpen 1 (Option.some Jvm.ClassFile.FieldType.boolean)) B.pre
  have hts : ∀ w ∈ lw_all, w.before _ s = true := fun w h => hts w (List.mem_cons_of_mem _ h)
  have hown : s.vm.findClass RX15 = some m.cls := findClass_of_methodNamed B.named
  have hlocks := B.notSynchronized
  have hS : va_S (Af κ) s.heap s.heap [] := va_S.rf
  have hl := lv_entry ([.ref (y.2 11 a0)]) (n := 1) (Nat.le_of_ble_eq_true rfl)
  rw [lg_entry_eq]
  generalize (lg_sl ([.ref (y.2 11 a0)]) ++ List.replicate (1 - (lg_sl ([.ref (y.2 11 a0)])).length) Slot.unset).toArray = ls at hl ⊢
  have hl : lv_has ls 1 [(0, .ref (y.2 11 a0))] := hl
  refine lv_aload_n hx hb dX15_isOpen_0 rfl (lv_at hl 0 rfl) ?_
  refine g11_7 hx hb hts hown hK hR l0 q1266 dX15_isOpen_1 ?_
  refine jr_gets (C := "Publicanry$Stand") (n := "OFFERED") (d := "LPublicanry$Stand;") (j := 10) hx hb hown hK hR hS (List.mem_of_getElem? (i := 2) rfl) q502 hts dX15_isOpen_4 ?_
  have o_7 := h.1
  have h := h.2
  refine lv_acmp_eq (rx := some (kA κ (10 + (gv w 11 a0 7).toNatClampNeg))) (ry := some (kA κ (10 + 0))) (tgt := 20) hx hb dX15_isOpen_7 (by decide) (fun c_7 => ?_) (fun c_7 => ?_)
  · replace c_7 : (gv w 11 a0 7).toNatClampNeg = 0 := hK.2.2.2.2.2.2.1 _ _ o_7 (by decide) ((Option.some.inj c_7))
    have h := h.1 c_7
    refine lv_iconst (v := (1 : Int32)) hx hb dX15_isOpen_20 (by decide) ?_
    refine lv_goto (tgt := 25) hx hb dX15_isOpen_21 (by decide) ?_
    refine W.widen (k := 0) (n := 0) (Nat.le_of_ble_eq_true rfl) (Nat.le_of_ble_eq_true rfl) ?_
    exact W.zret (v := (1 : Int32)) hx hb hr nbo_1.n (fun t ht hW9 => ⟨⟨(1 : Int32), w, rfl, h, rpt ht hR⟩, hS.F ht⟩) hS.2.2 dX15_isOpen_25
  · replace c_7 : ¬ ((gv w 11 a0 7).toNatClampNeg = 0) := fun q9 => c_7 (congrArg some (congrArg (fun z => kA κ (10 + z)) q9))
    have h := h.2 c_7
    refine lv_aload_n hx hb dX15_isOpen_10 rfl (lv_at hl 0 rfl) ?_
    refine g11_7 hx hb hts hown hK hR l0 q1266 dX15_isOpen_11 ?_
    refine jr_gets (C := "Publicanry$Stand") (n := "LEASED") (d := "LPublicanry$Stand;") (j := 11) hx hb hown hK hR hS (List.mem_of_getElem? (i := 3) rfl) q504 hts dX15_isOpen_14 ?_
    have o_17 := h.1
    have h := h.2
    refine lv_acmp_ne (rx := some (kA κ (10 + (gv w 11 a0 7).toNatClampNeg))) (ry := some (kA κ (10 + 1))) (tgt := 24) hx hb dX15_isOpen_17 (by decide) (fun c_17 => ?_) (fun c_17 => ?_)
    · replace c_17 : ¬ ((gv w 11 a0 7).toNatClampNeg = 1) := fun q9 => c_17 (congrArg some (congrArg (fun z => kA κ (10 + z)) q9))
      have h := h.1 c_17
      refine lv_iconst (v := (0 : Int32)) hx hb dX15_isOpen_24 (by decide) ?_
      refine W.widen (k := 0) (n := 0) (Nat.le_of_ble_eq_true rfl) (Nat.le_of_ble_eq_true rfl) ?_
      exact W.zret (v := (0 : Int32)) hx hb hr nbo_0.n (fun t ht hW9 => ⟨⟨(0 : Int32), w, rfl, h, rpt ht hR⟩, hS.F ht⟩) hS.2.2 dX15_isOpen_25
    · replace c_17 : (gv w 11 a0 7).toNatClampNeg = 1 := hK.2.2.2.2.2.2.1 _ _ o_17 (by decide) ((Option.some.inj c_17))
      have h := h.2 c_17
      refine lv_iconst (v := (1 : Int32)) hx hb dX15_isOpen_20 (by decide) ?_
      refine lv_goto (tgt := 25) hx hb dX15_isOpen_21 (by decide) ?_
      refine W.widen (k := 0) (n := 0) (Nat.le_of_ble_eq_true rfl) (Nat.le_of_ble_eq_true rfl) ?_
      exact W.zret (v := (1 : Int32)) hx hb hr nbo_1.n (fun t ht hW9 => ⟨⟨(1 : Int32), w, rfl, h, rpt ht hR⟩, hS.F ht⟩) hS.2.2 dX15_isOpen_25
abbrev rm_X15_clashes : Room := { frames := 1, cells := 0, slots := 0, locals := 20 }
def sp_X15_clashes (κ : Kx) (y : Ly) (post : Int32 → Wd → Prop) (w : Wd) (a0 : Nat) (a1 : Nat) : Prop := sp_X15_isOpen κ y (fun r_1 w_1 => ((r_1 = 0) → (post ((0 : Int32)) w_1)) ∧ ((¬ (r_1 = 0)) → (((gv w_1 11 a0 1).toNatClampNeg < 3) ∧ (((gv w_1 11 a1 1).toNatClampNeg < 3) ∧ (((¬ ((gv w_1 11 a0 1).toNatClampNeg = (gv w_1 11 a1 1).toNatClampNeg)) → (post ((0 : Int32)) w_1)) ∧ (((gv w_1 11 a0 1).toNatClampNeg = (gv w_1 11 a1 1).toNatClampNeg) → ((((gv w_1 11 a0 2) &&& (gv w_1 11 a1 2) = 0) → (post ((0 : Int32)) w_1)) ∧ ((¬ ((gv w_1 11 a0 2) &&& (gv w_1 11 a1 2) = 0)) → (post ((1 : Int32)) w_1))))))))) w a0
theorem hd_X15_clashes : yX15_clashes.cls = RX15 ∧ yX15_clashes.cls ≠ "java/lang/invoke/MethodHandle" ∧ yX15_clashes.cls ≠ "java/lang/invoke/VarHandle" ∧ (parseMethodDescriptor yX15_clashes.desc).map (fun d => d.parameters.length) = some 1 := by decide +kernel
set_option maxHeartbeats 4000000 in
theorem m_X15_clashes {l : Launch} {κ : Kx} {y : Ly} {X : XR} {post : Int32 → Wd → Prop} {w : Wd} {a0 : Nat} {a1 : Nat}  (hW : WFc κ y) (l0 : live y 11 a0) (l1 : live y 11 a1) (h : sp_X15_clashes κ y post w a0 a1) : Met l yX15_clashes (ws_ yX15_clashes cX15_clashes 2 (Option.some Jvm.ClassFile.FieldType.boolean)) rm_X15_clashes (va_Pc [.ref (y.2 11 a0), .ref (y.2 11 a1)] (RC κ w y X)) (va_Qi post (fun w t => Rp κ w y X [] t.heap) (Af κ)) 0 0 (Af κ) := by
  unfold sp_X15_clashes at h
  refine Met.ofW (cc := cX15_clashes) (maxL := 2) (ret := (Option.some Jvm.ClassFile.FieldType.boolean)) (by decide) rfl ?_
  intro p e s m args below meth c s₁ B hml hv
  obtain ⟨rfl, hR, hK⟩ := hv
  have hx := B.exec
  have hb := B.bytes
  have hr := B.returns
  have hts := atoms_spec (ws := ws_ yX15_clashes cX15_clashes 2 (Option.some Jvm.ClassFile.FieldType.boolean)) B.pre
  have hts : ∀ w ∈ lw_all, w.before _ s = true := fun w h => hts w (List.mem_cons_of_mem _ h)
  have hown : s.vm.findClass RX15 = some m.cls := findClass_of_methodNamed B.named
  have hlocks := B.notSynchronized
  have hS : va_S (Af κ) s.heap s.heap [] := va_S.rf
  have hl := lv_entry ([.ref (y.2 11 a0), .ref (y.2 11 a1)]) (n := 2) (Nat.le_of_ble_eq_true rfl)
  rw [lg_entry_eq]
  generalize (lg_sl ([.ref (y.2 11 a0), .ref (y.2 11 a1)]) ++ List.replicate (2 - (lg_sl ([.ref (y.2 11 a0), .ref (y.2 11 a1)])).length) Slot.unset).toArray = ls at hl ⊢
  have hl : lv_has ls 2 [(0, .ref (y.2 11 a0)), (1, .ref (y.2 11 a1))] := hl
  refine lv_aload_n hx hb dX15_clashes_0 rfl (lv_at hl 0 rfl) ?_
  refine ce_qi (fw := fun u => u) (fy := fun _ => y) (cr_V (n := 0) (As := []) (rest := []) ⟨hx, hb, hml, hown, hts⟩ hK hR (m_X15_isOpen hW l0 h) q514 q499 q500 q112 q501 rfl rfl hd_X15_isOpen ⟨Nat.le_of_ble_eq_true rfl, Nat.le_of_ble_eq_true rfl⟩ (rv hK hR l0 (ci := 9) rfl rfl) rfl rfl hl.1 rfl (lv_room (Nat.le_of_ble_eq_true rfl)) dX15_clashes_1 ⟨(Nat.le_of_ble_eq_true rfl), (Nat.le_of_ble_eq_true rfl)⟩) hR hS (fun r_1 w_1 H locs h hR _ hS => ?_)
  refine lv_if_eq (tgt := 34) hx hb dX15_clashes_4 (by decide) (fun c_4 => ?_) (fun c_4 => ?_)
  · have h := h.1 c_4
    refine lv_iconst (v := (0 : Int32)) hx hb dX15_clashes_34 (by decide) ?_
    refine W.widen (k := 0) (n := 0) (Nat.le_of_ble_eq_true rfl) (Nat.le_of_ble_eq_true rfl) ?_
    exact W.zret (v := (0 : Int32)) hx hb hr nbo_0.n (fun t ht hW9 => ⟨⟨(0 : Int32), w_1, rfl, h, rpt ht hR⟩, hS.F ht⟩) hS.2.2 dX15_clashes_35
  · have h := h.2 c_4
    refine lv_aload_n hx hb dX15_clashes_7 rfl (lv_at hl 0 rfl) ?_
    refine g11_1 hx hb hts hown hK hR l0 q1254 dX15_clashes_8 ?_
    have o_8 := h.1
    have h := h.2
    refine lv_aload_n hx hb dX15_clashes_11 rfl (lv_at hl 1 rfl) ?_
    refine g11_1 hx hb hts hown hK hR l1 q1254 dX15_clashes_12 ?_
    have o_12 := h.1
    have h := h.2
    refine lv_acmp_ne (rx := some (kA κ (20 + (gv w_1 11 a0 1).toNatClampNeg))) (ry := some (kA κ (20 + (gv w_1 11 a1 1).toNatClampNeg))) (tgt := 34) hx hb dX15_clashes_15 (by decide) (fun c_15 => ?_) (fun c_15 => ?_)
    · replace c_15 : ¬ ((gv w_1 11 a0 1).toNatClampNeg = (gv w_1 11 a1 1).toNatClampNeg) := fun q9 => c_15 (congrArg some (congrArg (fun z => kA κ (20 + z)) q9))
      have h := h.1 c_15
      refine lv_iconst (v := (0 : Int32)) hx hb dX15_clashes_34 (by decide) ?_
      refine W.widen (k := 0) (n := 0) (Nat.le_of_ble_eq_true rfl) (Nat.le_of_ble_eq_true rfl) ?_
      exact W.zret (v := (0 : Int32)) hx hb hr nbo_0.n (fun t ht hW9 => ⟨⟨(0 : Int32), w_1, rfl, h, rpt ht hR⟩, hS.F ht⟩) hS.2.2 dX15_clashes_35
    · replace c_15 : (gv w_1 11 a0 1).toNatClampNeg = (gv w_1 11 a1 1).toNatClampNeg := hK.2.2.2.2.2.2.2 _ _ o_8 o_12 ((Option.some.inj c_15))
      have h := h.2 c_15
      refine lv_aload_n hx hb dX15_clashes_18 rfl (lv_at hl 0 rfl) ?_
      refine g11_2 hx hb hts hown hK hR l0 q1256 dX15_clashes_19 ?_
      refine lv_aload_n hx hb dX15_clashes_22 rfl (lv_at hl 1 rfl) ?_
      refine g11_2 hx hb hts hown hK hR l1 q1256 dX15_clashes_23 ?_
      refine lv_iand hx hb dX15_clashes_26 ?_
      refine lv_if_eq (tgt := 34) hx hb dX15_clashes_27 (by decide) (fun c_27 => ?_) (fun c_27 => ?_)
      · have h := h.1 c_27
        refine lv_iconst (v := (0 : Int32)) hx hb dX15_clashes_34 (by decide) ?_
        refine W.widen (k := 0) (n := 0) (Nat.le_of_ble_eq_true rfl) (Nat.le_of_ble_eq_true rfl) ?_
        exact W.zret (v := (0 : Int32)) hx hb hr nbo_0.n (fun t ht hW9 => ⟨⟨(0 : Int32), w_1, rfl, h, rpt ht hR⟩, hS.F ht⟩) hS.2.2 dX15_clashes_35
      · have h := h.2 c_27
        refine lv_iconst (v := (1 : Int32)) hx hb dX15_clashes_30 (by decide) ?_
        refine lv_goto (tgt := 35) hx hb dX15_clashes_31 (by decide) ?_
        refine W.widen (k := 0) (n := 0) (Nat.le_of_ble_eq_true rfl) (Nat.le_of_ble_eq_true rfl) ?_
        exact W.zret (v := (1 : Int32)) hx hb hr nbo_1.n (fun t ht hW9 => ⟨⟨(1 : Int32), w_1, rfl, h, rpt ht hR⟩, hS.F ht⟩) hS.2.2 dX15_clashes_35
abbrev rm_X15_isLeased : Room := { frames := 0, cells := 0, slots := 0, locals := 0 }
def sp_X15_isLeased (κ : Kx) (y : Ly) (post : Int32 → Wd → Prop) (w : Wd) (a0 : Nat) : Prop := ((gv w 11 a0 7).toNatClampNeg < 4) ∧ (((¬ ((gv w 11 a0 7).toNatClampNeg = 1)) → (post ((0 : Int32)) w)) ∧ (((gv w 11 a0 7).toNatClampNeg = 1) → (post ((1 : Int32)) w)))
theorem hd_X15_isLeased : yX15_isLeased.cls = RX15 ∧ yX15_isLeased.cls ≠ "java/lang/invoke/MethodHandle" ∧ yX15_isLeased.cls ≠ "java/lang/invoke/VarHandle" ∧ (parseMethodDescriptor yX15_isLeased.desc).map (fun d => d.parameters.length) = some 0 := by decide +kernel
set_option maxHeartbeats 4000000 in
theorem m_X15_isLeased {l : Launch} {κ : Kx} {y : Ly} {X : XR} {post : Int32 → Wd → Prop} {w : Wd} {a0 : Nat}  (hW : WFc κ y) (l0 : live y 11 a0) (h : sp_X15_isLeased κ y post w a0) : Met l yX15_isLeased (ws_ yX15_isLeased cX15_isLeased 1 (Option.some Jvm.ClassFile.FieldType.boolean)) rm_X15_isLeased (va_Pc [.ref (y.2 11 a0)] (RC κ w y X)) (va_Qi post (fun w t => Rp κ w y X [] t.heap) (Af κ)) 0 0 (Af κ) := by
  unfold sp_X15_isLeased at h
  refine Met.ofW (cc := cX15_isLeased) (maxL := 1) (ret := (Option.some Jvm.ClassFile.FieldType.boolean)) (by decide) rfl ?_
  intro p e s m args below meth c s₁ B hml hv
  obtain ⟨rfl, hR, hK⟩ := hv
  have hx := B.exec
  have hb := B.bytes
  have hr := B.returns
  have hts := atoms_spec (ws := ws_ yX15_isLeased cX15_isLeased 1 (Option.some Jvm.ClassFile.FieldType.boolean)) B.pre
  have hts : ∀ w ∈ lw_all, w.before _ s = true := fun w h => hts w (List.mem_cons_of_mem _ h)
  have hown : s.vm.findClass RX15 = some m.cls := findClass_of_methodNamed B.named
  have hlocks := B.notSynchronized
  have hS : va_S (Af κ) s.heap s.heap [] := va_S.rf
  have hl := lv_entry ([.ref (y.2 11 a0)]) (n := 1) (Nat.le_of_ble_eq_true rfl)
  rw [lg_entry_eq]
  generalize (lg_sl ([.ref (y.2 11 a0)]) ++ List.replicate (1 - (lg_sl ([.ref (y.2 11 a0)])).length) Slot.unset).toArray = ls at hl ⊢
  have hl : lv_has ls 1 [(0, .ref (y.2 11 a0))] := hl
  refine lv_aload_n hx hb dX15_isLeased_0 rfl (lv_at hl 0 rfl) ?_
  refine g11_7 hx hb hts hown hK hR l0 q1266 dX15_isLeased_1 ?_
  refine jr_gets (C := "Publicanry$Stand") (n := "LEASED") (d := "LPublicanry$Stand;") (j := 11) hx hb hown hK hR hS (List.mem_of_getElem? (i := 3) rfl) q504 hts dX15_isLeased_4 ?_
  have o_7 := h.1
  have h := h.2
  refine lv_acmp_ne (rx := some (kA κ (10 + (gv w 11 a0 7).toNatClampNeg))) (ry := some (kA κ (10 + 1))) (tgt := 14) hx hb dX15_isLeased_7 (by decide) (fun c_7 => ?_) (fun c_7 => ?_)
  · replace c_7 : ¬ ((gv w 11 a0 7).toNatClampNeg = 1) := fun q9 => c_7 (congrArg some (congrArg (fun z => kA κ (10 + z)) q9))
    have h := h.1 c_7
    refine lv_iconst (v := (0 : Int32)) hx hb dX15_isLeased_14 (by decide) ?_
    refine W.widen (k := 0) (n := 0) (Nat.le_of_ble_eq_true rfl) (Nat.le_of_ble_eq_true rfl) ?_
    exact W.zret (v := (0 : Int32)) hx hb hr nbo_0.n (fun t ht hW9 => ⟨⟨(0 : Int32), w, rfl, h, rpt ht hR⟩, hS.F ht⟩) hS.2.2 dX15_isLeased_15
  · replace c_7 : (gv w 11 a0 7).toNatClampNeg = 1 := hK.2.2.2.2.2.2.1 _ _ o_7 (by decide) ((Option.some.inj c_7))
    have h := h.2 c_7
    refine lv_iconst (v := (1 : Int32)) hx hb dX15_isLeased_10 (by decide) ?_
    refine lv_goto (tgt := 15) hx hb dX15_isLeased_11 (by decide) ?_
    refine W.widen (k := 0) (n := 0) (Nat.le_of_ble_eq_true rfl) (Nat.le_of_ble_eq_true rfl) ?_
    exact W.zret (v := (1 : Int32)) hx hb hr nbo_1.n (fun t ht hW9 => ⟨⟨(1 : Int32), w, rfl, h, rpt ht hR⟩, hS.F ht⟩) hS.2.2 dX15_isLeased_15
abbrev rm_X15_highest : Room := { frames := 1, cells := 0, slots := 0, locals := 24 }
def st_X15_highest_13 (κ : Kx) (y : Ly) (post : Int32 → Wd → Prop) (ex : Wd → (Int32) → Prop) (rec : Wd → Int32 → Int32 → Prop) (i2 : Nat) (v3 : Int32) (w : Wd) (v1 : Int32) (v4 : Int32) : Prop := ((v3 ≤ v4) → (ex w v1)) ∧ ((¬ (v3 ≤ v4)) → ((vp_in (v4) 4) ∧ (∀ x_23 : Int32, x_23 = gv w 12 i2 (v4).toNatClampNeg → ∀ x_31 : Int32, x_31 = jmax v1 x_23 → ∀ x_32 : Int32, x_32 = v4 + (1 : Int32) → rec w x_31 x_32)))
def sp_X15_highest_13 (κ : Kx) (y : Ly) (post : Int32 → Wd → Prop) (ex : Wd → (Int32) → Prop) (i2 : Nat) (v3 : Int32) : Nat → Wd → Int32 → Int32 → Prop
  | 0 => fun _ _ _ => False
  | n + 1 => fun w v1 v4 => st_X15_highest_13 κ y post ex (sp_X15_highest_13 κ y post ex i2 v3 n) i2 v3 w v1 v4
set_option maxHeartbeats 4000000 in
theorem lp_X15_highest_13 {p : Program} {l : Launch} {e : Env} {s : State} {m : MethodId} {args : Array Value} {below : List Frame} {meth : Method} {c : Code} {κ : Kx} {y : Ly} {X : XR} {post : Int32 → Wd → Prop} {i2 : Nat} {v3 : Int32} (hx : p.tables.exec = Jvm.exec) (hb : c.code = cX15_highest) (hr : meth.sig.returnType = (Option.some Jvm.ClassFile.FieldType.int)) (hml : c.maxLocals = 6) (hown : s.vm.findClass RX15 = some m.cls) (hts : ∀ w ∈ lw_all, w.before args s = true) (hlocks : meth.locks = false) (hK : KK κ s) (hW : WFc κ y) (l2 : live y 12 i2) {C1 S1 : Nat} (hC : C1 ≤ 0) (hSl : S1 ≤ 0) {ex : Wd → (Int32) → Prop}
    (kx : ∀ (w : Wd) (v1 : Int32) (H : Heap) (locs : List Loc) (ls : Array Slot) (cells slots : Nat) , ex w v1 → Rp κ w y X [] H → va_S (Af κ) s.heap H locs → lv_has ls 6 [(1, .int (v1))] → cells ≤ C1 → slots ≤ S1 → W p l e (headSpec (ws_ yX15_highest cX15_highest 6 (Option.some Jvm.ClassFile.FieldType.int)) rm_X15_highest).room s m args below meth c H locs cells slots (MQ below (va_Qi post (fun w t => Rp κ w y X [] t.heap) (Af κ)) args s 0 0 (Af κ)) (F0 m 38 ls [])) :
    ∀ (f : Nat) (w : Wd) (v1 : Int32) (v4 : Int32) (H : Heap) (locs : List Loc) (ls : Array Slot) (cells slots : Nat)  , sp_X15_highest_13 κ y post ex i2 v3 f w v1 v4 → Rp κ w y X [] H → va_S (Af κ) s.heap H locs → lv_has ls 6 [(1, .int (v1)), (2, .ref (y.2 12 i2)), (3, .int (v3)), (4, .int (v4))] → cells + f * 0 ≤ C1 → slots + f * 0 ≤ S1 → W p l e (headSpec (ws_ yX15_highest cX15_highest 6 (Option.some Jvm.ClassFile.FieldType.int)) rm_X15_highest).room s m args below meth c H locs cells slots (MQ below (va_Qi post (fun w t => Rp κ w y X [] t.heap) (Af κ)) args s 0 0 (Af κ)) (F0 m 13 ls []) := by
  intro f
  induction f with
  | zero =>
    intro w v1 v4 H locs ls cells slots  h
    exact False.elim h
  | succ f ih =>
    intro w v1 v4 H locs ls cells slots  h hR hS hl hc hs
    have h : st_X15_highest_13 κ y post ex (sp_X15_highest_13 κ y post ex i2 v3 f) i2 v3 w v1 v4 := h
    unfold st_X15_highest_13 at h
    refine lv_iload hx hb dX15_highest_13 (lv_at hl 3 rfl) ?_
    refine lv_iload_n hx hb dX15_highest_15 rfl (lv_at hl 2 rfl) ?_
    refine lv_icmp_ge (tgt := 38) hx hb dX15_highest_16 (by decide) (fun c_16 => ?_) (fun c_16 => ?_)
    · have h := h.1 c_16
      exact kx w v1 _ _ _ _ _ h hR hS (lv_sub hl [0] rfl) (by omega) (by omega)
    · have h := h.2 c_16
      refine lv_aload_n hx hb dX15_highest_19 rfl (lv_at hl 1 rfl) ?_
      refine lv_iload hx hb dX15_highest_20 (lv_at hl 3 rfl) ?_
      have o_22 := h.1
      have h := h.2
      refine a12 hx hb hK hR l2 o_22 dX15_highest_22 ?_
      refine lv_topi (fun x_23 ex_23 => ?_)
      have h := h x_23 ex_23
      refine lv_istore (lv' := [(5, .int (x_23)), (1, .int (v1)), (2, .ref (y.2 12 i2)), (3, .int (v3)), (4, .int (v4))]) hx hb dX15_highest_23 hl (by decide) rfl (fun ls hl => ?_)
      refine lv_iload_n hx hb dX15_highest_25 rfl (lv_at hl 1 rfl) ?_
      refine lv_iload hx hb dX15_highest_26 (lv_at hl 0 rfl) ?_
      refine va_mmax hx hb (hml.trans hl.1.symm) hown (hts _ q751) (hts _ q642) (hts _ q95) (hts _ q643) (Nat.le_of_ble_eq_true rfl) (Nat.le_of_ble_eq_true rfl) (Nat.le_trans (show cells + 0 ≤ C1 from by omega) hC) (Nat.le_trans (show slots + 0 ≤ S1 from by omega) hSl) dX15_highest_28 ?_
      refine lv_topi (fun x_31 ex_31 => ?_)
      have h := h x_31 ex_31
      refine lv_istore_n (lv' := [(1, .int (x_31)), (5, .int (x_23)), (2, .ref (y.2 12 i2)), (3, .int (v3)), (4, .int (v4))]) hx hb dX15_highest_31 rfl hl (by decide) rfl (fun ls hl => ?_)
      obtain ⟨x_32, ex_32⟩ : ∃ z : Int32, z = v4 + (1 : Int32) := ⟨_, rfl⟩
      have h := h x_32 ex_32
      refine lv_iinc (v := x_32) (lv' := [(4, .int (x_32)), (1, .int (x_31)), (5, .int (x_23)), (2, .ref (y.2 12 i2)), (3, .int (v3))]) hx hb dX15_highest_32 hl (k := 4) rfl (by rw [ex_32]; rfl) (by decide) rfl (fun ls hl => ?_)
      refine lv_goto (tgt := 13) hx hb dX15_highest_35 (by decide) ?_
      exact ih w x_31 x_32 _ _ _ _ _  h hR hS (lv_sub hl [1, 3, 4, 0] rfl) (by omega) (by omega)
def sp_X15_highest (κ : Kx) (y : Ly) (post : Int32 → Wd → Prop) (w : Wd) (a0 : Nat) : Prop := ∀ x_9 : Int32, x_9 = nI 4 → sp_X15_highest_13 κ y post (fun w_13 y1_13 => post (y1_13) w_13) a0 x_9 5 w (0 : Int32) (0 : Int32)
theorem hd_X15_highest : yX15_highest.cls = RX15 ∧ yX15_highest.cls ≠ "java/lang/invoke/MethodHandle" ∧ yX15_highest.cls ≠ "java/lang/invoke/VarHandle" ∧ (parseMethodDescriptor yX15_highest.desc).map (fun d => d.parameters.length) = some 0 := by decide +kernel
set_option maxHeartbeats 4000000 in
theorem m_X15_highest {l : Launch} {κ : Kx} {y : Ly} {X : XR} {post : Int32 → Wd → Prop} {w : Wd} {a0 : Nat}  (hW : WFc κ y) (l0 : live y 11 a0) (h : sp_X15_highest κ y post w a0) : Met l yX15_highest (ws_ yX15_highest cX15_highest 6 (Option.some Jvm.ClassFile.FieldType.int)) rm_X15_highest (va_Pc [.ref (y.2 11 a0)] (RC κ w y X)) (va_Qi post (fun w t => Rp κ w y X [] t.heap) (Af κ)) 0 0 (Af κ) := by
  unfold sp_X15_highest at h
  refine Met.ofW (cc := cX15_highest) (maxL := 6) (ret := (Option.some Jvm.ClassFile.FieldType.int)) (by decide) rfl ?_
  intro p e s m args below meth c s₁ B hml hv
  obtain ⟨rfl, hR, hK⟩ := hv
  have hx := B.exec
  have hb := B.bytes
  have hr := B.returns
  have hts := atoms_spec (ws := ws_ yX15_highest cX15_highest 6 (Option.some Jvm.ClassFile.FieldType.int)) B.pre
  have hts : ∀ w ∈ lw_all, w.before _ s = true := fun w h => hts w (List.mem_cons_of_mem _ h)
  have hown : s.vm.findClass RX15 = some m.cls := findClass_of_methodNamed B.named
  have hlocks := B.notSynchronized
  have hS : va_S (Af κ) s.heap s.heap [] := va_S.rf
  have hl := lv_entry ([.ref (y.2 11 a0)]) (n := 6) (Nat.le_of_ble_eq_true rfl)
  rw [lg_entry_eq]
  generalize (lg_sl ([.ref (y.2 11 a0)]) ++ List.replicate (6 - (lg_sl ([.ref (y.2 11 a0)])).length) Slot.unset).toArray = ls at hl ⊢
  have hl : lv_has ls 6 [(0, .ref (y.2 11 a0))] := hl
  refine lv_iconst (v := (0 : Int32)) hx hb dX15_highest_0 (by decide) ?_
  refine lv_istore_n (lv' := [(1, .int ((0 : Int32))), (0, .ref (y.2 11 a0))]) hx hb dX15_highest_1 rfl hl (by decide) rfl (fun ls hl => ?_)
  refine lv_aload_n hx hb dX15_highest_2 rfl (lv_at hl 1 rfl) ?_
  refine g11_5 hx hb hts hown hK hR l0 q1262 dX15_highest_3 ?_
  refine lv_astore_n (lv' := [(2, .ref (y.2 12 a0)), (1, .int ((0 : Int32))), (0, .ref (y.2 11 a0))]) hx hb dX15_highest_6 rfl hl (by decide) rfl (fun ls hl => ?_)
  refine lv_aload_n hx hb dX15_highest_7 rfl (lv_at hl 0 rfl) ?_
  refine n12 hx hb hK hR (hW.bid l0) dX15_highest_8 ?_
  refine lv_topi (fun x_9 ex_9 => ?_)
  have h := h x_9 ex_9
  refine lv_istore_n (lv' := [(3, .int (x_9)), (2, .ref (y.2 12 a0)), (1, .int ((0 : Int32))), (0, .ref (y.2 11 a0))]) hx hb dX15_highest_9 rfl hl (by decide) rfl (fun ls hl => ?_)
  refine lv_iconst (v := (0 : Int32)) hx hb dX15_highest_10 (by decide) ?_
  refine lv_istore (lv' := [(4, .int ((0 : Int32))), (3, .int (x_9)), (2, .ref (y.2 12 a0)), (1, .int ((0 : Int32))), (0, .ref (y.2 11 a0))]) hx hb dX15_highest_11 hl (by decide) rfl (fun ls hl => ?_)
  refine lp_X15_highest_13 (C1 := 0) (S1 := 0) hx hb hr hml hown hts hlocks hK hW (hW.bid l0) (Nat.le_of_ble_eq_true rfl) (Nat.le_of_ble_eq_true rfl) (fun w_13 y1_13 H locs ls cells9 slots9 h hR hS hl hc9 hs9 => ?_) 5 w (0 : Int32) (0 : Int32) _ _ _ _ _  h hR hS (lv_sub hl [3, 2, 1, 0] rfl) (by omega) (by omega)
  refine W.widen (k := 0) (n := 0) hc9 hs9 ?_
  refine lv_iload_n hx hb dX15_highest_38 rfl (lv_at hl 0 rfl) ?_
  refine W.widen (k := 0) (n := 0) (Nat.le_of_ble_eq_true rfl) (Nat.le_of_ble_eq_true rfl) ?_
  exact W.iret (v := y1_13) hx hb hr (fun t ht hW9 => ⟨⟨y1_13, w_13, rfl, h, rpt ht hR⟩, hS.F ht⟩) hS.2.2 dX15_highest_39
abbrev rm_X15_letOn : Room := { frames := 1, cells := 0, slots := 0, locals := 20 }
def st_X15_letOn_13 (κ : Kx) (y : Ly) (post : Int32 → Wd → Prop) (ex : Wd → (Int32) → Prop) (rec : Wd → Int32 → Int32 → Prop) (i2 : Nat) (v3 : Int32) (w : Wd) (v1 : Int32) (v4 : Int32) : Prop := ((v3 ≤ v4) → (ex w v1)) ∧ ((¬ (v3 ≤ v4)) → ((vp_in (v4) 8) ∧ (∀ x_23 : Int32, x_23 = gv w 13 i2 (v4).toNatClampNeg → ((x_23 ≤ 0) → (sp_X1_one κ y (fun r_36 w_36 => ∀ x_40 : Int32, x_40 = v1 + r_36 → ∀ x_41 : Int32, x_41 = v4 + (1 : Int32) → rec w_36 x_40 x_41) w (0 : Int32))) ∧ ((¬ (x_23 ≤ 0)) → (sp_X1_one κ y (fun r_36_a w_36_a => ∀ x_40_a : Int32, x_40_a = v1 + r_36_a → ∀ x_41_a : Int32, x_41_a = v4 + (1 : Int32) → rec w_36_a x_40_a x_41_a) w (1 : Int32))))))
def sp_X15_letOn_13 (κ : Kx) (y : Ly) (post : Int32 → Wd → Prop) (ex : Wd → (Int32) → Prop) (i2 : Nat) (v3 : Int32) : Nat → Wd → Int32 → Int32 → Prop
  | 0 => fun _ _ _ => False
  | n + 1 => fun w v1 v4 => st_X15_letOn_13 κ y post ex (sp_X15_letOn_13 κ y post ex i2 v3 n) i2 v3 w v1 v4
set_option maxHeartbeats 4000000 in
theorem lp_X15_letOn_13 {p : Program} {l : Launch} {e : Env} {s : State} {m : MethodId} {args : Array Value} {below : List Frame} {meth : Method} {c : Code} {κ : Kx} {y : Ly} {X : XR} {post : Int32 → Wd → Prop} {i2 : Nat} {v3 : Int32} (hx : p.tables.exec = Jvm.exec) (hb : c.code = cX15_letOn) (hr : meth.sig.returnType = (Option.some Jvm.ClassFile.FieldType.int)) (hml : c.maxLocals = 6) (hown : s.vm.findClass RX15 = some m.cls) (hts : ∀ w ∈ lw_all, w.before args s = true) (hlocks : meth.locks = false) (hK : KK κ s) (hW : WFc κ y) (l2 : live y 13 i2) {C1 S1 : Nat} (hC : C1 ≤ 0) (hSl : S1 ≤ 0) {ex : Wd → (Int32) → Prop}
    (kx : ∀ (w : Wd) (v1 : Int32) (H : Heap) (locs : List Loc) (ls : Array Slot) (cells slots : Nat) , ex w v1 → Rp κ w y X [] H → va_S (Af κ) s.heap H locs → lv_has ls 6 [(1, .int (v1))] → cells ≤ C1 → slots ≤ S1 → W p l e (headSpec (ws_ yX15_letOn cX15_letOn 6 (Option.some Jvm.ClassFile.FieldType.int)) rm_X15_letOn).room s m args below meth c H locs cells slots (MQ below (va_Qi post (fun w t => Rp κ w y X [] t.heap) (Af κ)) args s 0 0 (Af κ)) (F0 m 47 ls [])) :
    ∀ (f : Nat) (w : Wd) (v1 : Int32) (v4 : Int32) (H : Heap) (locs : List Loc) (ls : Array Slot) (cells slots : Nat)  , sp_X15_letOn_13 κ y post ex i2 v3 f w v1 v4 → Rp κ w y X [] H → va_S (Af κ) s.heap H locs → lv_has ls 6 [(1, .int (v1)), (2, .ref (y.2 13 i2)), (3, .int (v3)), (4, .int (v4))] → cells + f * 0 ≤ C1 → slots + f * 0 ≤ S1 → W p l e (headSpec (ws_ yX15_letOn cX15_letOn 6 (Option.some Jvm.ClassFile.FieldType.int)) rm_X15_letOn).room s m args below meth c H locs cells slots (MQ below (va_Qi post (fun w t => Rp κ w y X [] t.heap) (Af κ)) args s 0 0 (Af κ)) (F0 m 13 ls []) := by
  intro f
  induction f with
  | zero =>
    intro w v1 v4 H locs ls cells slots  h
    exact False.elim h
  | succ f ih =>
    intro w v1 v4 H locs ls cells slots  h hR hS hl hc hs
    have h : st_X15_letOn_13 κ y post ex (sp_X15_letOn_13 κ y post ex i2 v3 f) i2 v3 w v1 v4 := h
    unfold st_X15_letOn_13 at h
    refine lv_iload hx hb dX15_letOn_13 (lv_at hl 3 rfl) ?_
    refine lv_iload_n hx hb dX15_letOn_15 rfl (lv_at hl 2 rfl) ?_
    refine lv_icmp_ge (tgt := 47) hx hb dX15_letOn_16 (by decide) (fun c_16 => ?_) (fun c_16 => ?_)
    · have h := h.1 c_16
      exact kx w v1 _ _ _ _ _ h hR hS (lv_sub hl [0] rfl) (by omega) (by omega)
    · have h := h.2 c_16
      refine lv_aload_n hx hb dX15_letOn_19 rfl (lv_at hl 1 rfl) ?_
      refine lv_iload hx hb dX15_letOn_20 (lv_at hl 3 rfl) ?_
      have o_22 := h.1
      have h := h.2
      refine a13 hx hb hK hR l2 o_22 dX15_letOn_22 ?_
      refine lv_topi (fun x_23 ex_23 => ?_)
      have h := h x_23 ex_23
      refine lv_istore (lv' := [(5, .int (x_23)), (1, .int (v1)), (2, .ref (y.2 13 i2)), (3, .int (v3)), (4, .int (v4))]) hx hb dX15_letOn_23 hl (by decide) rfl (fun ls hl => ?_)
      refine lv_iload_n hx hb dX15_letOn_25 rfl (lv_at hl 1 rfl) ?_
      refine lv_iload hx hb dX15_letOn_26 (lv_at hl 0 rfl) ?_
      refine lv_if_le (tgt := 35) hx hb dX15_letOn_28 (by decide) (fun c_28 => ?_) (fun c_28 => ?_)
      · have h := h.1 c_28
        refine lv_iconst (v := (0 : Int32)) hx hb dX15_letOn_35 (by decide) ?_
        refine ce_qi (fw := fun u => u) (fy := fun _ => y) (cr_SN (n := 1) (As := [.int ((0 : Int32))]) (rest := [.int (v1)]) ⟨hx, hb, hml, hown, hts⟩ hK hR (m_X1_one hW h) (List.mem_of_getElem? (i := 9) rfl) q549 q74 q550 rfl rfl hds_X1_one ⟨Nat.le_of_ble_eq_true rfl, Nat.le_of_ble_eq_true rfl⟩ rfl rfl hl.1 rfl (lv_room (Nat.le_of_ble_eq_true rfl)) dX15_letOn_36 ⟨(Nat.le_trans (show cells + 0 ≤ C1 from by omega) hC), (Nat.le_trans (show slots + 0 ≤ S1 from by omega) hSl)⟩) hR hS (fun r_36 w_36 H locs h hR _ hS => ?_)
        refine lv_iadd hx hb dX15_letOn_39 ?_
        refine lv_topi (fun x_40 ex_40 => ?_)
        have h := h x_40 ex_40
        refine lv_istore_n (lv' := [(1, .int (x_40)), (5, .int (x_23)), (2, .ref (y.2 13 i2)), (3, .int (v3)), (4, .int (v4))]) hx hb dX15_letOn_40 rfl hl (by decide) rfl (fun ls hl => ?_)
        obtain ⟨x_41, ex_41⟩ : ∃ z : Int32, z = v4 + (1 : Int32) := ⟨_, rfl⟩
        have h := h x_41 ex_41
        refine lv_iinc (v := x_41) (lv' := [(4, .int (x_41)), (1, .int (x_40)), (5, .int (x_23)), (2, .ref (y.2 13 i2)), (3, .int (v3))]) hx hb dX15_letOn_41 hl (k := 4) rfl (by rw [ex_41]; rfl) (by decide) rfl (fun ls hl => ?_)
        refine lv_goto (tgt := 13) hx hb dX15_letOn_44 (by decide) ?_
        exact ih w_36 x_40 x_41 _ _ _ _ _  h hR hS (lv_sub hl [1, 3, 4, 0] rfl) (by omega) (by omega)
      · have h := h.2 c_28
        refine lv_iconst (v := (1 : Int32)) hx hb dX15_letOn_31 (by decide) ?_
        refine lv_goto (tgt := 36) hx hb dX15_letOn_32 (by decide) ?_
        refine ce_qi (fw := fun u => u) (fy := fun _ => y) (cr_SN (n := 1) (As := [.int ((1 : Int32))]) (rest := [.int (v1)]) ⟨hx, hb, hml, hown, hts⟩ hK hR (m_X1_one hW h) (List.mem_of_getElem? (i := 9) rfl) q549 q74 q550 rfl rfl hds_X1_one ⟨Nat.le_of_ble_eq_true rfl, Nat.le_of_ble_eq_true rfl⟩ rfl rfl hl.1 rfl (lv_room (Nat.le_of_ble_eq_true rfl)) dX15_letOn_36 ⟨(Nat.le_trans (show cells + 0 ≤ C1 from by omega) hC), (Nat.le_trans (show slots + 0 ≤ S1 from by omega) hSl)⟩) hR hS (fun r_36_a w_36_a H locs h hR _ hS => ?_)
        refine lv_iadd hx hb dX15_letOn_39 ?_
        refine lv_topi (fun x_40_a ex_40_a => ?_)
        have h := h x_40_a ex_40_a
        refine lv_istore_n (lv' := [(1, .int (x_40_a)), (5, .int (x_23)), (2, .ref (y.2 13 i2)), (3, .int (v3)), (4, .int (v4))]) hx hb dX15_letOn_40 rfl hl (by decide) rfl (fun ls hl => ?_)
        obtain ⟨x_41_a, ex_41_a⟩ : ∃ z : Int32, z = v4 + (1 : Int32) := ⟨_, rfl⟩
        have h := h x_41_a ex_41_a
        refine lv_iinc (v := x_41_a) (lv' := [(4, .int (x_41_a)), (1, .int (x_40_a)), (5, .int (x_23)), (2, .ref (y.2 13 i2)), (3, .int (v3))]) hx hb dX15_letOn_41 hl (k := 4) rfl (by rw [ex_41_a]; rfl) (by decide) rfl (fun ls hl => ?_)
        refine lv_goto (tgt := 13) hx hb dX15_letOn_44 (by decide) ?_
        exact ih w_36_a x_40_a x_41_a _ _ _ _ _  h hR hS (lv_sub hl [1, 3, 4, 0] rfl) (by omega) (by omega)
def sp_X15_letOn (κ : Kx) (y : Ly) (post : Int32 → Wd → Prop) (w : Wd) (a0 : Nat) : Prop := ∀ x_9 : Int32, x_9 = nI 8 → sp_X15_letOn_13 κ y post (fun w_13 y1_13 => post (y1_13) w_13) a0 x_9 9 w (0 : Int32) (0 : Int32)
theorem hd_X15_letOn : yX15_letOn.cls = RX15 ∧ yX15_letOn.cls ≠ "java/lang/invoke/MethodHandle" ∧ yX15_letOn.cls ≠ "java/lang/invoke/VarHandle" ∧ (parseMethodDescriptor yX15_letOn.desc).map (fun d => d.parameters.length) = some 0 := by decide +kernel
set_option maxHeartbeats 4000000 in
theorem m_X15_letOn {l : Launch} {κ : Kx} {y : Ly} {X : XR} {post : Int32 → Wd → Prop} {w : Wd} {a0 : Nat}  (hW : WFc κ y) (l0 : live y 11 a0) (h : sp_X15_letOn κ y post w a0) : Met l yX15_letOn (ws_ yX15_letOn cX15_letOn 6 (Option.some Jvm.ClassFile.FieldType.int)) rm_X15_letOn (va_Pc [.ref (y.2 11 a0)] (RC κ w y X)) (va_Qi post (fun w t => Rp κ w y X [] t.heap) (Af κ)) 0 0 (Af κ) := by
  unfold sp_X15_letOn at h
  refine Met.ofW (cc := cX15_letOn) (maxL := 6) (ret := (Option.some Jvm.ClassFile.FieldType.int)) (by decide) rfl ?_
  intro p e s m args below meth c s₁ B hml hv
  obtain ⟨rfl, hR, hK⟩ := hv
  have hx := B.exec
  have hb := B.bytes
  have hr := B.returns
  have hts := atoms_spec (ws := ws_ yX15_letOn cX15_letOn 6 (Option.some Jvm.ClassFile.FieldType.int)) B.pre
  have hts : ∀ w ∈ lw_all, w.before _ s = true := fun w h => hts w (List.mem_cons_of_mem _ h)
  have hown : s.vm.findClass RX15 = some m.cls := findClass_of_methodNamed B.named
  have hlocks := B.notSynchronized
  have hS : va_S (Af κ) s.heap s.heap [] := va_S.rf
  have hl := lv_entry ([.ref (y.2 11 a0)]) (n := 6) (Nat.le_of_ble_eq_true rfl)
  rw [lg_entry_eq]
  generalize (lg_sl ([.ref (y.2 11 a0)]) ++ List.replicate (6 - (lg_sl ([.ref (y.2 11 a0)])).length) Slot.unset).toArray = ls at hl ⊢
  have hl : lv_has ls 6 [(0, .ref (y.2 11 a0))] := hl
  refine lv_iconst (v := (0 : Int32)) hx hb dX15_letOn_0 (by decide) ?_
  refine lv_istore_n (lv' := [(1, .int ((0 : Int32))), (0, .ref (y.2 11 a0))]) hx hb dX15_letOn_1 rfl hl (by decide) rfl (fun ls hl => ?_)
  refine lv_aload_n hx hb dX15_letOn_2 rfl (lv_at hl 1 rfl) ?_
  refine g11_6 hx hb hts hown hK hR l0 q1264 dX15_letOn_3 ?_
  refine lv_astore_n (lv' := [(2, .ref (y.2 13 a0)), (1, .int ((0 : Int32))), (0, .ref (y.2 11 a0))]) hx hb dX15_letOn_6 rfl hl (by decide) rfl (fun ls hl => ?_)
  refine lv_aload_n hx hb dX15_letOn_7 rfl (lv_at hl 0 rfl) ?_
  refine n13 hx hb hK hR (hW.age l0) dX15_letOn_8 ?_
  refine lv_topi (fun x_9 ex_9 => ?_)
  have h := h x_9 ex_9
  refine lv_istore_n (lv' := [(3, .int (x_9)), (2, .ref (y.2 13 a0)), (1, .int ((0 : Int32))), (0, .ref (y.2 11 a0))]) hx hb dX15_letOn_9 rfl hl (by decide) rfl (fun ls hl => ?_)
  refine lv_iconst (v := (0 : Int32)) hx hb dX15_letOn_10 (by decide) ?_
  refine lv_istore (lv' := [(4, .int ((0 : Int32))), (3, .int (x_9)), (2, .ref (y.2 13 a0)), (1, .int ((0 : Int32))), (0, .ref (y.2 11 a0))]) hx hb dX15_letOn_11 hl (by decide) rfl (fun ls hl => ?_)
  refine lp_X15_letOn_13 (C1 := 0) (S1 := 0) hx hb hr hml hown hts hlocks hK hW (hW.age l0) (Nat.le_of_ble_eq_true rfl) (Nat.le_of_ble_eq_true rfl) (fun w_13 y1_13 H locs ls cells9 slots9 h hR hS hl hc9 hs9 => ?_) 9 w (0 : Int32) (0 : Int32) _ _ _ _ _  h hR hS (lv_sub hl [3, 2, 1, 0] rfl) (by omega) (by omega)
  refine W.widen (k := 0) (n := 0) hc9 hs9 ?_
  refine lv_iload_n hx hb dX15_letOn_47 rfl (lv_at hl 0 rfl) ?_
  refine W.widen (k := 0) (n := 0) (Nat.le_of_ble_eq_true rfl) (Nat.le_of_ble_eq_true rfl) ?_
  exact W.iret (v := y1_13) hx hb hr (fun t ht hW9 => ⟨⟨y1_13, w_13, rfl, h, rpt ht hR⟩, hS.F ht⟩) hS.2.2 dX15_letOn_48
abbrev rm_X15_counts : Room := { frames := 1, cells := 0, slots := 0, locals := 21 }
def sp_X15_counts (κ : Kx) (y : Ly) (post : Int32 → Wd → Prop) (w : Wd) (a0 : Nat) (a1 : Nat) : Prop := (vp_in (nI a1) 4) ∧ (∀ x_9 : Int32, x_9 = gv w 12 a0 (nI a1).toNatClampNeg → ((x_9 ≤ 0) → (post ((0 : Int32)) w)) ∧ ((¬ (x_9 ≤ 0)) → (((x_9 < gv w 11 a0 4) → (post ((0 : Int32)) w)) ∧ ((¬ (x_9 < gv w 11 a0 4)) → (((¬ gv w 9 a1 11 = 0) → (post ((0 : Int32)) w)) ∧ ((gv w 9 a1 11 = 0) → (sp_X12_isLandEnough κ y (fun r_31 w_31 => ((r_31 = 0) → (post ((0 : Int32)) w_31)) ∧ ((¬ (r_31 = 0)) → (post ((1 : Int32)) w_31))) w a1 x_9)))))))
theorem hd_X15_counts : yX15_counts.cls = RX15 ∧ yX15_counts.cls ≠ "java/lang/invoke/MethodHandle" ∧ yX15_counts.cls ≠ "java/lang/invoke/VarHandle" ∧ (parseMethodDescriptor yX15_counts.desc).map (fun d => d.parameters.length) = some 1 := by decide +kernel
set_option maxHeartbeats 4000000 in
theorem m_X15_counts {l : Launch} {κ : Kx} {y : Ly} {X : XR} {post : Int32 → Wd → Prop} {w : Wd} {a0 : Nat} {a1 : Nat}  (hW : WFc κ y) (l0 : live y 11 a0) (l1 : live y 9 a1) (h : sp_X15_counts κ y post w a0 a1) : Met l yX15_counts (ws_ yX15_counts cX15_counts 3 (Option.some Jvm.ClassFile.FieldType.boolean)) rm_X15_counts (va_Pc [.ref (y.2 11 a0), .ref (y.2 9 a1)] (RC κ w y X)) (va_Qi post (fun w t => Rp κ w y X [] t.heap) (Af κ)) 0 0 (Af κ) := by
  unfold sp_X15_counts at h
  refine Met.ofW (cc := cX15_counts) (maxL := 3) (ret := (Option.some Jvm.ClassFile.FieldType.boolean)) (by decide) rfl ?_
  intro p e s m args below meth c s₁ B hml hv
  obtain ⟨rfl, hR, hK⟩ := hv
  have hx := B.exec
  have hb := B.bytes
  have hr := B.returns
  have hts := atoms_spec (ws := ws_ yX15_counts cX15_counts 3 (Option.some Jvm.ClassFile.FieldType.boolean)) B.pre
  have hts : ∀ w ∈ lw_all, w.before _ s = true := fun w h => hts w (List.mem_cons_of_mem _ h)
  have hown : s.vm.findClass RX15 = some m.cls := findClass_of_methodNamed B.named
  have hlocks := B.notSynchronized
  have hS : va_S (Af κ) s.heap s.heap [] := va_S.rf
  have hl := lv_entry ([.ref (y.2 11 a0), .ref (y.2 9 a1)]) (n := 3) (Nat.le_of_ble_eq_true rfl)
  rw [lg_entry_eq]
  generalize (lg_sl ([.ref (y.2 11 a0), .ref (y.2 9 a1)]) ++ List.replicate (3 - (lg_sl ([.ref (y.2 11 a0), .ref (y.2 9 a1)])).length) Slot.unset).toArray = ls at hl ⊢
  have hl : lv_has ls 3 [(0, .ref (y.2 11 a0)), (1, .ref (y.2 9 a1))] := hl
  refine lv_aload_n hx hb dX15_counts_0 rfl (lv_at hl 0 rfl) ?_
  refine g11_5 hx hb hts hown hK hR l0 q1262 dX15_counts_1 ?_
  refine lv_aload_n hx hb dX15_counts_4 rfl (lv_at hl 1 rfl) ?_
  refine g9_0 hx hb hts hown hK hR l1 q1121 dX15_counts_5 ?_
  have o_8 := h.1
  have h := h.2
  refine a12 hx hb hK hR (hW.bid l0) o_8 dX15_counts_8 ?_
  refine lv_topi (fun x_9 ex_9 => ?_)
  have h := h x_9 ex_9
  refine lv_istore_n (lv' := [(2, .int (x_9)), (0, .ref (y.2 11 a0)), (1, .ref (y.2 9 a1))]) hx hb dX15_counts_9 rfl hl (by decide) rfl (fun ls hl => ?_)
  refine lv_iload_n hx hb dX15_counts_10 rfl (lv_at hl 0 rfl) ?_
  refine lv_if_le (tgt := 41) hx hb dX15_counts_11 (by decide) (fun c_11 => ?_) (fun c_11 => ?_)
  · have h := h.1 c_11
    refine lv_iconst (v := (0 : Int32)) hx hb dX15_counts_41 (by decide) ?_
    refine W.widen (k := 0) (n := 0) (Nat.le_of_ble_eq_true rfl) (Nat.le_of_ble_eq_true rfl) ?_
    exact W.zret (v := (0 : Int32)) hx hb hr nbo_0.n (fun t ht hW9 => ⟨⟨(0 : Int32), w, rfl, h, rpt ht hR⟩, hS.F ht⟩) hS.2.2 dX15_counts_42
  · have h := h.2 c_11
    refine lv_iload_n hx hb dX15_counts_14 rfl (lv_at hl 0 rfl) ?_
    refine lv_aload_n hx hb dX15_counts_15 rfl (lv_at hl 1 rfl) ?_
    refine g11_4 hx hb hts hown hK hR l0 q1260 dX15_counts_16 ?_
    refine lv_icmp_lt (tgt := 41) hx hb dX15_counts_19 (by decide) (fun c_19 => ?_) (fun c_19 => ?_)
    · have h := h.1 c_19
      refine lv_iconst (v := (0 : Int32)) hx hb dX15_counts_41 (by decide) ?_
      refine W.widen (k := 0) (n := 0) (Nat.le_of_ble_eq_true rfl) (Nat.le_of_ble_eq_true rfl) ?_
      exact W.zret (v := (0 : Int32)) hx hb hr nbo_0.n (fun t ht hW9 => ⟨⟨(0 : Int32), w, rfl, h, rpt ht hR⟩, hS.F ht⟩) hS.2.2 dX15_counts_42
    · have h := h.2 c_19
      refine lv_aload_n hx hb dX15_counts_22 rfl (lv_at hl 2 rfl) ?_
      refine g9_11 hx hb hts hown hK hR l1 q1142 dX15_counts_23 ?_
      refine lv_if_ne (tgt := 41) hx hb dX15_counts_26 (by decide) (fun c_26 => ?_) (fun c_26 => ?_)
      · have h := h.1 c_26
        refine lv_iconst (v := (0 : Int32)) hx hb dX15_counts_41 (by decide) ?_
        refine W.widen (k := 0) (n := 0) (Nat.le_of_ble_eq_true rfl) (Nat.le_of_ble_eq_true rfl) ?_
        exact W.zret (v := (0 : Int32)) hx hb hr nbo_0.n (fun t ht hW9 => ⟨⟨(0 : Int32), w, rfl, h, rpt ht hR⟩, hS.F ht⟩) hS.2.2 dX15_counts_42
      · have h := h.2 c_26
        refine lv_aload_n hx hb dX15_counts_29 rfl (lv_at hl 2 rfl) ?_
        refine lv_iload_n hx hb dX15_counts_30 rfl (lv_at hl 0 rfl) ?_
        refine ce_qi (fw := fun u => u) (fy := fun _ => y) (cr_V (n := 1) (As := [.int (x_9)]) (rest := []) ⟨hx, hb, hml, hown, hts⟩ hK hR (m_X12_isLandEnough hW l1 h) q1353 q1323 q1324 q106 q1325 rfl rfl hd_X12_isLandEnough ⟨Nat.le_of_ble_eq_true rfl, Nat.le_of_ble_eq_true rfl⟩ (rv hK hR l1 (ci := 7) rfl rfl) rfl rfl hl.1 rfl (lv_room (Nat.le_of_ble_eq_true rfl)) dX15_counts_31 ⟨(Nat.le_of_ble_eq_true rfl), (Nat.le_of_ble_eq_true rfl)⟩) hR hS (fun r_31 w_31 H locs h hR _ hS => ?_)
        refine lv_if_eq (tgt := 41) hx hb dX15_counts_34 (by decide) (fun c_34 => ?_) (fun c_34 => ?_)
        · have h := h.1 c_34
          refine lv_iconst (v := (0 : Int32)) hx hb dX15_counts_41 (by decide) ?_
          refine W.widen (k := 0) (n := 0) (Nat.le_of_ble_eq_true rfl) (Nat.le_of_ble_eq_true rfl) ?_
          exact W.zret (v := (0 : Int32)) hx hb hr nbo_0.n (fun t ht hW9 => ⟨⟨(0 : Int32), w_31, rfl, h, rpt ht hR⟩, hS.F ht⟩) hS.2.2 dX15_counts_42
        · have h := h.2 c_34
          refine lv_iconst (v := (1 : Int32)) hx hb dX15_counts_37 (by decide) ?_
          refine lv_goto (tgt := 42) hx hb dX15_counts_38 (by decide) ?_
          refine W.widen (k := 0) (n := 0) (Nat.le_of_ble_eq_true rfl) (Nat.le_of_ble_eq_true rfl) ?_
          exact W.zret (v := (1 : Int32)) hx hb hr nbo_1.n (fun t ht hW9 => ⟨⟨(1 : Int32), w_31, rfl, h, rpt ht hR⟩, hS.F ht⟩) hS.2.2 dX15_counts_42
abbrev rm_X15_installment : Room := { frames := 0, cells := 0, slots := 0, locals := 0 }
def sp_X15_installment (κ : Kx) (y : Ly) (post : Int32 → Wd → Prop) (w : Wd) (a0 : Nat) (p1 : Int32) : Prop := (¬ gv w 11 a0 3 = 0) ∧ (((¬ p1 = 0) → (post (((gv w 11 a0 9) / (gv w 11 a0 3)) + (0 : Int32)) w)) ∧ ((p1 = 0) → ((¬ gv w 11 a0 3 = 0) ∧ (post (((gv w 11 a0 9) / (gv w 11 a0 3)) + ((gv w 11 a0 9) - (gv w 11 a0 9) / (gv w 11 a0 3) * (gv w 11 a0 3))) w))))
theorem hd_X15_installment : yX15_installment.cls = RX15 ∧ yX15_installment.cls ≠ "java/lang/invoke/MethodHandle" ∧ yX15_installment.cls ≠ "java/lang/invoke/VarHandle" ∧ (parseMethodDescriptor yX15_installment.desc).map (fun d => d.parameters.length) = some 1 := by decide +kernel
set_option maxHeartbeats 4000000 in
theorem m_X15_installment {l : Launch} {κ : Kx} {y : Ly} {X : XR} {post : Int32 → Wd → Prop} {w : Wd} {a0 : Nat} {p1 : Int32}  (hW : WFc κ y) (l0 : live y 11 a0) (h : sp_X15_installment κ y post w a0 p1) : Met l yX15_installment (ws_ yX15_installment cX15_installment 2 (Option.some Jvm.ClassFile.FieldType.int)) rm_X15_installment (va_Pc [.ref (y.2 11 a0), .int (p1)] (RC κ w y X)) (va_Qi post (fun w t => Rp κ w y X [] t.heap) (Af κ)) 0 0 (Af κ) := by
  unfold sp_X15_installment at h
  refine Met.ofW (cc := cX15_installment) (maxL := 2) (ret := (Option.some Jvm.ClassFile.FieldType.int)) (by decide) rfl ?_
  intro p e s m args below meth c s₁ B hml hv
  obtain ⟨rfl, hR, hK⟩ := hv
  have hx := B.exec
  have hb := B.bytes
  have hr := B.returns
  have hts := atoms_spec (ws := ws_ yX15_installment cX15_installment 2 (Option.some Jvm.ClassFile.FieldType.int)) B.pre
  have hts : ∀ w ∈ lw_all, w.before _ s = true := fun w h => hts w (List.mem_cons_of_mem _ h)
  have hown : s.vm.findClass RX15 = some m.cls := findClass_of_methodNamed B.named
  have hlocks := B.notSynchronized
  have hS : va_S (Af κ) s.heap s.heap [] := va_S.rf
  have hl := lv_entry ([.ref (y.2 11 a0), .int (p1)]) (n := 2) (Nat.le_of_ble_eq_true rfl)
  rw [lg_entry_eq]
  generalize (lg_sl ([.ref (y.2 11 a0), .int (p1)]) ++ List.replicate (2 - (lg_sl ([.ref (y.2 11 a0), .int (p1)])).length) Slot.unset).toArray = ls at hl ⊢
  have hl : lv_has ls 2 [(0, .ref (y.2 11 a0)), (1, .int (p1))] := hl
  refine lv_aload_n hx hb dX15_installment_0 rfl (lv_at hl 0 rfl) ?_
  refine g11_9 hx hb hts hown hK hR l0 q1270 dX15_installment_1 ?_
  refine lv_aload_n hx hb dX15_installment_4 rfl (lv_at hl 0 rfl) ?_
  refine g11_3 hx hb hts hown hK hR l0 q1258 dX15_installment_5 ?_
  have o_8 := h.1
  have h := h.2
  refine lv_idiv hx hb dX15_installment_8 o_8 ?_
  refine lv_iload_n hx hb dX15_installment_9 rfl (lv_at hl 1 rfl) ?_
  refine lv_if_ne (tgt := 25) hx hb dX15_installment_10 (by decide) (fun c_10 => ?_) (fun c_10 => ?_)
  · have h := h.1 c_10
    refine lv_iconst (v := (0 : Int32)) hx hb dX15_installment_25 (by decide) ?_
    refine lv_iadd hx hb dX15_installment_26 ?_
    refine W.widen (k := 0) (n := 0) (Nat.le_of_ble_eq_true rfl) (Nat.le_of_ble_eq_true rfl) ?_
    exact W.iret (v := ((gv w 11 a0 9) / (gv w 11 a0 3)) + (0 : Int32)) hx hb hr (fun t ht hW9 => ⟨⟨((gv w 11 a0 9) / (gv w 11 a0 3)) + (0 : Int32), w, rfl, h, rpt ht hR⟩, hS.F ht⟩) hS.2.2 dX15_installment_27
  · have h := h.2 c_10
    refine lv_aload_n hx hb dX15_installment_13 rfl (lv_at hl 0 rfl) ?_
    refine g11_9 hx hb hts hown hK hR l0 q1270 dX15_installment_14 ?_
    refine lv_aload_n hx hb dX15_installment_17 rfl (lv_at hl 0 rfl) ?_
    refine g11_3 hx hb hts hown hK hR l0 q1258 dX15_installment_18 ?_
    have o_21 := h.1
    have h := h.2
    refine lv_irem hx hb dX15_installment_21 o_21 ?_
    refine lv_goto (tgt := 26) hx hb dX15_installment_22 (by decide) ?_
    refine lv_iadd hx hb dX15_installment_26 ?_
    refine W.widen (k := 0) (n := 0) (Nat.le_of_ble_eq_true rfl) (Nat.le_of_ble_eq_true rfl) ?_
    exact W.iret (v := ((gv w 11 a0 9) / (gv w 11 a0 3)) + ((gv w 11 a0 9) - (gv w 11 a0 9) / (gv w 11 a0 3) * (gv w 11 a0 3))) hx hb hr (fun t ht hW9 => ⟨⟨((gv w 11 a0 9) / (gv w 11 a0 3)) + ((gv w 11 a0 9) - (gv w 11 a0 9) / (gv w 11 a0 3) * (gv w 11 a0 3)), w, rfl, h, rpt ht hR⟩, hS.F ht⟩) hS.2.2 dX15_installment_27
abbrev rm_X15_end : Room := { frames := 1, cells := 0, slots := 0, locals := 20 }
def sp_X15_end (κ : Kx) (y : Ly) (post : Wd → Prop) (w : Wd) (a0 : Nat) : Prop := sp_X15_isLeased κ y (fun r_1 w_1 => ((¬ r_1 = 0) → (∀ w_12 : Wd, w_12 = sv w_1 11 a0 7 (2 : Int32) → ∀ w_17 : Wd, w_17 = sv w_12 11 a0 10 ((0 : Int32)) → (y.1 14 a0 = 1 ∧ live y 9 (gv w_17 14 a0 0).toNatClampNeg) ∧ (∀ w_41 : Wd, w_41 = sv w_17 9 (((gv w_17 14 a0 0).toNatClampNeg)) 4 ((gv w_17 9 (((gv w_17 14 a0 0).toNatClampNeg)) 4) - ((gv w_17 11 a0 9) / (4 : Int32))) → post w_41))) ∧ ((r_1 = 0) → (post w_1))) w a0
theorem hd_X15_end : yX15_end.cls = RX15 ∧ yX15_end.cls ≠ "java/lang/invoke/MethodHandle" ∧ yX15_end.cls ≠ "java/lang/invoke/VarHandle" ∧ (parseMethodDescriptor yX15_end.desc).map (fun d => d.parameters.length) = some 0 := by decide +kernel
set_option maxHeartbeats 4000000 in
theorem m_X15_end {l : Launch} {κ : Kx} {y : Ly} {X : XR} {post : Wd → Prop} {w : Wd} {a0 : Nat}  (hW : WFc κ y) (l0 : live y 11 a0) (h : sp_X15_end κ y post w a0) : Met l yX15_end (ws_ yX15_end cX15_end 1 (Option.none : Option Jvm.ClassFile.FieldType)) rm_X15_end (va_Pc [.ref (y.2 11 a0)] (RC κ w y X)) (va_Qv post (fun w t => Rp κ w y X [] t.heap) (Af κ)) 0 0 (Af κ) := by
  unfold sp_X15_end at h
  refine Met.ofW (cc := cX15_end) (maxL := 1) (ret := (Option.none : Option Jvm.ClassFile.FieldType)) (by decide) rfl ?_
  intro p e s m args below meth c s₁ B hml hv
  obtain ⟨rfl, hR, hK⟩ := hv
  have hx := B.exec
  have hb := B.bytes
  have hr := B.returns
  have hts := atoms_spec (ws := ws_ yX15_end cX15_end 1 (Option.none : Option Jvm.ClassFile.FieldType)) B.pre
  have hts : ∀ w ∈ lw_all, w.before _ s = true := fun w h => hts w (List.mem_cons_of_mem _ h)
  have hown : s.vm.findClass RX15 = some m.cls := findClass_of_methodNamed B.named
  have hlocks := B.notSynchronized
  have hS : va_S (Af κ) s.heap s.heap [] := va_S.rf
  have hl := lv_entry ([.ref (y.2 11 a0)]) (n := 1) (Nat.le_of_ble_eq_true rfl)
  rw [lg_entry_eq]
  generalize (lg_sl ([.ref (y.2 11 a0)]) ++ List.replicate (1 - (lg_sl ([.ref (y.2 11 a0)])).length) Slot.unset).toArray = ls at hl ⊢
  have hl : lv_has ls 1 [(0, .ref (y.2 11 a0))] := hl
  refine lv_aload_n hx hb dX15_end_0 rfl (lv_at hl 0 rfl) ?_
  refine ce_qi (fw := fun u => u) (fy := fun _ => y) (cr_V (n := 0) (As := []) (rest := []) ⟨hx, hb, hml, hown, hts⟩ hK hR (m_X15_isLeased hW l0 h) q1395 q516 q517 q112 q518 rfl rfl hd_X15_isLeased ⟨Nat.le_of_ble_eq_true rfl, Nat.le_of_ble_eq_true rfl⟩ (rv hK hR l0 (ci := 9) rfl rfl) rfl rfl hl.1 rfl (lv_room (Nat.le_of_ble_eq_true rfl)) dX15_end_1 ⟨(Nat.le_of_ble_eq_true rfl), (Nat.le_of_ble_eq_true rfl)⟩) hR hS (fun r_1 w_1 H locs h hR _ hS => ?_)
  refine lv_if_ne (tgt := 8) hx hb dX15_end_4 (by decide) (fun c_4 => ?_) (fun c_4 => ?_)
  · have h := h.1 c_4
    refine lv_aload_n hx hb dX15_end_8 rfl (lv_at hl 0 rfl) ?_
    refine jr_gets (C := "Publicanry$Stand") (n := "OVER") (d := "LPublicanry$Stand;") (j := 12) hx hb hown hK hR hS (List.mem_of_getElem? (i := 4) rfl) q1396 hts dX15_end_9 ?_
    refine p11_7 (x := (2 : Int32)) (j := 2) hx hb hts hown hK hR hS l0 (by decide) q1266 dX15_end_12 (fun H locs w_12 ew_12 hR hS => ?_)
    have h := h w_12 ew_12
    refine lv_aload_n hx hb dX15_end_15 rfl (lv_at hl 0 rfl) ?_
    refine lv_iconst (v := (0 : Int32)) hx hb dX15_end_16 (by decide) ?_
    refine p11_10 hx hb hts hown hK hR hS l0 q1272 dX15_end_17 (fun H locs w_17 ew_17 hR hS => ?_)
    have h := h w_17 ew_17
    refine lv_aload_n hx hb dX15_end_20 rfl (lv_at hl 0 rfl) ?_
    refine g11_8 hx hb hts hown hK hR l0 q1268 dX15_end_21 ?_
    have o_24 := h.1
    have h := h.2
    refine jr_oget (z := y.2 9 ((gv w_17 14 a0 0).toNatClampNeg)) ⟨hx, hb, hml, hown, hts⟩ hK (ho_at hK hR a0) (if_pos o_24.1) q1398 ⟨Nat.le_of_ble_eq_true rfl, Nat.le_of_ble_eq_true rfl⟩ hl.1 (Nat.le_of_ble_eq_true rfl) dX15_end_24 ⟨(Nat.le_of_ble_eq_true rfl), (Nat.le_of_ble_eq_true rfl)⟩ ?_
    refine jr_castS (ci := 7) hx hb hown hK hts (hR.role o_24.2) rfl q1348 dX15_end_27 ?_
    refine lv_dup hx hb dX15_end_30 rfl ?_
    refine g9_4 hx hb hts hown hK hR o_24.2 q1130 dX15_end_31 ?_
    refine lv_aload_n hx hb dX15_end_34 rfl (lv_at hl 0 rfl) ?_
    refine g11_9 hx hb hts hown hK hR l0 q1270 dX15_end_35 ?_
    refine lv_iconst (v := (4 : Int32)) hx hb dX15_end_38 (by decide) ?_
    refine lv_idiv hx hb dX15_end_39 (by decide) ?_
    refine lv_isub hx hb dX15_end_40 ?_
    refine p9_4 hx hb hts hown hK hR hS o_24.2 q1130 dX15_end_41 (fun H locs w_41 ew_41 hR hS => ?_)
    have h := h w_41 ew_41
    refine W.widen (k := 0) (n := 0) (Nat.le_of_ble_eq_true rfl) (Nat.le_of_ble_eq_true rfl) ?_
    exact W.vret hx hb hr (fun t ht hW9 => ⟨⟨w_41, rfl, h, rpt ht hR⟩, hS.F ht⟩) hS.2.2 dX15_end_44
  · have h := h.2 c_4
    refine W.widen (k := 0) (n := 0) (Nat.le_of_ble_eq_true rfl) (Nat.le_of_ble_eq_true rfl) ?_
    exact W.vret hx hb hr (fun t ht hW9 => ⟨⟨w_1, rfl, h, rpt ht hR⟩, hS.F ht⟩) hS.2.2 dX15_end_7
abbrev rm_X17_told : Room := { frames := 1, cells := 0, slots := 0, locals := 20 }
def sp_X17_told (κ : Kx) (y : Ly) (post : Int32 → Wd → Prop) (w : Wd) (a0 : Nat) (p1 : Int32) : Prop := (p1 = (0 : Int32) → (post (gv w 16 a0 0) w)) ∧ (p1 = (1 : Int32) → (post (gv w 16 a0 1) w)) ∧ (p1 = (2 : Int32) → (post (gv w 16 a0 2) w)) ∧ (p1 = (3 : Int32) → (post (gv w 16 a0 3) w)) ∧ (p1 = (4 : Int32) → (post (gv w 16 a0 4) w)) ∧ (¬ p1 = (0 : Int32) → ¬ p1 = (1 : Int32) → ¬ p1 = (2 : Int32) → ¬ p1 = (3 : Int32) → ¬ p1 = (4 : Int32) → (sp_X1_one κ y (fun r_65 w_65 => post (r_65) w_65) w (gv w 16 a0 5)))
theorem hd_X17_told : yX17_told.cls = RX17 ∧ yX17_told.cls ≠ "java/lang/invoke/MethodHandle" ∧ yX17_told.cls ≠ "java/lang/invoke/VarHandle" ∧ (parseMethodDescriptor yX17_told.desc).map (fun d => d.parameters.length) = some 1 := by decide +kernel
set_option maxHeartbeats 4000000 in
theorem m_X17_told {l : Launch} {κ : Kx} {y : Ly} {X : XR} {post : Int32 → Wd → Prop} {w : Wd} {a0 : Nat} {p1 : Int32}  (hW : WFc κ y) (l0 : live y 16 a0) (h : sp_X17_told κ y post w a0 p1) : Met l yX17_told (ws_ yX17_told cX17_told 2 (Option.some Jvm.ClassFile.FieldType.int)) rm_X17_told (va_Pc [.ref (y.2 16 a0), .int (p1)] (RC κ w y X)) (va_Qi post (fun w t => Rp κ w y X [] t.heap) (Af κ)) 0 0 (Af κ) := by
  unfold sp_X17_told at h
  refine Met.ofW (cc := cX17_told) (maxL := 2) (ret := (Option.some Jvm.ClassFile.FieldType.int)) (by decide) rfl ?_
  intro p e s m args below meth c s₁ B hml hv
  obtain ⟨rfl, hR, hK⟩ := hv
  have hx := B.exec
  have hb := B.bytes
  have hr := B.returns
  have hts := atoms_spec (ws := ws_ yX17_told cX17_told 2 (Option.some Jvm.ClassFile.FieldType.int)) B.pre
  have hts : ∀ w ∈ lw_all, w.before _ s = true := fun w h => hts w (List.mem_cons_of_mem _ h)
  have hown : s.vm.findClass RX17 = some m.cls := findClass_of_methodNamed B.named
  have hlocks := B.notSynchronized
  have hS : va_S (Af κ) s.heap s.heap [] := va_S.rf
  have hl := lv_entry ([.ref (y.2 16 a0), .int (p1)]) (n := 2) (Nat.le_of_ble_eq_true rfl)
  rw [lg_entry_eq]
  generalize (lg_sl ([.ref (y.2 16 a0), .int (p1)]) ++ List.replicate (2 - (lg_sl ([.ref (y.2 16 a0), .int (p1)])).length) Slot.unset).toArray = ls at hl ⊢
  have hl : lv_has ls 2 [(0, .ref (y.2 16 a0)), (1, .int (p1))] := hl
  refine lv_iload_n hx hb dX17_told_0 rfl (lv_at hl 1 rfl) ?_
  by_cases c_1 : p1 = (0 : Int32)
  · have h := h.1 c_1
    refine lv_tableIn (off := 35) (tgt := 36) hx hb dX17_told_1 (by rw [c_1]; decide) (by rw [c_1]; decide) (by rw [c_1]; rfl) (by decide) ?_
    refine lv_aload_n hx hb dX17_told_36 rfl (lv_at hl 0 rfl) ?_
    refine g16_0 hx hb hts hown hK hR l0 q1543 dX17_told_37 ?_
    refine W.widen (k := 0) (n := 0) (Nat.le_of_ble_eq_true rfl) (Nat.le_of_ble_eq_true rfl) ?_
    exact W.iret (v := gv w 16 a0 0) hx hb hr (fun t ht hW9 => ⟨⟨gv w 16 a0 0, w, rfl, h, rpt ht hR⟩, hS.F ht⟩) hS.2.2 dX17_told_40
  replace h := h.2
  by_cases c_1_a : p1 = (1 : Int32)
  · have h := h.1 c_1_a
    refine lv_tableIn (off := 40) (tgt := 41) hx hb dX17_told_1 (by rw [c_1_a]; decide) (by rw [c_1_a]; decide) (by rw [c_1_a]; rfl) (by decide) ?_
    refine lv_aload_n hx hb dX17_told_41 rfl (lv_at hl 0 rfl) ?_
    refine g16_1 hx hb hts hown hK hR l0 q1545 dX17_told_42 ?_
    refine W.widen (k := 0) (n := 0) (Nat.le_of_ble_eq_true rfl) (Nat.le_of_ble_eq_true rfl) ?_
    exact W.iret (v := gv w 16 a0 1) hx hb hr (fun t ht hW9 => ⟨⟨gv w 16 a0 1, w, rfl, h, rpt ht hR⟩, hS.F ht⟩) hS.2.2 dX17_told_45
  replace h := h.2
  by_cases c_1_b : p1 = (2 : Int32)
  · have h := h.1 c_1_b
    refine lv_tableIn (off := 45) (tgt := 46) hx hb dX17_told_1 (by rw [c_1_b]; decide) (by rw [c_1_b]; decide) (by rw [c_1_b]; rfl) (by decide) ?_
    refine lv_aload_n hx hb dX17_told_46 rfl (lv_at hl 0 rfl) ?_
    refine g16_2 hx hb hts hown hK hR l0 q1546 dX17_told_47 ?_
    refine W.widen (k := 0) (n := 0) (Nat.le_of_ble_eq_true rfl) (Nat.le_of_ble_eq_true rfl) ?_
    exact W.iret (v := gv w 16 a0 2) hx hb hr (fun t ht hW9 => ⟨⟨gv w 16 a0 2, w, rfl, h, rpt ht hR⟩, hS.F ht⟩) hS.2.2 dX17_told_50
  replace h := h.2
  by_cases c_1_c : p1 = (3 : Int32)
  · have h := h.1 c_1_c
    refine lv_tableIn (off := 50) (tgt := 51) hx hb dX17_told_1 (by rw [c_1_c]; decide) (by rw [c_1_c]; decide) (by rw [c_1_c]; rfl) (by decide) ?_
    refine lv_aload_n hx hb dX17_told_51 rfl (lv_at hl 0 rfl) ?_
    refine g16_3 hx hb hts hown hK hR l0 q1547 dX17_told_52 ?_
    refine W.widen (k := 0) (n := 0) (Nat.le_of_ble_eq_true rfl) (Nat.le_of_ble_eq_true rfl) ?_
    exact W.iret (v := gv w 16 a0 3) hx hb hr (fun t ht hW9 => ⟨⟨gv w 16 a0 3, w, rfl, h, rpt ht hR⟩, hS.F ht⟩) hS.2.2 dX17_told_55
  replace h := h.2
  by_cases c_1_d : p1 = (4 : Int32)
  · have h := h.1 c_1_d
    refine lv_tableIn (off := 55) (tgt := 56) hx hb dX17_told_1 (by rw [c_1_d]; decide) (by rw [c_1_d]; decide) (by rw [c_1_d]; rfl) (by decide) ?_
    refine lv_aload_n hx hb dX17_told_56 rfl (lv_at hl 0 rfl) ?_
    refine g16_4 hx hb hts hown hK hR l0 q1549 dX17_told_57 ?_
    refine W.widen (k := 0) (n := 0) (Nat.le_of_ble_eq_true rfl) (Nat.le_of_ble_eq_true rfl) ?_
    exact W.iret (v := gv w 16 a0 4) hx hb hr (fun t ht hW9 => ⟨⟨gv w 16 a0 4, w, rfl, h, rpt ht hR⟩, hS.F ht⟩) hS.2.2 dX17_told_60
  replace h := h.2
  replace h := h c_1 c_1_a c_1_b c_1_c c_1_d
  refine lv_tableOut (tgt := 61) hx hb dX17_told_1 (tb_out (lo := 0) (hi := 4) (fun v h1 h2 => by
    have h3 : v = 0 ∨ v = 1 ∨ v = 2 ∨ v = 3 ∨ v = 4 := by omega
    rcases h3 with rfl | rfl | rfl | rfl | rfl
    · exact c_1
    · exact c_1_a
    · exact c_1_b
    · exact c_1_c
    · exact c_1_d
    )) (by decide) ?_
  refine lv_aload_n hx hb dX17_told_61 rfl (lv_at hl 0 rfl) ?_
  refine g16_5 hx hb hts hown hK hR l0 q1551 dX17_told_62 ?_
  refine ce_qi (fw := fun u => u) (fy := fun _ => y) (cr_SN (n := 1) (As := [.int (gv w 16 a0 5)]) (rest := []) ⟨hx, hb, hml, hown, hts⟩ hK hR (m_X1_one hW h) (List.mem_of_getElem? (i := 10) rfl) q549 q74 q550 rfl rfl hds_X1_one ⟨Nat.le_of_ble_eq_true rfl, Nat.le_of_ble_eq_true rfl⟩ rfl rfl hl.1 rfl (lv_room (Nat.le_of_ble_eq_true rfl)) dX17_told_65 ⟨(Nat.le_of_ble_eq_true rfl), (Nat.le_of_ble_eq_true rfl)⟩) hR hS (fun r_65 w_65 H locs h hR _ hS => ?_)
  refine W.widen (k := 0) (n := 0) (Nat.le_of_ble_eq_true rfl) (Nat.le_of_ble_eq_true rfl) ?_
  exact W.iret (v := r_65) hx hb hr (fun t ht hW9 => ⟨⟨r_65, w_65, rfl, h, rpt ht hR⟩, hS.F ht⟩) hS.2.2 dX17_told_68
abbrev rm_X17_over : Room := { frames := 0, cells := 0, slots := 0, locals := 0 }
def sp_X17_over (κ : Kx) (y : Ly) (post : Int32 → Wd → Prop) (w : Wd) (a0 : Nat) : Prop := post ((gv w 16 a0 2) - (gv w 16 a0 3)) w
theorem hd_X17_over : yX17_over.cls = RX17 ∧ yX17_over.cls ≠ "java/lang/invoke/MethodHandle" ∧ yX17_over.cls ≠ "java/lang/invoke/VarHandle" ∧ (parseMethodDescriptor yX17_over.desc).map (fun d => d.parameters.length) = some 0 := by decide +kernel
set_option maxHeartbeats 4000000 in
theorem m_X17_over {l : Launch} {κ : Kx} {y : Ly} {X : XR} {post : Int32 → Wd → Prop} {w : Wd} {a0 : Nat}  (hW : WFc κ y) (l0 : live y 16 a0) (h : sp_X17_over κ y post w a0) : Met l yX17_over (ws_ yX17_over cX17_over 1 (Option.some Jvm.ClassFile.FieldType.int)) rm_X17_over (va_Pc [.ref (y.2 16 a0)] (RC κ w y X)) (va_Qi post (fun w t => Rp κ w y X [] t.heap) (Af κ)) 0 0 (Af κ) := by
  unfold sp_X17_over at h
  refine Met.ofW (cc := cX17_over) (maxL := 1) (ret := (Option.some Jvm.ClassFile.FieldType.int)) (by decide) rfl ?_
  intro p e s m args below meth c s₁ B hml hv
  obtain ⟨rfl, hR, hK⟩ := hv
  have hx := B.exec
  have hb := B.bytes
  have hr := B.returns
  have hts := atoms_spec (ws := ws_ yX17_over cX17_over 1 (Option.some Jvm.ClassFile.FieldType.int)) B.pre
  have hts : ∀ w ∈ lw_all, w.before _ s = true := fun w h => hts w (List.mem_cons_of_mem _ h)
  have hown : s.vm.findClass RX17 = some m.cls := findClass_of_methodNamed B.named
  have hlocks := B.notSynchronized
  have hS : va_S (Af κ) s.heap s.heap [] := va_S.rf
  have hl := lv_entry ([.ref (y.2 16 a0)]) (n := 1) (Nat.le_of_ble_eq_true rfl)
  rw [lg_entry_eq]
  generalize (lg_sl ([.ref (y.2 16 a0)]) ++ List.replicate (1 - (lg_sl ([.ref (y.2 16 a0)])).length) Slot.unset).toArray = ls at hl ⊢
  have hl : lv_has ls 1 [(0, .ref (y.2 16 a0))] := hl
  refine lv_aload_n hx hb dX17_over_0 rfl (lv_at hl 0 rfl) ?_
  refine g16_2 hx hb hts hown hK hR l0 q1546 dX17_over_1 ?_
  refine lv_aload_n hx hb dX17_over_4 rfl (lv_at hl 0 rfl) ?_
  refine g16_3 hx hb hts hown hK hR l0 q1547 dX17_over_5 ?_
  refine lv_isub hx hb dX17_over_8 ?_
  refine W.widen (k := 0) (n := 0) (Nat.le_of_ble_eq_true rfl) (Nat.le_of_ble_eq_true rfl) ?_
  exact W.iret (v := (gv w 16 a0 2) - (gv w 16 a0 3)) hx hb hr (fun t ht hW9 => ⟨⟨(gv w 16 a0 2) - (gv w 16 a0 3), w, rfl, h, rpt ht hR⟩, hS.F ht⟩) hS.2.2 dX17_over_9
abbrev rm_X18_due : Room := { frames := 0, cells := 0, slots := 0, locals := 0 }
def sp_X18_due (κ : Kx) (y : Ly) (post : Int32 → Wd → Prop) (w : Wd) (a0 : Nat) (a1 : Nat) (p2 : Int32) : Prop := post (((gv w 6 a1 13) * p2) / (1000 : Int32)) w
theorem hd_X18_due : yX18_due.cls = RX18 ∧ yX18_due.cls ≠ "java/lang/invoke/MethodHandle" ∧ yX18_due.cls ≠ "java/lang/invoke/VarHandle" ∧ (parseMethodDescriptor yX18_due.desc).map (fun d => d.parameters.length) = some 2 := by decide +kernel
set_option maxHeartbeats 4000000 in
theorem m_X18_due {l : Launch} {κ : Kx} {y : Ly} {X : XR} {post : Int32 → Wd → Prop} {w : Wd} {a0 : Nat} {a1 : Nat} {p2 : Int32}  (hW : WFc κ y) (l0 : a0 < 3) (l1 : live y 6 a1) (h : sp_X18_due κ y post w a0 a1 p2) : MetN l yX18_due (ws_ yX18_due cX18_due 3 (Option.some Jvm.ClassFile.FieldType.int)) rm_X18_due (va_Pc [.ref (kA κ (20 + a0)), .ref (y.2 6 a1), .int (p2)] (RC κ w y X)) (va_Qi post (fun w t => Rp κ w y X [] t.heap) (Af κ)) 0 0 (Af κ) := by
  unfold sp_X18_due at h
  refine MetN.ofW (cc := cX18_due) (maxL := 3) (ret := (Option.some Jvm.ClassFile.FieldType.int)) (by decide) rfl ?_
  intro p e s m args below meth c hx hb hr hlocks hpre hnamed hml hv
  obtain ⟨rfl, hR, hK⟩ := hv
  have hts := atoms_spec (ws := ws_ yX18_due cX18_due 3 (Option.some Jvm.ClassFile.FieldType.int)) hpre
  have hts : ∀ w ∈ lw_all, w.before _ s = true := fun w h => hts w (List.mem_cons_of_mem _ h)
  have hown : s.vm.findClass RX18 = some m.cls := findClass_of_methodNamed hnamed
  have hS : va_S (Af κ) s.heap s.heap [] := va_S.rf
  have hl := lv_entry ([.ref (kA κ (20 + a0)), .ref (y.2 6 a1), .int (p2)]) (n := 3) (Nat.le_of_ble_eq_true rfl)
  rw [lg_entry_eq]
  generalize (lg_sl ([.ref (kA κ (20 + a0)), .ref (y.2 6 a1), .int (p2)]) ++ List.replicate (3 - (lg_sl ([.ref (kA κ (20 + a0)), .ref (y.2 6 a1), .int (p2)])).length) Slot.unset).toArray = ls at hl ⊢
  have hl : lv_has ls 3 [(0, .ref (kA κ (20 + a0))), (1, .ref (y.2 6 a1)), (2, .int (p2))] := hl
  refine lv_aload_n hx hb dX18_due_0 rfl (lv_at hl 1 rfl) ?_
  refine g6_13 hx hb hts hown hK hR l1 q947 dX18_due_1 ?_
  refine lv_iload_n hx hb dX18_due_4 rfl (lv_at hl 2 rfl) ?_
  refine lv_imul hx hb dX18_due_5 ?_
  refine lv_sipush (v := (1000 : Int32)) hx hb dX18_due_6 (by decide) ?_
  refine lv_idiv hx hb dX18_due_9 (by decide) ?_
  refine W.widen (k := 0) (n := 0) (Nat.le_of_ble_eq_true rfl) (Nat.le_of_ble_eq_true rfl) ?_
  exact W.iret (v := ((gv w 6 a1 13) * p2) / (1000 : Int32)) hx hb hr (fun t ht hW9 => ⟨⟨((gv w 6 a1 13) * p2) / (1000 : Int32), w, rfl, h, rpt ht hR⟩, hS.F ht⟩) hS.2.2 dX18_due_10
abbrev rm_X18_worth : Room := { frames := 0, cells := 0, slots := 0, locals := 0 }
def sp_X18_worth (κ : Kx) (y : Ly) (post : Int32 → Wd → Prop) (w : Wd) (a0 : Nat) (p1 : Int32) : Prop := post ((2 : Int32) * p1) w
theorem hd_X18_worth : yX18_worth.cls = RX18 ∧ yX18_worth.cls ≠ "java/lang/invoke/MethodHandle" ∧ yX18_worth.cls ≠ "java/lang/invoke/VarHandle" ∧ (parseMethodDescriptor yX18_worth.desc).map (fun d => d.parameters.length) = some 1 := by decide +kernel
set_option maxHeartbeats 4000000 in
theorem m_X18_worth {l : Launch} {κ : Kx} {y : Ly} {X : XR} {post : Int32 → Wd → Prop} {w : Wd} {a0 : Nat} {p1 : Int32}  (hW : WFc κ y) (l0 : a0 < 3) (h : sp_X18_worth κ y post w a0 p1) : MetN l yX18_worth (ws_ yX18_worth cX18_worth 2 (Option.some Jvm.ClassFile.FieldType.int)) rm_X18_worth (va_Pc [.ref (kA κ (20 + a0)), .int (p1)] (RC κ w y X)) (va_Qi post (fun w t => Rp κ w y X [] t.heap) (Af κ)) 0 0 (Af κ) := by
  unfold sp_X18_worth at h
  refine MetN.ofW (cc := cX18_worth) (maxL := 2) (ret := (Option.some Jvm.ClassFile.FieldType.int)) (by decide) rfl ?_
  intro p e s m args below meth c hx hb hr hlocks hpre hnamed hml hv
  obtain ⟨rfl, hR, hK⟩ := hv
  have hts := atoms_spec (ws := ws_ yX18_worth cX18_worth 2 (Option.some Jvm.ClassFile.FieldType.int)) hpre
  have hts : ∀ w ∈ lw_all, w.before _ s = true := fun w h => hts w (List.mem_cons_of_mem _ h)
  have hown : s.vm.findClass RX18 = some m.cls := findClass_of_methodNamed hnamed
  have hS : va_S (Af κ) s.heap s.heap [] := va_S.rf
  have hl := lv_entry ([.ref (kA κ (20 + a0)), .int (p1)]) (n := 2) (Nat.le_of_ble_eq_true rfl)
  rw [lg_entry_eq]
  generalize (lg_sl ([.ref (kA κ (20 + a0)), .int (p1)]) ++ List.replicate (2 - (lg_sl ([.ref (kA κ (20 + a0)), .int (p1)])).length) Slot.unset).toArray = ls at hl ⊢
  have hl : lv_has ls 2 [(0, .ref (kA κ (20 + a0))), (1, .int (p1))] := hl
  refine lv_iconst (v := (2 : Int32)) hx hb dX18_worth_0 (by decide) ?_
  refine lv_iload_n hx hb dX18_worth_1 rfl (lv_at hl 1 rfl) ?_
  refine lv_imul hx hb dX18_worth_2 ?_
  refine W.widen (k := 0) (n := 0) (Nat.le_of_ble_eq_true rfl) (Nat.le_of_ble_eq_true rfl) ?_
  exact W.iret (v := (2 : Int32) * p1) hx hb hr (fun t ht hW9 => ⟨⟨(2 : Int32) * p1, w, rfl, h, rpt ht hR⟩, hS.F ht⟩) hS.2.2 dX18_worth_3
abbrev rm_X18_mostRate : Room := { frames := 0, cells := 0, slots := 0, locals := 0 }
def sp_X18_mostRate (κ : Kx) (y : Ly) (post : Int32 → Wd → Prop) (w : Wd) (a0 : Nat) : Prop := post ((300 : Int32)) w
theorem hd_X18_mostRate : yX18_mostRate.cls = RX18 ∧ yX18_mostRate.cls ≠ "java/lang/invoke/MethodHandle" ∧ yX18_mostRate.cls ≠ "java/lang/invoke/VarHandle" ∧ (parseMethodDescriptor yX18_mostRate.desc).map (fun d => d.parameters.length) = some 0 := by decide +kernel
set_option maxHeartbeats 4000000 in
theorem m_X18_mostRate {l : Launch} {κ : Kx} {y : Ly} {X : XR} {post : Int32 → Wd → Prop} {w : Wd} {a0 : Nat}  (hW : WFc κ y) (l0 : a0 < 3) (h : sp_X18_mostRate κ y post w a0) : MetN l yX18_mostRate (ws_ yX18_mostRate cX18_mostRate 1 (Option.some Jvm.ClassFile.FieldType.int)) rm_X18_mostRate (va_Pc [.ref (kA κ (20 + a0))] (RC κ w y X)) (va_Qi post (fun w t => Rp κ w y X [] t.heap) (Af κ)) 0 0 (Af κ) := by
  unfold sp_X18_mostRate at h
  refine MetN.ofW (cc := cX18_mostRate) (maxL := 1) (ret := (Option.some Jvm.ClassFile.FieldType.int)) (by decide) rfl ?_
  intro p e s m args below meth c hx hb hr hlocks hpre hnamed hml hv
  obtain ⟨rfl, hR, hK⟩ := hv
  have hts := atoms_spec (ws := ws_ yX18_mostRate cX18_mostRate 1 (Option.some Jvm.ClassFile.FieldType.int)) hpre
  have hts : ∀ w ∈ lw_all, w.before _ s = true := fun w h => hts w (List.mem_cons_of_mem _ h)
  have hown : s.vm.findClass RX18 = some m.cls := findClass_of_methodNamed hnamed
  have hS : va_S (Af κ) s.heap s.heap [] := va_S.rf
  have hl := lv_entry ([.ref (kA κ (20 + a0))]) (n := 1) (Nat.le_of_ble_eq_true rfl)
  rw [lg_entry_eq]
  generalize (lg_sl ([.ref (kA κ (20 + a0))]) ++ List.replicate (1 - (lg_sl ([.ref (kA κ (20 + a0))])).length) Slot.unset).toArray = ls at hl ⊢
  have hl : lv_has ls 1 [(0, .ref (kA κ (20 + a0)))] := hl
  refine lv_sipush (v := (300 : Int32)) hx hb dX18_mostRate_0 (by decide) ?_
  refine W.widen (k := 0) (n := 0) (Nat.le_of_ble_eq_true rfl) (Nat.le_of_ble_eq_true rfl) ?_
  exact W.iret (v := (300 : Int32)) hx hb hr (fun t ht hW9 => ⟨⟨(300 : Int32), w, rfl, h, rpt ht hR⟩, hS.F ht⟩) hS.2.2 dX18_mostRate_3
abbrev rm_X19_due : Room := { frames := 0, cells := 0, slots := 0, locals := 0 }
def sp_X19_due (κ : Kx) (y : Ly) (post : Int32 → Wd → Prop) (w : Wd) (a0 : Nat) (a1 : Nat) (p2 : Int32) : Prop := post (((gv w 6 a1 8) * p2) / (100 : Int32)) w
theorem hd_X19_due : yX19_due.cls = RX19 ∧ yX19_due.cls ≠ "java/lang/invoke/MethodHandle" ∧ yX19_due.cls ≠ "java/lang/invoke/VarHandle" ∧ (parseMethodDescriptor yX19_due.desc).map (fun d => d.parameters.length) = some 2 := by decide +kernel
set_option maxHeartbeats 4000000 in
theorem m_X19_due {l : Launch} {κ : Kx} {y : Ly} {X : XR} {post : Int32 → Wd → Prop} {w : Wd} {a0 : Nat} {a1 : Nat} {p2 : Int32}  (hW : WFc κ y) (l0 : a0 < 3) (l1 : live y 6 a1) (h : sp_X19_due κ y post w a0 a1 p2) : MetN l yX19_due (ws_ yX19_due cX19_due 3 (Option.some Jvm.ClassFile.FieldType.int)) rm_X19_due (va_Pc [.ref (kA κ (20 + a0)), .ref (y.2 6 a1), .int (p2)] (RC κ w y X)) (va_Qi post (fun w t => Rp κ w y X [] t.heap) (Af κ)) 0 0 (Af κ) := by
  unfold sp_X19_due at h
  refine MetN.ofW (cc := cX19_due) (maxL := 3) (ret := (Option.some Jvm.ClassFile.FieldType.int)) (by decide) rfl ?_
  intro p e s m args below meth c hx hb hr hlocks hpre hnamed hml hv
  obtain ⟨rfl, hR, hK⟩ := hv
  have hts := atoms_spec (ws := ws_ yX19_due cX19_due 3 (Option.some Jvm.ClassFile.FieldType.int)) hpre
  have hts : ∀ w ∈ lw_all, w.before _ s = true := fun w h => hts w (List.mem_cons_of_mem _ h)
  have hown : s.vm.findClass RX19 = some m.cls := findClass_of_methodNamed hnamed
  have hS : va_S (Af κ) s.heap s.heap [] := va_S.rf
  have hl := lv_entry ([.ref (kA κ (20 + a0)), .ref (y.2 6 a1), .int (p2)]) (n := 3) (Nat.le_of_ble_eq_true rfl)
  rw [lg_entry_eq]
  generalize (lg_sl ([.ref (kA κ (20 + a0)), .ref (y.2 6 a1), .int (p2)]) ++ List.replicate (3 - (lg_sl ([.ref (kA κ (20 + a0)), .ref (y.2 6 a1), .int (p2)])).length) Slot.unset).toArray = ls at hl ⊢
  have hl : lv_has ls 3 [(0, .ref (kA κ (20 + a0))), (1, .ref (y.2 6 a1)), (2, .int (p2))] := hl
  refine lv_aload_n hx hb dX19_due_0 rfl (lv_at hl 1 rfl) ?_
  refine g6_8 hx hb hts hown hK hR l1 q936 dX19_due_1 ?_
  refine lv_iload_n hx hb dX19_due_4 rfl (lv_at hl 2 rfl) ?_
  refine lv_imul hx hb dX19_due_5 ?_
  refine lv_bipush (v := (100 : Int32)) hx hb dX19_due_6 (by decide) ?_
  refine lv_idiv hx hb dX19_due_8 (by decide) ?_
  refine W.widen (k := 0) (n := 0) (Nat.le_of_ble_eq_true rfl) (Nat.le_of_ble_eq_true rfl) ?_
  exact W.iret (v := ((gv w 6 a1 8) * p2) / (100 : Int32)) hx hb hr (fun t ht hW9 => ⟨⟨((gv w 6 a1 8) * p2) / (100 : Int32), w, rfl, h, rpt ht hR⟩, hS.F ht⟩) hS.2.2 dX19_due_9
abbrev rm_X19_mostRate : Room := { frames := 0, cells := 0, slots := 0, locals := 0 }
def sp_X19_mostRate (κ : Kx) (y : Ly) (post : Int32 → Wd → Prop) (w : Wd) (a0 : Nat) : Prop := post ((60 : Int32)) w
theorem hd_X19_mostRate : yX19_mostRate.cls = RX19 ∧ yX19_mostRate.cls ≠ "java/lang/invoke/MethodHandle" ∧ yX19_mostRate.cls ≠ "java/lang/invoke/VarHandle" ∧ (parseMethodDescriptor yX19_mostRate.desc).map (fun d => d.parameters.length) = some 0 := by decide +kernel
set_option maxHeartbeats 4000000 in
theorem m_X19_mostRate {l : Launch} {κ : Kx} {y : Ly} {X : XR} {post : Int32 → Wd → Prop} {w : Wd} {a0 : Nat}  (hW : WFc κ y) (l0 : a0 < 3) (h : sp_X19_mostRate κ y post w a0) : MetN l yX19_mostRate (ws_ yX19_mostRate cX19_mostRate 1 (Option.some Jvm.ClassFile.FieldType.int)) rm_X19_mostRate (va_Pc [.ref (kA κ (20 + a0))] (RC κ w y X)) (va_Qi post (fun w t => Rp κ w y X [] t.heap) (Af κ)) 0 0 (Af κ) := by
  unfold sp_X19_mostRate at h
  refine MetN.ofW (cc := cX19_mostRate) (maxL := 1) (ret := (Option.some Jvm.ClassFile.FieldType.int)) (by decide) rfl ?_
  intro p e s m args below meth c hx hb hr hlocks hpre hnamed hml hv
  obtain ⟨rfl, hR, hK⟩ := hv
  have hts := atoms_spec (ws := ws_ yX19_mostRate cX19_mostRate 1 (Option.some Jvm.ClassFile.FieldType.int)) hpre
  have hts : ∀ w ∈ lw_all, w.before _ s = true := fun w h => hts w (List.mem_cons_of_mem _ h)
  have hown : s.vm.findClass RX19 = some m.cls := findClass_of_methodNamed hnamed
  have hS : va_S (Af κ) s.heap s.heap [] := va_S.rf
  have hl := lv_entry ([.ref (kA κ (20 + a0))]) (n := 1) (Nat.le_of_ble_eq_true rfl)
  rw [lg_entry_eq]
  generalize (lg_sl ([.ref (kA κ (20 + a0))]) ++ List.replicate (1 - (lg_sl ([.ref (kA κ (20 + a0))])).length) Slot.unset).toArray = ls at hl ⊢
  have hl : lv_has ls 1 [(0, .ref (kA κ (20 + a0)))] := hl
  refine lv_bipush (v := (60 : Int32)) hx hb dX19_mostRate_0 (by decide) ?_
  refine W.widen (k := 0) (n := 0) (Nat.le_of_ble_eq_true rfl) (Nat.le_of_ble_eq_true rfl) ?_
  exact W.iret (v := (60 : Int32)) hx hb hr (fun t ht hW9 => ⟨⟨(60 : Int32), w, rfl, h, rpt ht hR⟩, hS.F ht⟩) hS.2.2 dX19_mostRate_2
abbrev rm_X2_coins : Room := { frames := 0, cells := 0, slots := 0, locals := 0 }
def sp_X2_coins (κ : Kx) (y : Ly) (post : Int32 → Wd → Prop) (w : Wd) (a0 : Nat) : Prop := post (gv w 1 a0 0) w
theorem hd_X2_coins : yX2_coins.cls = RX2 ∧ yX2_coins.cls ≠ "java/lang/invoke/MethodHandle" ∧ yX2_coins.cls ≠ "java/lang/invoke/VarHandle" ∧ (parseMethodDescriptor yX2_coins.desc).map (fun d => d.parameters.length) = some 0 := by decide +kernel
set_option maxHeartbeats 4000000 in
theorem m_X2_coins {l : Launch} {κ : Kx} {y : Ly} {X : XR} {post : Int32 → Wd → Prop} {w : Wd} {a0 : Nat}  (hW : WFc κ y) (l0 : live y 1 a0) (h : sp_X2_coins κ y post w a0) : Met l yX2_coins (ws_ yX2_coins cX2_coins 1 (Option.some Jvm.ClassFile.FieldType.int)) rm_X2_coins (va_Pc [.ref (y.2 1 a0)] (RC κ w y X)) (va_Qi post (fun w t => Rp κ w y X [] t.heap) (Af κ)) 0 0 (Af κ) := by
  unfold sp_X2_coins at h
  refine Met.ofW (cc := cX2_coins) (maxL := 1) (ret := (Option.some Jvm.ClassFile.FieldType.int)) (by decide) rfl ?_
  intro p e s m args below meth c s₁ B hml hv
  obtain ⟨rfl, hR, hK⟩ := hv
  have hx := B.exec
  have hb := B.bytes
  have hr := B.returns
  have hts := atoms_spec (ws := ws_ yX2_coins cX2_coins 1 (Option.some Jvm.ClassFile.FieldType.int)) B.pre
  have hts : ∀ w ∈ lw_all, w.before _ s = true := fun w h => hts w (List.mem_cons_of_mem _ h)
  have hown : s.vm.findClass RX2 = some m.cls := findClass_of_methodNamed B.named
  have hlocks := B.notSynchronized
  have hS : va_S (Af κ) s.heap s.heap [] := va_S.rf
  have hl := lv_entry ([.ref (y.2 1 a0)]) (n := 1) (Nat.le_of_ble_eq_true rfl)
  rw [lg_entry_eq]
  generalize (lg_sl ([.ref (y.2 1 a0)]) ++ List.replicate (1 - (lg_sl ([.ref (y.2 1 a0)])).length) Slot.unset).toArray = ls at hl ⊢
  have hl : lv_has ls 1 [(0, .ref (y.2 1 a0))] := hl
  refine lv_aload_n hx hb dX2_coins_0 rfl (lv_at hl 0 rfl) ?_
  refine g1_0 hx hb hts hown hK hR l0 q169 dX2_coins_1 ?_
  refine W.widen (k := 0) (n := 0) (Nat.le_of_ble_eq_true rfl) (Nat.le_of_ble_eq_true rfl) ?_
  exact W.iret (v := gv w 1 a0 0) hx hb hr (fun t ht hW9 => ⟨⟨gv w 1 a0 0, w, rfl, h, rpt ht hR⟩, hS.F ht⟩) hS.2.2 dX2_coins_4
abbrev rm_X2_take : Room := { frames := 0, cells := 0, slots := 0, locals := 0 }
def sp_X2_take (κ : Kx) (y : Ly) (post : Wd → Prop) (w : Wd) (a0 : Nat) (p1 : Int32) : Prop := ∀ w_7 : Wd, w_7 = sv w 1 a0 0 ((gv w 1 a0 0) + p1) → post w_7
theorem hd_X2_take : yX2_take.cls = RX2 ∧ yX2_take.cls ≠ "java/lang/invoke/MethodHandle" ∧ yX2_take.cls ≠ "java/lang/invoke/VarHandle" ∧ (parseMethodDescriptor yX2_take.desc).map (fun d => d.parameters.length) = some 1 := by decide +kernel
set_option maxHeartbeats 4000000 in
theorem m_X2_take {l : Launch} {κ : Kx} {y : Ly} {X : XR} {post : Wd → Prop} {w : Wd} {a0 : Nat} {p1 : Int32}  (hW : WFc κ y) (l0 : live y 1 a0) (h : sp_X2_take κ y post w a0 p1) : Met l yX2_take (ws_ yX2_take cX2_take 2 (Option.none : Option Jvm.ClassFile.FieldType)) rm_X2_take (va_Pc [.ref (y.2 1 a0), .int (p1)] (RC κ w y X)) (va_Qv post (fun w t => Rp κ w y X [] t.heap) (Af κ)) 0 0 (Af κ) := by
  unfold sp_X2_take at h
  refine Met.ofW (cc := cX2_take) (maxL := 2) (ret := (Option.none : Option Jvm.ClassFile.FieldType)) (by decide) rfl ?_
  intro p e s m args below meth c s₁ B hml hv
  obtain ⟨rfl, hR, hK⟩ := hv
  have hx := B.exec
  have hb := B.bytes
  have hr := B.returns
  have hts := atoms_spec (ws := ws_ yX2_take cX2_take 2 (Option.none : Option Jvm.ClassFile.FieldType)) B.pre
  have hts : ∀ w ∈ lw_all, w.before _ s = true := fun w h => hts w (List.mem_cons_of_mem _ h)
  have hown : s.vm.findClass RX2 = some m.cls := findClass_of_methodNamed B.named
  have hlocks := B.notSynchronized
  have hS : va_S (Af κ) s.heap s.heap [] := va_S.rf
  have hl := lv_entry ([.ref (y.2 1 a0), .int (p1)]) (n := 2) (Nat.le_of_ble_eq_true rfl)
  rw [lg_entry_eq]
  generalize (lg_sl ([.ref (y.2 1 a0), .int (p1)]) ++ List.replicate (2 - (lg_sl ([.ref (y.2 1 a0), .int (p1)])).length) Slot.unset).toArray = ls at hl ⊢
  have hl : lv_has ls 2 [(0, .ref (y.2 1 a0)), (1, .int (p1))] := hl
  refine lv_aload_n hx hb dX2_take_0 rfl (lv_at hl 0 rfl) ?_
  refine lv_dup hx hb dX2_take_1 rfl ?_
  refine g1_0 hx hb hts hown hK hR l0 q169 dX2_take_2 ?_
  refine lv_iload_n hx hb dX2_take_5 rfl (lv_at hl 1 rfl) ?_
  refine lv_iadd hx hb dX2_take_6 ?_
  refine p1_0 hx hb hts hown hK hR hS l0 q169 dX2_take_7 (fun H locs w_7 ew_7 hR hS => ?_)
  have h := h w_7 ew_7
  refine W.widen (k := 0) (n := 0) (Nat.le_of_ble_eq_true rfl) (Nat.le_of_ble_eq_true rfl) ?_
  exact W.vret hx hb hr (fun t ht hW9 => ⟨⟨w_7, rfl, h, rpt ht hR⟩, hS.F ht⟩) hS.2.2 dX2_take_10
abbrev rm_X2_pay : Room := { frames := 1, cells := 0, slots := 0, locals := 24 }
def sp_X2_pay (κ : Kx) (y : Ly) (post : Int32 → Wd → Prop) (w : Wd) (a0 : Nat) (a1 : Nat) (p2 : Int32) : Prop := ∀ x_8 : Int32, x_8 = jmin (gv w 1 a0 0) p2 → ∀ w_16 : Wd, w_16 = sv w 1 a0 0 ((gv w 1 a0 0) - x_8) → sp_X2_take κ y (fun w_21 => post (x_8) w_21) w_16 a1 x_8
theorem hd_X2_pay : yX2_pay.cls = RX2 ∧ yX2_pay.cls ≠ "java/lang/invoke/MethodHandle" ∧ yX2_pay.cls ≠ "java/lang/invoke/VarHandle" ∧ (parseMethodDescriptor yX2_pay.desc).map (fun d => d.parameters.length) = some 2 := by decide +kernel
set_option maxHeartbeats 4000000 in
theorem m_X2_pay {l : Launch} {κ : Kx} {y : Ly} {X : XR} {post : Int32 → Wd → Prop} {w : Wd} {a0 : Nat} {a1 : Nat} {p2 : Int32}  (hW : WFc κ y) (l0 : live y 1 a0) (l1 : live y 1 a1) (n0 : a0 ≠ 0) (h : sp_X2_pay κ y post w a0 a1 p2) : Met l yX2_pay (ws_ yX2_pay cX2_pay 4 (Option.some Jvm.ClassFile.FieldType.int)) rm_X2_pay (va_Pc [.ref (y.2 1 a0), .ref (y.2 1 a1), .int (p2)] (RC κ w y X)) (va_Qi post (fun w t => Rp κ w y X [] t.heap) (Af κ)) 0 0 (Af κ) := by
  unfold sp_X2_pay at h
  refine Met.ofW (cc := cX2_pay) (maxL := 4) (ret := (Option.some Jvm.ClassFile.FieldType.int)) (by decide) rfl ?_
  intro p e s m args below meth c s₁ B hml hv
  obtain ⟨rfl, hR, hK⟩ := hv
  have hx := B.exec
  have hb := B.bytes
  have hr := B.returns
  have hts := atoms_spec (ws := ws_ yX2_pay cX2_pay 4 (Option.some Jvm.ClassFile.FieldType.int)) B.pre
  have hts : ∀ w ∈ lw_all, w.before _ s = true := fun w h => hts w (List.mem_cons_of_mem _ h)
  have hown : s.vm.findClass RX2 = some m.cls := findClass_of_methodNamed B.named
  have hlocks := B.notSynchronized
  have hS : va_S (Af κ) s.heap s.heap [] := va_S.rf
  have hl := lv_entry ([.ref (y.2 1 a0), .ref (y.2 1 a1), .int (p2)]) (n := 4) (Nat.le_of_ble_eq_true rfl)
  rw [lg_entry_eq]
  generalize (lg_sl ([.ref (y.2 1 a0), .ref (y.2 1 a1), .int (p2)]) ++ List.replicate (4 - (lg_sl ([.ref (y.2 1 a0), .ref (y.2 1 a1), .int (p2)])).length) Slot.unset).toArray = ls at hl ⊢
  have hl : lv_has ls 4 [(0, .ref (y.2 1 a0)), (1, .ref (y.2 1 a1)), (2, .int (p2))] := hl
  refine lv_aload_n hx hb dX2_pay_0 rfl (lv_at hl 0 rfl) ?_
  refine g1_0 hx hb hts hown hK hR l0 q169 dX2_pay_1 ?_
  refine lv_iload_n hx hb dX2_pay_4 rfl (lv_at hl 2 rfl) ?_
  refine va_mmin hx hb (hml.trans hl.1.symm) hown (hts _ q321) (hts _ q322) (hts _ q95) (hts _ q323) (Nat.le_of_ble_eq_true rfl) (Nat.le_of_ble_eq_true rfl) (Nat.le_of_ble_eq_true rfl) (Nat.le_of_ble_eq_true rfl) dX2_pay_5 ?_
  refine lv_topi (fun x_8 ex_8 => ?_)
  have h := h x_8 ex_8
  refine lv_istore_n (lv' := [(3, .int (x_8)), (0, .ref (y.2 1 a0)), (1, .ref (y.2 1 a1)), (2, .int (p2))]) hx hb dX2_pay_8 rfl hl (by decide) rfl (fun ls hl => ?_)
  refine lv_aload_n hx hb dX2_pay_9 rfl (lv_at hl 1 rfl) ?_
  refine lv_dup hx hb dX2_pay_10 rfl ?_
  refine g1_0 hx hb hts hown hK hR l0 q169 dX2_pay_11 ?_
  refine lv_iload_n hx hb dX2_pay_14 rfl (lv_at hl 0 rfl) ?_
  refine lv_isub hx hb dX2_pay_15 ?_
  refine p1_0 hx hb hts hown hK hR hS l0 q169 dX2_pay_16 (fun H locs w_16 ew_16 hR hS => ?_)
  have h := h w_16 ew_16
  refine lv_aload_n hx hb dX2_pay_19 rfl (lv_at hl 2 rfl) ?_
  refine lv_iload_n hx hb dX2_pay_20 rfl (lv_at hl 0 rfl) ?_
  refine ce_qv (fw := fun u => u) (fy := fun _ => y) (cr_take (v9 := x_8) (rest := []) ⟨hx, hb, hml, hown, hts⟩ hK hR l1 (m_X2_take hW l1 h) q324 rfl rfl ⟨Nat.le_of_ble_eq_true rfl, Nat.le_of_ble_eq_true rfl⟩ rfl hl.1 rfl (lv_room (Nat.le_of_ble_eq_true rfl)) dX2_pay_21 ⟨(Nat.le_of_ble_eq_true rfl), (Nat.le_of_ble_eq_true rfl)⟩) hR hS (fun w_21 H locs h hR _ hS => ?_)
  refine lv_iload_n hx hb dX2_pay_24 rfl (lv_at hl 0 rfl) ?_
  refine W.widen (k := 0) (n := 0) (Nat.le_of_ble_eq_true rfl) (Nat.le_of_ble_eq_true rfl) ?_
  exact W.iret (v := x_8) hx hb hr (fun t ht hW9 => ⟨⟨x_8, w_21, rfl, h, rpt ht hR⟩, hS.F ht⟩) hS.2.2 dX2_pay_25
abbrev rm_X2_hasAll : Room := { frames := 0, cells := 0, slots := 0, locals := 0 }
def sp_X2_hasAll (κ : Kx) (y : Ly) (post : Int32 → Wd → Prop) (w : Wd) (a0 : Nat) (p1 : Int32) : Prop := ((gv w 1 a0 0 < p1) → (post ((0 : Int32)) w)) ∧ ((¬ (gv w 1 a0 0 < p1)) → (post ((1 : Int32)) w))
theorem hd_X2_hasAll : yX2_hasAll.cls = RX2 ∧ yX2_hasAll.cls ≠ "java/lang/invoke/MethodHandle" ∧ yX2_hasAll.cls ≠ "java/lang/invoke/VarHandle" ∧ (parseMethodDescriptor yX2_hasAll.desc).map (fun d => d.parameters.length) = some 1 := by decide +kernel
set_option maxHeartbeats 4000000 in
theorem m_X2_hasAll {l : Launch} {κ : Kx} {y : Ly} {X : XR} {post : Int32 → Wd → Prop} {w : Wd} {a0 : Nat} {p1 : Int32}  (hW : WFc κ y) (l0 : live y 1 a0) (h : sp_X2_hasAll κ y post w a0 p1) : Met l yX2_hasAll (ws_ yX2_hasAll cX2_hasAll 2 (Option.some Jvm.ClassFile.FieldType.boolean)) rm_X2_hasAll (va_Pc [.ref (y.2 1 a0), .int (p1)] (RC κ w y X)) (va_Qi post (fun w t => Rp κ w y X [] t.heap) (Af κ)) 0 0 (Af κ) := by
  unfold sp_X2_hasAll at h
  refine Met.ofW (cc := cX2_hasAll) (maxL := 2) (ret := (Option.some Jvm.ClassFile.FieldType.boolean)) (by decide) rfl ?_
  intro p e s m args below meth c s₁ B hml hv
  obtain ⟨rfl, hR, hK⟩ := hv
  have hx := B.exec
  have hb := B.bytes
  have hr := B.returns
  have hts := atoms_spec (ws := ws_ yX2_hasAll cX2_hasAll 2 (Option.some Jvm.ClassFile.FieldType.boolean)) B.pre
  have hts : ∀ w ∈ lw_all, w.before _ s = true := fun w h => hts w (List.mem_cons_of_mem _ h)
  have hown : s.vm.findClass RX2 = some m.cls := findClass_of_methodNamed B.named
  have hlocks := B.notSynchronized
  have hS : va_S (Af κ) s.heap s.heap [] := va_S.rf
  have hl := lv_entry ([.ref (y.2 1 a0), .int (p1)]) (n := 2) (Nat.le_of_ble_eq_true rfl)
  rw [lg_entry_eq]
  generalize (lg_sl ([.ref (y.2 1 a0), .int (p1)]) ++ List.replicate (2 - (lg_sl ([.ref (y.2 1 a0), .int (p1)])).length) Slot.unset).toArray = ls at hl ⊢
  have hl : lv_has ls 2 [(0, .ref (y.2 1 a0)), (1, .int (p1))] := hl
  refine lv_aload_n hx hb dX2_hasAll_0 rfl (lv_at hl 0 rfl) ?_
  refine g1_0 hx hb hts hown hK hR l0 q169 dX2_hasAll_1 ?_
  refine lv_iload_n hx hb dX2_hasAll_4 rfl (lv_at hl 1 rfl) ?_
  refine lv_icmp_lt (tgt := 12) hx hb dX2_hasAll_5 (by decide) (fun c_5 => ?_) (fun c_5 => ?_)
  · have h := h.1 c_5
    refine lv_iconst (v := (0 : Int32)) hx hb dX2_hasAll_12 (by decide) ?_
    refine W.widen (k := 0) (n := 0) (Nat.le_of_ble_eq_true rfl) (Nat.le_of_ble_eq_true rfl) ?_
    exact W.zret (v := (0 : Int32)) hx hb hr nbo_0.n (fun t ht hW9 => ⟨⟨(0 : Int32), w, rfl, h, rpt ht hR⟩, hS.F ht⟩) hS.2.2 dX2_hasAll_13
  · have h := h.2 c_5
    refine lv_iconst (v := (1 : Int32)) hx hb dX2_hasAll_8 (by decide) ?_
    refine lv_goto (tgt := 13) hx hb dX2_hasAll_9 (by decide) ?_
    refine W.widen (k := 0) (n := 0) (Nat.le_of_ble_eq_true rfl) (Nat.le_of_ble_eq_true rfl) ?_
    exact W.zret (v := (1 : Int32)) hx hb hr nbo_1.n (fun t ht hW9 => ⟨⟨(1 : Int32), w, rfl, h, rpt ht hR⟩, hS.F ht⟩) hS.2.2 dX2_hasAll_13
abbrev rm_X20_due : Room := { frames := 0, cells := 0, slots := 0, locals := 0 }
def sp_X20_due (κ : Kx) (y : Ly) (post : Int32 → Wd → Prop) (w : Wd) (a0 : Nat) (a1 : Nat) (p2 : Int32) : Prop := post ((gv w 6 a1 6) * p2) w
theorem hd_X20_due : yX20_due.cls = RX20 ∧ yX20_due.cls ≠ "java/lang/invoke/MethodHandle" ∧ yX20_due.cls ≠ "java/lang/invoke/VarHandle" ∧ (parseMethodDescriptor yX20_due.desc).map (fun d => d.parameters.length) = some 2 := by decide +kernel
set_option maxHeartbeats 4000000 in
theorem m_X20_due {l : Launch} {κ : Kx} {y : Ly} {X : XR} {post : Int32 → Wd → Prop} {w : Wd} {a0 : Nat} {a1 : Nat} {p2 : Int32}  (hW : WFc κ y) (l0 : a0 < 3) (l1 : live y 6 a1) (h : sp_X20_due κ y post w a0 a1 p2) : MetN l yX20_due (ws_ yX20_due cX20_due 3 (Option.some Jvm.ClassFile.FieldType.int)) rm_X20_due (va_Pc [.ref (kA κ (20 + a0)), .ref (y.2 6 a1), .int (p2)] (RC κ w y X)) (va_Qi post (fun w t => Rp κ w y X [] t.heap) (Af κ)) 0 0 (Af κ) := by
  unfold sp_X20_due at h
  refine MetN.ofW (cc := cX20_due) (maxL := 3) (ret := (Option.some Jvm.ClassFile.FieldType.int)) (by decide) rfl ?_
  intro p e s m args below meth c hx hb hr hlocks hpre hnamed hml hv
  obtain ⟨rfl, hR, hK⟩ := hv
  have hts := atoms_spec (ws := ws_ yX20_due cX20_due 3 (Option.some Jvm.ClassFile.FieldType.int)) hpre
  have hts : ∀ w ∈ lw_all, w.before _ s = true := fun w h => hts w (List.mem_cons_of_mem _ h)
  have hown : s.vm.findClass RX20 = some m.cls := findClass_of_methodNamed hnamed
  have hS : va_S (Af κ) s.heap s.heap [] := va_S.rf
  have hl := lv_entry ([.ref (kA κ (20 + a0)), .ref (y.2 6 a1), .int (p2)]) (n := 3) (Nat.le_of_ble_eq_true rfl)
  rw [lg_entry_eq]
  generalize (lg_sl ([.ref (kA κ (20 + a0)), .ref (y.2 6 a1), .int (p2)]) ++ List.replicate (3 - (lg_sl ([.ref (kA κ (20 + a0)), .ref (y.2 6 a1), .int (p2)])).length) Slot.unset).toArray = ls at hl ⊢
  have hl : lv_has ls 3 [(0, .ref (kA κ (20 + a0))), (1, .ref (y.2 6 a1)), (2, .int (p2))] := hl
  refine lv_aload_n hx hb dX20_due_0 rfl (lv_at hl 1 rfl) ?_
  refine g6_6 hx hb hts hown hK hR l1 q931 dX20_due_1 ?_
  refine lv_iload_n hx hb dX20_due_4 rfl (lv_at hl 2 rfl) ?_
  refine lv_imul hx hb dX20_due_5 ?_
  refine W.widen (k := 0) (n := 0) (Nat.le_of_ble_eq_true rfl) (Nat.le_of_ble_eq_true rfl) ?_
  exact W.iret (v := (gv w 6 a1 6) * p2) hx hb hr (fun t ht hW9 => ⟨⟨(gv w 6 a1 6) * p2, w, rfl, h, rpt ht hR⟩, hS.F ht⟩) hS.2.2 dX20_due_6
def sp_D_due (κ : Kx) (y : Ly) (post : Int32 → Wd → Prop) (w : Wd) (a0 : Nat) (b1 : Nat) (p2 : Int32) : Prop := (a0 = 0 → sp_X18_due κ y post w a0 b1 p2) ∧ (a0 = 1 → sp_X19_due κ y post w a0 b1 p2) ∧ (a0 = 2 → sp_X20_due κ y post w a0 b1 p2)
abbrev rm_X20_mostRate : Room := { frames := 0, cells := 0, slots := 0, locals := 0 }
def sp_X20_mostRate (κ : Kx) (y : Ly) (post : Int32 → Wd → Prop) (w : Wd) (a0 : Nat) : Prop := post ((9 : Int32)) w
theorem hd_X20_mostRate : yX20_mostRate.cls = RX20 ∧ yX20_mostRate.cls ≠ "java/lang/invoke/MethodHandle" ∧ yX20_mostRate.cls ≠ "java/lang/invoke/VarHandle" ∧ (parseMethodDescriptor yX20_mostRate.desc).map (fun d => d.parameters.length) = some 0 := by decide +kernel
set_option maxHeartbeats 4000000 in
theorem m_X20_mostRate {l : Launch} {κ : Kx} {y : Ly} {X : XR} {post : Int32 → Wd → Prop} {w : Wd} {a0 : Nat}  (hW : WFc κ y) (l0 : a0 < 3) (h : sp_X20_mostRate κ y post w a0) : MetN l yX20_mostRate (ws_ yX20_mostRate cX20_mostRate 1 (Option.some Jvm.ClassFile.FieldType.int)) rm_X20_mostRate (va_Pc [.ref (kA κ (20 + a0))] (RC κ w y X)) (va_Qi post (fun w t => Rp κ w y X [] t.heap) (Af κ)) 0 0 (Af κ) := by
  unfold sp_X20_mostRate at h
  refine MetN.ofW (cc := cX20_mostRate) (maxL := 1) (ret := (Option.some Jvm.ClassFile.FieldType.int)) (by decide) rfl ?_
  intro p e s m args below meth c hx hb hr hlocks hpre hnamed hml hv
  obtain ⟨rfl, hR, hK⟩ := hv
  have hts := atoms_spec (ws := ws_ yX20_mostRate cX20_mostRate 1 (Option.some Jvm.ClassFile.FieldType.int)) hpre
  have hts : ∀ w ∈ lw_all, w.before _ s = true := fun w h => hts w (List.mem_cons_of_mem _ h)
  have hown : s.vm.findClass RX20 = some m.cls := findClass_of_methodNamed hnamed
  have hS : va_S (Af κ) s.heap s.heap [] := va_S.rf
  have hl := lv_entry ([.ref (kA κ (20 + a0))]) (n := 1) (Nat.le_of_ble_eq_true rfl)
  rw [lg_entry_eq]
  generalize (lg_sl ([.ref (kA κ (20 + a0))]) ++ List.replicate (1 - (lg_sl ([.ref (kA κ (20 + a0))])).length) Slot.unset).toArray = ls at hl ⊢
  have hl : lv_has ls 1 [(0, .ref (kA κ (20 + a0)))] := hl
  refine lv_bipush (v := (9 : Int32)) hx hb dX20_mostRate_0 (by decide) ?_
  refine W.widen (k := 0) (n := 0) (Nat.le_of_ble_eq_true rfl) (Nat.le_of_ble_eq_true rfl) ?_
  exact W.iret (v := (9 : Int32)) hx hb hr (fun t ht hW9 => ⟨⟨(9 : Int32), w, rfl, h, rpt ht hR⟩, hS.F ht⟩) hS.2.2 dX20_mostRate_2
def sp_D_mostRate (κ : Kx) (y : Ly) (post : Int32 → Wd → Prop) (w : Wd) (a0 : Nat) : Prop := (a0 = 0 → sp_X18_mostRate κ y post w a0) ∧ (a0 = 1 → sp_X19_mostRate κ y post w a0) ∧ (a0 = 2 → sp_X20_mostRate κ y post w a0)
abbrev rm_X3_pay : Room := { frames := 1, cells := 0, slots := 0, locals := 21 }
def sp_X3_pay (κ : Kx) (y : Ly) (post : Int32 → Wd → Prop) (w : Wd) (a1 : Nat) (p2 : Int32) : Prop := sp_X2_take κ y (fun w_3 => sp_X2_take κ y (fun w_8 => post (p2) w_8) w_3 a1 p2) w 0 (-p2)
theorem hd_X3_pay : yX3_pay.cls = RX3 ∧ yX3_pay.cls ≠ "java/lang/invoke/MethodHandle" ∧ yX3_pay.cls ≠ "java/lang/invoke/VarHandle" ∧ (parseMethodDescriptor yX3_pay.desc).map (fun d => d.parameters.length) = some 2 := by decide +kernel
set_option maxHeartbeats 4000000 in
theorem m_X3_pay {l : Launch} {κ : Kx} {y : Ly} {X : XR} {post : Int32 → Wd → Prop} {w : Wd} {a1 : Nat} {p2 : Int32}  (hW : WFc κ y) (l0 : live y 1 0) (l1 : live y 1 a1) (h : sp_X3_pay κ y post w a1 p2) : Met l yX3_pay (ws_ yX3_pay cX3_pay 3 (Option.some Jvm.ClassFile.FieldType.int)) rm_X3_pay (va_Pc [.ref (y.2 1 0), .ref (y.2 1 a1), .int (p2)] (RC κ w y X)) (va_Qi post (fun w t => Rp κ w y X [] t.heap) (Af κ)) 0 0 (Af κ) := by
  unfold sp_X3_pay at h
  refine Met.ofW (cc := cX3_pay) (maxL := 3) (ret := (Option.some Jvm.ClassFile.FieldType.int)) (by decide) rfl ?_
  intro p e s m args below meth c s₁ B hml hv
  obtain ⟨rfl, hR, hK⟩ := hv
  have hx := B.exec
  have hb := B.bytes
  have hr := B.returns
  have hts := atoms_spec (ws := ws_ yX3_pay cX3_pay 3 (Option.some Jvm.ClassFile.FieldType.int)) B.pre
  have hts : ∀ w ∈ lw_all, w.before _ s = true := fun w h => hts w (List.mem_cons_of_mem _ h)
  have hown : s.vm.findClass RX3 = some m.cls := findClass_of_methodNamed B.named
  have hlocks := B.notSynchronized
  have hS : va_S (Af κ) s.heap s.heap [] := va_S.rf
  have hl := lv_entry ([.ref (y.2 1 0), .ref (y.2 1 a1), .int (p2)]) (n := 3) (Nat.le_of_ble_eq_true rfl)
  rw [lg_entry_eq]
  generalize (lg_sl ([.ref (y.2 1 0), .ref (y.2 1 a1), .int (p2)]) ++ List.replicate (3 - (lg_sl ([.ref (y.2 1 0), .ref (y.2 1 a1), .int (p2)])).length) Slot.unset).toArray = ls at hl ⊢
  have hl : lv_has ls 3 [(0, .ref (y.2 1 0)), (1, .ref (y.2 1 a1)), (2, .int (p2))] := hl
  refine lv_aload_n hx hb dX3_pay_0 rfl (lv_at hl 0 rfl) ?_
  refine lv_iload_n hx hb dX3_pay_1 rfl (lv_at hl 2 rfl) ?_
  refine lv_ineg hx hb dX3_pay_2 ?_
  refine ce_qv (fw := fun u => u) (fy := fun _ => y) (cr_U (C := RX3) (owner := "Publicanry$Chest") (Z := ⟨"Publicanry$World", "take", "(I)V"⟩) (n := 1) (As := [.int (-p2)]) (rest := []) ⟨hx, hb, hml, hown, hts⟩ hK hR (m_X2_take hW l0 h) q313 q314 q316 q317 q78 q318 rfl rfl rfl (by decide +kernel) ⟨Nat.le_of_ble_eq_true rfl, Nat.le_of_ble_eq_true rfl⟩ (rv_ch0 hK hR l0) rfl rfl hl.1 rfl (lv_room (Nat.le_of_ble_eq_true rfl)) dX3_pay_3 ⟨(Nat.le_of_ble_eq_true rfl), (Nat.le_of_ble_eq_true rfl)⟩) hR hS (fun w_3 H locs h hR _ hS => ?_)
  refine lv_aload_n hx hb dX3_pay_6 rfl (lv_at hl 1 rfl) ?_
  refine lv_iload_n hx hb dX3_pay_7 rfl (lv_at hl 2 rfl) ?_
  refine ce_qv (fw := fun u => u) (fy := fun _ => y) (cr_take (v9 := p2) (rest := []) ⟨hx, hb, hml, hown, hts⟩ hK hR l1 (m_X2_take hW l1 h) q319 rfl rfl ⟨Nat.le_of_ble_eq_true rfl, Nat.le_of_ble_eq_true rfl⟩ rfl hl.1 rfl (lv_room (Nat.le_of_ble_eq_true rfl)) dX3_pay_8 ⟨(Nat.le_of_ble_eq_true rfl), (Nat.le_of_ble_eq_true rfl)⟩) hR hS (fun w_8 H locs h hR _ hS => ?_)
  refine lv_iload_n hx hb dX3_pay_11 rfl (lv_at hl 2 rfl) ?_
  refine W.widen (k := 0) (n := 0) (Nat.le_of_ble_eq_true rfl) (Nat.le_of_ble_eq_true rfl) ?_
  exact W.iret (v := p2) hx hb hr (fun t ht hW9 => ⟨⟨p2, w_8, rfl, h, rpt ht hR⟩, hS.F ht⟩) hS.2.2 dX3_pay_12
abbrev rm_X3_hasAll : Room := { frames := 0, cells := 0, slots := 0, locals := 0 }
def sp_X3_hasAll (κ : Kx) (y : Ly) (post : Int32 → Wd → Prop) (w : Wd) (p1 : Int32) : Prop := post ((1 : Int32)) w
theorem hd_X3_hasAll : yX3_hasAll.cls = RX3 ∧ yX3_hasAll.cls ≠ "java/lang/invoke/MethodHandle" ∧ yX3_hasAll.cls ≠ "java/lang/invoke/VarHandle" ∧ (parseMethodDescriptor yX3_hasAll.desc).map (fun d => d.parameters.length) = some 1 := by decide +kernel
set_option maxHeartbeats 4000000 in
theorem m_X3_hasAll {l : Launch} {κ : Kx} {y : Ly} {X : XR} {post : Int32 → Wd → Prop} {w : Wd} {p1 : Int32}  (hW : WFc κ y) (l0 : live y 1 0) (h : sp_X3_hasAll κ y post w p1) : Met l yX3_hasAll (ws_ yX3_hasAll cX3_hasAll 2 (Option.some Jvm.ClassFile.FieldType.boolean)) rm_X3_hasAll (va_Pc [.ref (y.2 1 0), .int (p1)] (RC κ w y X)) (va_Qi post (fun w t => Rp κ w y X [] t.heap) (Af κ)) 0 0 (Af κ) := by
  unfold sp_X3_hasAll at h
  refine Met.ofW (cc := cX3_hasAll) (maxL := 2) (ret := (Option.some Jvm.ClassFile.FieldType.boolean)) (by decide) rfl ?_
  intro p e s m args below meth c s₁ B hml hv
  obtain ⟨rfl, hR, hK⟩ := hv
  have hx := B.exec
  have hb := B.bytes
  have hr := B.returns
  have hts := atoms_spec (ws := ws_ yX3_hasAll cX3_hasAll 2 (Option.some Jvm.ClassFile.FieldType.boolean)) B.pre
  have hts : ∀ w ∈ lw_all, w.before _ s = true := fun w h => hts w (List.mem_cons_of_mem _ h)
  have hown : s.vm.findClass RX3 = some m.cls := findClass_of_methodNamed B.named
  have hlocks := B.notSynchronized
  have hS : va_S (Af κ) s.heap s.heap [] := va_S.rf
  have hl := lv_entry ([.ref (y.2 1 0), .int (p1)]) (n := 2) (Nat.le_of_ble_eq_true rfl)
  rw [lg_entry_eq]
  generalize (lg_sl ([.ref (y.2 1 0), .int (p1)]) ++ List.replicate (2 - (lg_sl ([.ref (y.2 1 0), .int (p1)])).length) Slot.unset).toArray = ls at hl ⊢
  have hl : lv_has ls 2 [(0, .ref (y.2 1 0)), (1, .int (p1))] := hl
  refine lv_iconst (v := (1 : Int32)) hx hb dX3_hasAll_0 (by decide) ?_
  refine W.widen (k := 0) (n := 0) (Nat.le_of_ble_eq_true rfl) (Nat.le_of_ble_eq_true rfl) ?_
  exact W.zret (v := (1 : Int32)) hx hb hr nbo_1.n (fun t ht hW9 => ⟨⟨(1 : Int32), w, rfl, h, rpt ht hR⟩, hS.F ht⟩) hS.2.2 dX3_hasAll_1
abbrev rm_X4_does : Room := { frames := 0, cells := 0, slots := 0, locals := 0 }
def sp_X4_does (κ : Kx) (y : Ly) (post : Int32 → Wd → Prop) (w : Wd) (a1 : Nat) (p2 : Int32) : Prop := ((p2 ≤ gv w 9 a1 8) → (∀ w_17 : Wd, w_17 = sv w 9 a1 8 ((gv w 9 a1 8) - p2) → ∀ w_27 : Wd, w_27 = sv w_17 2 0 1 ((gv w_17 2 0 1) + (1 : Int32)) → post ((1 : Int32)) w_27)) ∧ ((¬ (p2 ≤ gv w 9 a1 8)) → (post ((0 : Int32)) w))
theorem hd_X4_does : yX4_does.cls = RX4 ∧ yX4_does.cls ≠ "java/lang/invoke/MethodHandle" ∧ yX4_does.cls ≠ "java/lang/invoke/VarHandle" ∧ (parseMethodDescriptor yX4_does.desc).map (fun d => d.parameters.length) = some 2 := by decide +kernel
set_option maxHeartbeats 4000000 in
theorem m_X4_does {l : Launch} {κ : Kx} {y : Ly} {X : XR} {post : Int32 → Wd → Prop} {w : Wd} {a1 : Nat} {p2 : Int32}  (hW : WFc κ y) (l0 : live y 2 0) (l1 : live y 9 a1) (h : sp_X4_does κ y post w a1 p2) : Met l yX4_does (ws_ yX4_does cX4_does 3 (Option.some Jvm.ClassFile.FieldType.boolean)) rm_X4_does (va_Pc [.ref (y.2 2 0), .ref (y.2 9 a1), .int (p2)] (RC κ w y X)) (va_Qi post (fun w t => Rp κ w y X [] t.heap) (Af κ)) 0 0 (Af κ) := by
  unfold sp_X4_does at h
  refine Met.ofW (cc := cX4_does) (maxL := 3) (ret := (Option.some Jvm.ClassFile.FieldType.boolean)) (by decide) rfl ?_
  intro p e s m args below meth c s₁ B hml hv
  obtain ⟨rfl, hR, hK⟩ := hv
  have hx := B.exec
  have hb := B.bytes
  have hr := B.returns
  have hts := atoms_spec (ws := ws_ yX4_does cX4_does 3 (Option.some Jvm.ClassFile.FieldType.boolean)) B.pre
  have hts : ∀ w ∈ lw_all, w.before _ s = true := fun w h => hts w (List.mem_cons_of_mem _ h)
  have hown : s.vm.findClass RX4 = some m.cls := findClass_of_methodNamed B.named
  have hlocks := B.notSynchronized
  have hS : va_S (Af κ) s.heap s.heap [] := va_S.rf
  have hl := lv_entry ([.ref (y.2 2 0), .ref (y.2 9 a1), .int (p2)]) (n := 3) (Nat.le_of_ble_eq_true rfl)
  rw [lg_entry_eq]
  generalize (lg_sl ([.ref (y.2 2 0), .ref (y.2 9 a1), .int (p2)]) ++ List.replicate (3 - (lg_sl ([.ref (y.2 2 0), .ref (y.2 9 a1), .int (p2)])).length) Slot.unset).toArray = ls at hl ⊢
  have hl : lv_has ls 3 [(0, .ref (y.2 2 0)), (1, .ref (y.2 9 a1)), (2, .int (p2))] := hl
  refine lv_aload_n hx hb dX4_does_0 rfl (lv_at hl 1 rfl) ?_
  refine g9_8 hx hb hts hown hK hR l1 q1136 dX4_does_1 ?_
  refine lv_iload_n hx hb dX4_does_4 rfl (lv_at hl 2 rfl) ?_
  refine lv_icmp_ge (tgt := 10) hx hb dX4_does_5 (by decide) (fun c_5 => ?_) (fun c_5 => ?_)
  · have h := h.1 c_5
    refine lv_aload_n hx hb dX4_does_10 rfl (lv_at hl 1 rfl) ?_
    refine lv_dup hx hb dX4_does_11 rfl ?_
    refine g9_8 hx hb hts hown hK hR l1 q1136 dX4_does_12 ?_
    refine lv_iload_n hx hb dX4_does_15 rfl (lv_at hl 2 rfl) ?_
    refine lv_isub hx hb dX4_does_16 ?_
    refine p9_8 hx hb hts hown hK hR hS l1 q1136 dX4_does_17 (fun H locs w_17 ew_17 hR hS => ?_)
    have h := h w_17 ew_17
    refine lv_aload_n hx hb dX4_does_20 rfl (lv_at hl 0 rfl) ?_
    refine lv_dup hx hb dX4_does_21 rfl ?_
    refine g2_1 hx hb hts hown hK hR l0 q188 dX4_does_22 ?_
    refine lv_iconst (v := (1 : Int32)) hx hb dX4_does_25 (by decide) ?_
    refine lv_iadd hx hb dX4_does_26 ?_
    refine p2_1 hx hb hts hown hK hR hS l0 q188 dX4_does_27 (fun H locs w_27 ew_27 hR hS => ?_)
    have h := h w_27 ew_27
    refine lv_iconst (v := (1 : Int32)) hx hb dX4_does_30 (by decide) ?_
    refine W.widen (k := 0) (n := 0) (Nat.le_of_ble_eq_true rfl) (Nat.le_of_ble_eq_true rfl) ?_
    exact W.zret (v := (1 : Int32)) hx hb hr nbo_1.n (fun t ht hW9 => ⟨⟨(1 : Int32), w_27, rfl, h, rpt ht hR⟩, hS.F ht⟩) hS.2.2 dX4_does_31
  · have h := h.2 c_5
    refine lv_iconst (v := (0 : Int32)) hx hb dX4_does_8 (by decide) ?_
    refine W.widen (k := 0) (n := 0) (Nat.le_of_ble_eq_true rfl) (Nat.le_of_ble_eq_true rfl) ?_
    exact W.zret (v := (0 : Int32)) hx hb hr nbo_0.n (fun t ht hW9 => ⟨⟨(0 : Int32), w, rfl, h, rpt ht hR⟩, hS.F ht⟩) hS.2.2 dX4_does_9
abbrev rm_X6_tell : Room := { frames := 0, cells := 0, slots := 0, locals := 0 }
def sp_X6_tell (κ : Kx) (y : Ly) (post : Wd → Prop) (w : Wd) (a0 : Nat) (p1 : Int32) (p2 : Int32) : Prop := ∀ w_2 : Wd, w_2 = sv w 4 a0 2 (p1) → ∀ w_7 : Wd, w_7 = sv w_2 4 a0 3 (p2) → post w_7
theorem hd_X6_tell : yX6_tell.cls = RX6 ∧ yX6_tell.cls ≠ "java/lang/invoke/MethodHandle" ∧ yX6_tell.cls ≠ "java/lang/invoke/VarHandle" ∧ (parseMethodDescriptor yX6_tell.desc).map (fun d => d.parameters.length) = some 2 := by decide +kernel
set_option maxHeartbeats 4000000 in
theorem m_X6_tell {l : Launch} {κ : Kx} {y : Ly} {X : XR} {post : Wd → Prop} {w : Wd} {a0 : Nat} {p1 : Int32} {p2 : Int32}  (hW : WFc κ y) (l0 : live y 4 a0) (h : sp_X6_tell κ y post w a0 p1 p2) : Met l yX6_tell (ws_ yX6_tell cX6_tell 3 (Option.none : Option Jvm.ClassFile.FieldType)) rm_X6_tell (va_Pc [.ref (y.2 4 a0), .int (p1), .int (p2)] (RC κ w y X)) (va_Qv post (fun w t => Rp κ w y X [] t.heap) (Af κ)) 0 0 (Af κ) := by
  unfold sp_X6_tell at h
  refine Met.ofW (cc := cX6_tell) (maxL := 3) (ret := (Option.none : Option Jvm.ClassFile.FieldType)) (by decide) rfl ?_
  intro p e s m args below meth c s₁ B hml hv
  obtain ⟨rfl, hR, hK⟩ := hv
  have hx := B.exec
  have hb := B.bytes
  have hr := B.returns
  have hts := atoms_spec (ws := ws_ yX6_tell cX6_tell 3 (Option.none : Option Jvm.ClassFile.FieldType)) B.pre
  have hts : ∀ w ∈ lw_all, w.before _ s = true := fun w h => hts w (List.mem_cons_of_mem _ h)
  have hown : s.vm.findClass RX6 = some m.cls := findClass_of_methodNamed B.named
  have hlocks := B.notSynchronized
  have hS : va_S (Af κ) s.heap s.heap [] := va_S.rf
  have hl := lv_entry ([.ref (y.2 4 a0), .int (p1), .int (p2)]) (n := 3) (Nat.le_of_ble_eq_true rfl)
  rw [lg_entry_eq]
  generalize (lg_sl ([.ref (y.2 4 a0), .int (p1), .int (p2)]) ++ List.replicate (3 - (lg_sl ([.ref (y.2 4 a0), .int (p1), .int (p2)])).length) Slot.unset).toArray = ls at hl ⊢
  have hl : lv_has ls 3 [(0, .ref (y.2 4 a0)), (1, .int (p1)), (2, .int (p2))] := hl
  refine lv_aload_n hx hb dX6_tell_0 rfl (lv_at hl 0 rfl) ?_
  refine lv_iload_n hx hb dX6_tell_1 rfl (lv_at hl 1 rfl) ?_
  refine p4_2 hx hb hts hown hK hR hS l0 q229 dX6_tell_2 (fun H locs w_2 ew_2 hR hS => ?_)
  have h := h w_2 ew_2
  refine lv_aload_n hx hb dX6_tell_5 rfl (lv_at hl 0 rfl) ?_
  refine lv_iload_n hx hb dX6_tell_6 rfl (lv_at hl 2 rfl) ?_
  refine p4_3 hx hb hts hown hK hR hS l0 q231 dX6_tell_7 (fun H locs w_7 ew_7 hR hS => ?_)
  have h := h w_7 ew_7
  refine W.widen (k := 0) (n := 0) (Nat.le_of_ble_eq_true rfl) (Nat.le_of_ble_eq_true rfl) ?_
  exact W.vret hx hb hr (fun t ht hW9 => ⟨⟨w_7, rfl, h, rpt ht hR⟩, hS.F ht⟩) hS.2.2 dX6_tell_10
abbrev rm_X6_become : Room := { frames := 0, cells := 0, slots := 0, locals := 0 }
def sp_X6_become (κ : Kx) (y : Ly) (post : Int32 → Wd → Prop) (w : Wd) (a0 : Nat) : Prop := ((¬ gv w 4 a0 2 = (-1 : Int32)) → (∀ w_15 : Wd, w_15 = sv w 4 a0 0 (gv w 4 a0 2) → ∀ w_23 : Wd, w_23 = sv w_15 4 a0 1 (gv w_15 4 a0 3) → ∀ w_28 : Wd, w_28 = sv w_23 4 a0 2 ((-1 : Int32)) → post ((1 : Int32)) w_28)) ∧ ((gv w 4 a0 2 = (-1 : Int32)) → (post ((0 : Int32)) w))
theorem hd_X6_become : yX6_become.cls = RX6 ∧ yX6_become.cls ≠ "java/lang/invoke/MethodHandle" ∧ yX6_become.cls ≠ "java/lang/invoke/VarHandle" ∧ (parseMethodDescriptor yX6_become.desc).map (fun d => d.parameters.length) = some 0 := by decide +kernel
set_option maxHeartbeats 4000000 in
theorem m_X6_become {l : Launch} {κ : Kx} {y : Ly} {X : XR} {post : Int32 → Wd → Prop} {w : Wd} {a0 : Nat}  (hW : WFc κ y) (l0 : live y 4 a0) (h : sp_X6_become κ y post w a0) : Met l yX6_become (ws_ yX6_become cX6_become 1 (Option.some Jvm.ClassFile.FieldType.boolean)) rm_X6_become (va_Pc [.ref (y.2 4 a0)] (RC κ w y X)) (va_Qi post (fun w t => Rp κ w y X [] t.heap) (Af κ)) 0 0 (Af κ) := by
  unfold sp_X6_become at h
  refine Met.ofW (cc := cX6_become) (maxL := 1) (ret := (Option.some Jvm.ClassFile.FieldType.boolean)) (by decide) rfl ?_
  intro p e s m args below meth c s₁ B hml hv
  obtain ⟨rfl, hR, hK⟩ := hv
  have hx := B.exec
  have hb := B.bytes
  have hr := B.returns
  have hts := atoms_spec (ws := ws_ yX6_become cX6_become 1 (Option.some Jvm.ClassFile.FieldType.boolean)) B.pre
  have hts : ∀ w ∈ lw_all, w.before _ s = true := fun w h => hts w (List.mem_cons_of_mem _ h)
  have hown : s.vm.findClass RX6 = some m.cls := findClass_of_methodNamed B.named
  have hlocks := B.notSynchronized
  have hS : va_S (Af κ) s.heap s.heap [] := va_S.rf
  have hl := lv_entry ([.ref (y.2 4 a0)]) (n := 1) (Nat.le_of_ble_eq_true rfl)
  rw [lg_entry_eq]
  generalize (lg_sl ([.ref (y.2 4 a0)]) ++ List.replicate (1 - (lg_sl ([.ref (y.2 4 a0)])).length) Slot.unset).toArray = ls at hl ⊢
  have hl : lv_has ls 1 [(0, .ref (y.2 4 a0))] := hl
  refine lv_aload_n hx hb dX6_become_0 rfl (lv_at hl 0 rfl) ?_
  refine g4_2 hx hb hts hown hK hR l0 q229 dX6_become_1 ?_
  refine lv_iconst (v := (-1 : Int32)) hx hb dX6_become_4 (by decide) ?_
  refine lv_icmp_ne (tgt := 10) hx hb dX6_become_5 (by decide) (fun c_5 => ?_) (fun c_5 => ?_)
  · have h := h.1 c_5
    refine lv_aload_n hx hb dX6_become_10 rfl (lv_at hl 0 rfl) ?_
    refine lv_aload_n hx hb dX6_become_11 rfl (lv_at hl 0 rfl) ?_
    refine g4_2 hx hb hts hown hK hR l0 q229 dX6_become_12 ?_
    refine p4_0 hx hb hts hown hK hR hS l0 q223 dX6_become_15 (fun H locs w_15 ew_15 hR hS => ?_)
    have h := h w_15 ew_15
    refine lv_aload_n hx hb dX6_become_18 rfl (lv_at hl 0 rfl) ?_
    refine lv_aload_n hx hb dX6_become_19 rfl (lv_at hl 0 rfl) ?_
    refine g4_3 hx hb hts hown hK hR l0 q231 dX6_become_20 ?_
    refine p4_1 hx hb hts hown hK hR hS l0 q227 dX6_become_23 (fun H locs w_23 ew_23 hR hS => ?_)
    have h := h w_23 ew_23
    refine lv_aload_n hx hb dX6_become_26 rfl (lv_at hl 0 rfl) ?_
    refine lv_iconst (v := (-1 : Int32)) hx hb dX6_become_27 (by decide) ?_
    refine p4_2 hx hb hts hown hK hR hS l0 q229 dX6_become_28 (fun H locs w_28 ew_28 hR hS => ?_)
    have h := h w_28 ew_28
    refine lv_iconst (v := (1 : Int32)) hx hb dX6_become_31 (by decide) ?_
    refine W.widen (k := 0) (n := 0) (Nat.le_of_ble_eq_true rfl) (Nat.le_of_ble_eq_true rfl) ?_
    exact W.zret (v := (1 : Int32)) hx hb hr nbo_1.n (fun t ht hW9 => ⟨⟨(1 : Int32), w_28, rfl, h, rpt ht hR⟩, hS.F ht⟩) hS.2.2 dX6_become_32
  · have h := h.2 c_5
    refine lv_iconst (v := (0 : Int32)) hx hb dX6_become_8 (by decide) ?_
    refine W.widen (k := 0) (n := 0) (Nat.le_of_ble_eq_true rfl) (Nat.le_of_ble_eq_true rfl) ?_
    exact W.zret (v := (0 : Int32)) hx hb hr nbo_0.n (fun t ht hW9 => ⟨⟨(0 : Int32), w, rfl, h, rpt ht hR⟩, hS.F ht⟩) hS.2.2 dX6_become_9
abbrev rm_X7_worth : Room := { frames := 0, cells := 0, slots := 0, locals := 0 }
def sp_X7_worth (κ : Kx) (y : Ly) (post : Int32 → Wd → Prop) (w : Wd) (a0 : Nat) (p1 : Int32) : Prop := post (p1) w
theorem hd_X7_worth : yX7_worth.cls = RX7 ∧ yX7_worth.cls ≠ "java/lang/invoke/MethodHandle" ∧ yX7_worth.cls ≠ "java/lang/invoke/VarHandle" ∧ (parseMethodDescriptor yX7_worth.desc).map (fun d => d.parameters.length) = some 1 := by decide +kernel
set_option maxHeartbeats 4000000 in
theorem m_X7_worth {l : Launch} {κ : Kx} {y : Ly} {X : XR} {post : Int32 → Wd → Prop} {w : Wd} {a0 : Nat} {p1 : Int32}  (hW : WFc κ y) (l0 : a0 < 3) (h : sp_X7_worth κ y post w a0 p1) : Met l yX7_worth (ws_ yX7_worth cX7_worth 2 (Option.some Jvm.ClassFile.FieldType.int)) rm_X7_worth (va_Pc [.ref (kA κ (20 + a0)), .int (p1)] (RC κ w y X)) (va_Qi post (fun w t => Rp κ w y X [] t.heap) (Af κ)) 0 0 (Af κ) := by
  unfold sp_X7_worth at h
  refine Met.ofW (cc := cX7_worth) (maxL := 2) (ret := (Option.some Jvm.ClassFile.FieldType.int)) (by decide) rfl ?_
  intro p e s m args below meth c s₁ B hml hv
  obtain ⟨rfl, hR, hK⟩ := hv
  have hx := B.exec
  have hb := B.bytes
  have hr := B.returns
  have hts := atoms_spec (ws := ws_ yX7_worth cX7_worth 2 (Option.some Jvm.ClassFile.FieldType.int)) B.pre
  have hts : ∀ w ∈ lw_all, w.before _ s = true := fun w h => hts w (List.mem_cons_of_mem _ h)
  have hown : s.vm.findClass RX7 = some m.cls := findClass_of_methodNamed B.named
  have hlocks := B.notSynchronized
  have hS : va_S (Af κ) s.heap s.heap [] := va_S.rf
  have hl := lv_entry ([.ref (kA κ (20 + a0)), .int (p1)]) (n := 2) (Nat.le_of_ble_eq_true rfl)
  rw [lg_entry_eq]
  generalize (lg_sl ([.ref (kA κ (20 + a0)), .int (p1)]) ++ List.replicate (2 - (lg_sl ([.ref (kA κ (20 + a0)), .int (p1)])).length) Slot.unset).toArray = ls at hl ⊢
  have hl : lv_has ls 2 [(0, .ref (kA κ (20 + a0))), (1, .int (p1))] := hl
  refine lv_iload_n hx hb dX7_worth_0 rfl (lv_at hl 1 rfl) ?_
  refine W.widen (k := 0) (n := 0) (Nat.le_of_ble_eq_true rfl) (Nat.le_of_ble_eq_true rfl) ?_
  exact W.iret (v := p1) hx hb hr (fun t ht hW9 => ⟨⟨p1, w, rfl, h, rpt ht hR⟩, hS.F ht⟩) hS.2.2 dX7_worth_1
def sp_D_worth (κ : Kx) (y : Ly) (post : Int32 → Wd → Prop) (w : Wd) (a0 : Nat) (p1 : Int32) : Prop := (a0 = 0 → sp_X18_worth κ y post w a0 p1) ∧ (a0 = 1 → sp_X7_worth κ y post w a0 p1) ∧ (a0 = 2 → sp_X7_worth κ y post w a0 p1)
abbrev rm_X1_village : Room := { frames := 7, cells := 9, slots := 60, locals := 197 }
def sp_X1_village (κ : Kx) (y : Ly) (post : Int32 → Wd → Ly → Prop) (px : String → Wd → Prop) (w : Wd) (p1 : Int32) (p2 : Int32) (p3 : Int32) (p4 : Int32) : Prop := sp_X1_isIn κ y (fun r_4 w_4 => ∀ j48 : Wd → Int32 → Prop, (j48 = fun (w48 : Wd) (s0_48 : Int32) => sp_X1_check κ y (fun w_50 => ∀ j70 : Wd → Int32 → Prop, (j70 = fun (w70 : Wd) (s0_70 : Int32) => sp_X1_state κ y (fun w_72 => (nV y < 8) ∧ (∀ n_91 : Nat, n_91 = nV y → ∀ w_91 : Wd, w_91 = wMkV w_72 n_91 p1 p2 p3 p4 → ∀ (y_91 : Ly) (q9a q9b q9c q9d q9e q9f : Nat), y_91 = yMkV κ y n_91 q9a q9b q9c q9d q9e q9f → sp_X10_cut κ y_91 (fun w_106 => ∀ y_115 : Ly, YAdd y_91 40 0 (y_91.2 6 n_91) y_115 → post (nI n_91) w_106 y_115) w_91 n_91 (gv w_91 0 0 10))) px w70 s0_70) → ((((8 : Int32) ≤ nI (nV y)) → (j70 w_50 (0 : Int32))) ∧ ((¬ ((8 : Int32) ≤ nI (nV y))) → (j70 w_50 (1 : Int32))))) px w48 s0_48) → (((r_4 = 0) → (j48 w_4 (0 : Int32))) ∧ ((¬ (r_4 = 0)) → (sp_X1_isIn κ y (fun r_15 w_15 => ((r_15 = 0) → (j48 w_15 (0 : Int32))) ∧ ((¬ (r_15 = 0)) → (sp_X1_isIn κ y (fun r_26 w_26 => ((r_26 = 0) → (j48 w_26 (0 : Int32))) ∧ ((¬ (r_26 = 0)) → (sp_X1_isIn κ y (fun r_37 w_37 => ((r_37 = 0) → (j48 w_37 (0 : Int32))) ∧ ((¬ (r_37 = 0)) → (j48 w_37 (1 : Int32)))) w_26 p4 (1 : Int32) (9 : Int32)))) w_15 p3 (0 : Int32) (600 : Int32)))) w_4 p2 (0 : Int32) (600 : Int32))))) w p1 (1 : Int32) (90 : Int32)
theorem hd_X1_village : yX1_village.cls = RX1 ∧ yX1_village.cls ≠ "java/lang/invoke/MethodHandle" ∧ yX1_village.cls ≠ "java/lang/invoke/VarHandle" ∧ (parseMethodDescriptor yX1_village.desc).map (fun d => d.parameters.length) = some 4 := by decide +kernel
set_option maxHeartbeats 4000000 in
theorem m_X1_village {l : Launch} {κ : Kx} {y : Ly} {X : XR} {post : Int32 → Wd → Ly → Prop} {px : String → Wd → Prop} {w : Wd} {p1 : Int32} {p2 : Int32} {p3 : Int32} {p4 : Int32}  (hfl : l.stackTraces = false) (hW : WFc κ y) (l0 : live y 0 0) (h : sp_X1_village κ y post px w p1 p2 p3 p4) : vx_Met l yX1_village (ws_ yX1_village cX1_village 6 (Option.some Jvm.ClassFile.FieldType.int)) rm_X1_village (va_Pc [.ref (y.2 0 0), .int (p1), .int (p2), .int (p3), .int (p4)] (RC κ w y X)) (va_Qi (fun r (u : Wd × Ly) => post r u.1 u.2) (fun (u : Wd × Ly) t => Rp κ u.1 u.2 X [] t.heap ∧ WFc κ u.2) (Af κ)) (XCk κ y X px) 9 60 (Af κ) := by
  unfold sp_X1_village at h
  refine vx_ofW (cc := cX1_village) (maxL := 6) (ret := (Option.some Jvm.ClassFile.FieldType.int)) (by decide) rfl ?_
  intro p e s m args below meth c s₁ B hml ht hv
  obtain ⟨rfl, hR, hK⟩ := hv
  have hx := B.exec
  have hb := B.bytes
  have hr := B.returns
  have hts := atoms_spec (ws := ws_ yX1_village cX1_village 6 (Option.some Jvm.ClassFile.FieldType.int)) B.pre
  have hts : ∀ w ∈ lw_all, w.before _ s = true := fun w h => hts w (List.mem_cons_of_mem _ h)
  have hown : s.vm.findClass RX1 = some m.cls := findClass_of_methodNamed B.named
  have hlocks := B.notSynchronized
  have hR0 := hR
  have hLe : LeS y y := LeS.rf
  have hS : va_S (Af κ) s.heap s.heap [] := va_S.rf
  have hl := lv_entry ([.ref (y.2 0 0), .int (p1), .int (p2), .int (p3), .int (p4)]) (n := 6) (Nat.le_of_ble_eq_true rfl)
  rw [lg_entry_eq]
  generalize (lg_sl ([.ref (y.2 0 0), .int (p1), .int (p2), .int (p3), .int (p4)]) ++ List.replicate (6 - (lg_sl ([.ref (y.2 0 0), .int (p1), .int (p2), .int (p3), .int (p4)])).length) Slot.unset).toArray = ls at hl ⊢
  have hl : lv_has ls 6 [(0, .ref (y.2 0 0)), (1, .int (p1)), (2, .int (p2)), (3, .int (p3)), (4, .int (p4))] := hl
  refine lv_iload_n hx hb dX1_village_0 rfl (lv_at hl 1 rfl) ?_
  refine lv_iconst (v := (1 : Int32)) hx hb dX1_village_1 (by decide) ?_
  refine lv_bipush (v := (90 : Int32)) hx hb dX1_village_2 (by decide) ?_
  refine ce_qi (fw := fun u => u) (fy := fun _ => y) (cr_S (n := 3) (As := [.int (p1), .int ((1 : Int32)), .int ((90 : Int32))]) (rest := []) ⟨hx, hb, hml, hown, hts⟩ hK hR (m_X1_isIn hW h) q790 q791 q74 q792 rfl rfl hds_X1_isIn ⟨Nat.le_of_ble_eq_true rfl, Nat.le_of_ble_eq_true rfl⟩ rfl rfl hl.1 rfl (lv_room (Nat.le_of_ble_eq_true rfl)) dX1_village_4 ⟨(Nat.le_of_ble_eq_true rfl), (Nat.le_of_ble_eq_true rfl)⟩) hR hS (fun r_4 w_4 H locs h hR _ hS => ?_)
  refine jn_elim h (fun j48 ej48 h => ?_)
  have Jj48 : ∀ (w48 : Wd) (s0_48 : Int32) (H : Heap) (locs : List Loc) (ls : Array Slot), j48 w48 s0_48 → Rp κ w48 y X [] H → va_S (Af κ) s.heap H locs → lv_has ls 6 [(0, .ref (y.2 0 0)), (1, .int (p1)), (2, .int (p2)), (3, .int (p3)), (4, .int (p4))] → W p l e (headSpec (ws_ yX1_village cX1_village 6 (Option.some Jvm.ClassFile.FieldType.int)) rm_X1_village).room s m ([.ref (y.2 0 0), .int (p1), .int (p2), .int (p3), .int (p4)] : List Value).toArray below meth c H locs (0) (0) (vx_MQ below (va_Qi (fun r (u : Wd × Ly) => post r u.1 u.2) (fun (u : Wd × Ly) t => Rp κ u.1 u.2 X [] t.heap ∧ WFc κ u.2) (Af κ)) (XCk κ y X px) ([.ref (y.2 0 0), .int (p1), .int (p2), .int (p3), .int (p4)] : List Value).toArray s 9 60 (Af κ)) (F0 m 48 ls [.int (s0_48)]) := by
    clear h
    intro w48 s0_48 H locs ls h hR hS hl
    subst ej48
    refine jr_ldcS (own := "Publicanry") (k := 98) (tx := "village") (n := 1098) hx hb hown hK (List.mem_of_getElem? (i := 0) rfl) dX1_village_48 ?_
    refine cex_qv (fw := fun u => u) (fy := fun _ => y) (crx_S (n := 2) (As := [.int (s0_48), .ref (kA κ 1098)]) (rest := []) ⟨hx, hb, hml, hown, hts⟩ hK hR (m_X1_check hfl hW h) q794 q795 q74 q796 rfl rfl hds_X1_check ⟨Nat.le_of_ble_eq_true rfl, Nat.le_of_ble_eq_true rfl⟩ rfl rfl hl.1 rfl (lv_room (Nat.le_of_ble_eq_true rfl)) dX1_village_50 ⟨(Nat.le_of_ble_eq_true rfl), (Nat.le_of_ble_eq_true rfl)⟩) hR hS ht hlocks (Nat.le_of_ble_eq_true rfl) (Nat.le_of_ble_eq_true rfl) (fun w_50 H locs h hR _ hS => ?_)
    refine lv_aload_n hx hb dX1_village_53 rfl (lv_at hl 0 rfl) ?_
    refine g0_0 hx hb hts hown hK hR l0 q247 dX1_village_54 ?_
    refine jr_size ⟨hx, hb, hml, hown, hts⟩ hK hR ⟨fun _ _ _ _ _ => rfl, fun _ _ _ _ _ => rfl⟩ hW.lsV q536 ⟨Nat.le_of_ble_eq_true rfl, Nat.le_of_ble_eq_true rfl⟩ hl.1 (Nat.le_of_ble_eq_true rfl) dX1_village_57 ⟨(Nat.le_of_ble_eq_true rfl), (Nat.le_of_ble_eq_true rfl)⟩ ?_
    refine lv_bipush (v := (8 : Int32)) hx hb dX1_village_60 (by decide) ?_
    refine jn_elim h (fun j70 ej70 h => ?_)
    have Jj70 : ∀ (w70 : Wd) (s0_70 : Int32) (H : Heap) (locs : List Loc) (ls : Array Slot), j70 w70 s0_70 → Rp κ w70 y X [] H → va_S (Af κ) s.heap H locs → lv_has ls 6 [(0, .ref (y.2 0 0)), (1, .int (p1)), (2, .int (p2)), (3, .int (p3)), (4, .int (p4))] → W p l e (headSpec (ws_ yX1_village cX1_village 6 (Option.some Jvm.ClassFile.FieldType.int)) rm_X1_village).room s m ([.ref (y.2 0 0), .int (p1), .int (p2), .int (p3), .int (p4)] : List Value).toArray below meth c H locs (1) (6) (vx_MQ below (va_Qi (fun r (u : Wd × Ly) => post r u.1 u.2) (fun (u : Wd × Ly) t => Rp κ u.1 u.2 X [] t.heap ∧ WFc κ u.2) (Af κ)) (XCk κ y X px) ([.ref (y.2 0 0), .int (p1), .int (p2), .int (p3), .int (p4)] : List Value).toArray s 9 60 (Af κ)) (F0 m 70 ls [.int (s0_70)]) := by
      clear h
      intro w70 s0_70 H locs ls h hR hS hl
      subst ej70
      refine jr_ldcS (own := "Publicanry") (k := 151) (tx := "full") (n := 1151) hx hb hown hK (List.mem_of_getElem? (i := 1) rfl) dX1_village_70 ?_
      refine cex_qv (fw := fun u => u) (fy := fun _ => y) (crx_S (n := 2) (As := [.int (s0_70), .ref (kA κ 1151)]) (rest := []) ⟨hx, hb, hml, hown, hts⟩ hK hR (m_X1_state hfl hW h) q813 q814 q74 q815 rfl rfl hds_X1_state ⟨Nat.le_of_ble_eq_true rfl, Nat.le_of_ble_eq_true rfl⟩ rfl rfl hl.1 rfl (lv_room (Nat.le_of_ble_eq_true rfl)) dX1_village_72 ⟨(Nat.le_of_ble_eq_true rfl), (Nat.le_of_ble_eq_true rfl)⟩) hR hS ht hlocks (Nat.le_of_ble_eq_true rfl) (Nat.le_of_ble_eq_true rfl) (fun w_72 H locs h hR _ hS => ?_)
      refine xa_new (C := RX10) (T := TX10) (N := 18) (ci := 6) (fs := [.int 0, .int 0, .null, .null, .null, .null, .int 0, .int 0, .int 0, .int 0, .int 0, .int 0, .int 0, .int 0, .int 0, .int 0, .int 0, .int 0]) hx hb hts in_X10 tyX10 tyX10_ok hown q496 q831 q92 hK.1 hS rfl (fun j hj => by rcases (show j = 0 ∨ j = 1 ∨ j = 2 ∨ j = 3 ∨ j = 4 ∨ j = 5 ∨ j = 6 ∨ j = 7 ∨ j = 8 ∨ j = 9 ∨ j = 10 ∨ j = 11 ∨ j = 12 ∨ j = 13 ∨ j = 14 ∨ j = 15 ∨ j = 16 ∨ j = 17 by omega) with rfl | rfl | rfl | rfl | rfl | rfl | rfl | rfl | rfl | rfl | rfl | rfl | rfl | rfl | rfl | rfl | rfl | rfl <;> rfl) (Nat.le_of_ble_eq_true rfl) (Nat.le_of_ble_eq_true rfl) dX1_village_75 (fun q_75 H1 hq h1 hz ho hS => ?_)
      have hR := hR.newL hq h1 (by omega) ho
      clear hq h1 hz ho
      generalize H1 = H at hR hS ⊢
      have hR : Rp κ w_72 y X [(q_75, .inr (6, [.int 0, .int 0, .null, .null, .null, .null, .int 0, .int 0, .int 0, .int 0, .int 0, .int 0, .int 0, .int 0, .int 0, .int 0, .int 0, .int 0]))] H := hR
      refine lv_dup hx hb dX1_village_78 rfl ?_
      refine lv_aload_n hx hb dX1_village_79 rfl (lv_at hl 0 rfl) ?_
      refine g0_0 hx hb hts hown hK hR l0 q247 dX1_village_80 ?_
      refine jr_size ⟨hx, hb, hml, hown, hts⟩ hK hR ⟨fun _ _ _ _ _ => rfl, fun _ _ _ _ _ => rfl⟩ hW.lsV q536 ⟨Nat.le_of_ble_eq_true rfl, Nat.le_of_ble_eq_true rfl⟩ hl.1 (Nat.le_of_ble_eq_true rfl) dX1_village_83 ⟨(Nat.le_of_ble_eq_true rfl), (Nat.le_of_ble_eq_true rfl)⟩ ?_
      refine lv_iload_n hx hb dX1_village_86 rfl (lv_at hl 1 rfl) ?_
      refine lv_iload_n hx hb dX1_village_87 rfl (lv_at hl 2 rfl) ?_
      refine lv_iload_n hx hb dX1_village_88 rfl (lv_at hl 3 rfl) ?_
      refine lv_iload hx hb dX1_village_89 (lv_at hl 4 rfl) ?_
      have o_91 := h.1
      have h := h.2
      obtain ⟨n_91, en_n_91⟩ : ∃ z : Nat, z = nV y := ⟨_, rfl⟩
      have h := h n_91 en_n_91
      rw [show y.1 (40 + 100) 0 = n_91 from en_n_91.symm]
      refine va_callv (va_runI (As := [.int (nI n_91), .int (p1), .int (p2), .int (p3), .int (p4)]) (rest := [.ref (q_75)]) ⟨hx, hb, hml, hown, hts⟩ (m_X10_init (X := xl X [(q_75, .inr (6, [.int 0, .int 0, .null, .null, .null, .null, .int 0, .int 0, .int 0, .int 0, .int 0, .int 0, .int 0, .int 0, .int 0, .int 0, .int 0, .int 0]))]) (Or.inr ⟨0, rfl⟩)) (cwI 5 hts (lw_meth q834) rfl rfl rfl (hts _ q92) (hts _ q832) (hts _ q833) rfl (by decide +kernel) ⟨Nat.le_of_ble_eq_true rfl, Nat.le_of_ble_eq_true rfl⟩) ⟨RC.blind, RC.pre hR hK⟩ rfl rfl hl.1 rfl (lv_room (Nat.le_of_ble_eq_true rfl)) dX1_village_91 ⟨(Nat.le_of_ble_eq_true rfl), (Nat.le_of_ble_eq_true rfl)⟩) hS (fun _ _ h => h) (fun _ h => h) (fun u_91 t9 H locs ht9 _ hp9 hB9 hz9 _ hS => ?_)
      rw [ht9] at hB9
      have hR := hR.wroteLs (t := 0) rfl hB9
      clear hB9 hz9 hp9
      have hR := hR.mkV (n := n_91) (by rw [en_n_91]; exact o_91)
      obtain ⟨w_91, ew_91⟩ : ∃ z, z = wMkV w_72 n_91 p1 p2 p3 p4 := ⟨_, rfl⟩
      obtain ⟨y_91, ey_91⟩ : ∃ z, z = yMkV κ y n_91 q_75 u_91.1 u_91.2.1 u_91.2.2.1 u_91.2.2.2.1 u_91.2.2.2.2 := ⟨_, rfl⟩
      have h := h w_91 ew_91 y_91 _ _ _ _ _ _ ey_91
      have hR : Rp κ w_91 y_91 X [] H := by
        rw [ew_91, ey_91]
        exact hR
      have lv_y_91 : live y_91 6 n_91 := ⟨by rw [ey_91]; exact yMkV_f0, by decide⟩
      have hq_y_91 : q_75 = y_91.2 6 n_91 := by rw [ey_91]; exact yMkV_a0.symm
      have hW_y_91 : WFc κ y_91 := by rw [ey_91]; exact WFc.mkV hW en_n_91 (by rw [en_n_91]; exact o_91)
      rw [hq_y_91]
      have lv_91 := l0
      have ea_91 : y_91.2 0 0 = y.2 0 0 := by rw [ey_91]; exact yMkV_2 (by omega)
      have lw_91 : live y_91 0 0 := ⟨by rw [ey_91, yMkV_1 (by omega)]; exact lv_91.1, lv_91.2⟩
      have hl : lv_has ls 6 [(0, .ref (y_91.2 0 0)), (1, .int (p1)), (2, .int (p2)), (3, .int (p3)), (4, .int (p4))] := by
        rw [ea_91]
        exact hl
      have cn_91 : n_91 = nV y_91 := by rw [en_n_91, ey_91]; exact (show (yMkV κ y n_91 q_75 u_91.1 u_91.2.1 u_91.2.2.1 u_91.2.2.2.1 u_91.2.2.2.2).1 140 0 = y.1 140 0 from yMkV_1 (by omega)).symm
      refine lv_astore (lv' := [(5, .ref (y_91.2 6 n_91)), (0, .ref (y_91.2 0 0)), (1, .int (p1)), (2, .int (p2)), (3, .int (p3)), (4, .int (p4))]) hx hb dX1_village_94 hl (by decide) rfl (fun ls hl => ?_)
      refine lv_aload hx hb dX1_village_96 (lv_at hl 0 rfl) ?_
      refine lv_aload_n hx hb dX1_village_98 rfl (lv_at hl 1 rfl) ?_
      refine g0_3 hx hb hts hown hK hR lw_91 q250 dX1_village_99 ?_
      refine lv_aload_n hx hb dX1_village_102 rfl (lv_at hl 1 rfl) ?_
      refine g0_10 hx hb hts hown hK hR lw_91 q257 dX1_village_103 ?_
      refine ce_qv (fw := fun u => u) (fy := fun _ => y_91) (cr_V (n := 2) (As := [.ref (y_91.2 5 0), .int (gv w_91 0 0 10)]) (rest := []) ⟨hx, hb, hml, hown, hts⟩ hK hR (m_X10_cut hW_y_91 lv_y_91 hW_y_91.rla h) q997 q998 q999 q92 q1000 rfl rfl hd_X10_cut ⟨Nat.le_of_ble_eq_true rfl, Nat.le_of_ble_eq_true rfl⟩ (rv hK hR lv_y_91 (ci := 6) rfl rfl) rfl rfl hl.1 rfl (lv_room (Nat.le_of_ble_eq_true rfl)) dX1_village_106 ⟨(Nat.le_of_ble_eq_true rfl), (Nat.le_of_ble_eq_true rfl)⟩) hR hS (fun w_106 H locs h hR _ hS => ?_)
      refine lv_aload_n hx hb dX1_village_109 rfl (lv_at hl 1 rfl) ?_
      refine g0_0 hx hb hts hown hK hR lw_91 q247 dX1_village_110 ?_
      refine lv_aload hx hb dX1_village_113 (lv_at hl 0 rfl) ?_
      have lv_115 := lv_y_91
      have lv_115_a := lw_91
      refine jr_add ⟨hx, hb, hml, hown, hts⟩ hK hR hS ⟨fun _ _ _ _ _ => rfl, fun _ _ _ _ _ => rfl⟩ (by decide) (by decide) (by decide) hW_y_91.lsV (Nat.lt_of_le_of_lt hW_y_91.nV8 (by decide)) (fun hp9 => hW_y_91.arV hp9) (fun X1 L1 H1 hR1 => ⟨6, _, _, rfl, List.mem_of_getElem? (i := 20) rfl, hR1.role (live_off lv_y_91 (by omega) (by omega))⟩) q1002 ⟨Nat.le_of_ble_eq_true rfl, Nat.le_of_ble_eq_true rfl⟩ hl.1 (Nat.le_of_ble_eq_true rfl) dX1_village_115 ⟨(Nat.le_of_ble_eq_true rfl), (Nat.le_of_ble_eq_true rfl)⟩ (fun H locs y_115 hY_y_115 hR hS => ?_)
      have h := h y_115 hY_y_115
      have hW_y_115 : WFc κ y_115 := WFc.addV hW_y_91 hY_y_115 cn_91 (by rw [en_n_91]; exact o_91) lv_y_91
      have ea_115 : y_115.2 6 n_91 = y_91.2 6 n_91 := hY_y_115.2.2 6 n_91 (by omega) (by omega)
      have lw_115 : live y_115 6 n_91 := ⟨by rw [hY_y_115.2.1 6 n_91 (by omega) (by omega) (by omega)]; exact lv_115.1, lv_115.2⟩
      have ea_115_a : y_115.2 0 0 = y_91.2 0 0 := hY_y_115.2.2 0 0 (by omega) (by omega)
      have lw_115_a : live y_115 0 0 := ⟨by rw [hY_y_115.2.1 0 0 (by omega) (by omega) (by omega)]; exact lv_115_a.1, lv_115_a.2⟩
      have hl : lv_has ls 6 [(5, .ref (y_115.2 6 n_91)), (0, .ref (y_115.2 0 0)), (1, .int (p1)), (2, .int (p2)), (3, .int (p3)), (4, .int (p4))] := by
        rw [ea_115, ea_115_a]
        exact hl
      refine lv_pop hx hb dX1_village_118 rfl ?_
      refine lv_aload hx hb dX1_village_119 (lv_at hl 0 rfl) ?_
      refine g6_0 hx hb hts hown hK hR lw_115 q920 dX1_village_121 ?_
      refine W.widen (k := 9) (n := 60) (Nat.le_of_ble_eq_true rfl) (Nat.le_of_ble_eq_true rfl) ?_
      refine vx_ret ?_; exact W.iret (v := nI n_91) hx hb hr (fun t ht hW9 => ⟨⟨nI n_91, (w_106, y_115), rfl, h, ⟨rpt ht hR, hW_y_115⟩⟩, hS.F ht⟩) hS.2.2 dX1_village_124
    refine lv_icmp_ge (tgt := 69) hx hb dX1_village_62 (by decide) (fun c_62 => ?_) (fun c_62 => ?_)
    · have h := h.1 c_62
      refine lv_iconst (v := (0 : Int32)) hx hb dX1_village_69 (by decide) ?_
      refine W.widen (k := 1) (n := 6) (Nat.le_of_ble_eq_true rfl) (Nat.le_of_ble_eq_true rfl) ?_
      exact Jj70 w_50 (0 : Int32) _ _ _ h hR hS (lv_sub hl [0, 1, 2, 3, 4] rfl)
    · have h := h.2 c_62
      refine lv_iconst (v := (1 : Int32)) hx hb dX1_village_65 (by decide) ?_
      refine lv_goto (tgt := 70) hx hb dX1_village_66 (by decide) ?_
      refine W.widen (k := 1) (n := 6) (Nat.le_of_ble_eq_true rfl) (Nat.le_of_ble_eq_true rfl) ?_
      exact Jj70 w_50 (1 : Int32) _ _ _ h hR hS (lv_sub hl [0, 1, 2, 3, 4] rfl)
  refine lv_if_eq (tgt := 47) hx hb dX1_village_7 (by decide) (fun c_7 => ?_) (fun c_7 => ?_)
  · have h := h.1 c_7
    refine lv_iconst (v := (0 : Int32)) hx hb dX1_village_47 (by decide) ?_
    refine W.widen (k := 0) (n := 0) (Nat.le_of_ble_eq_true rfl) (Nat.le_of_ble_eq_true rfl) ?_
    exact Jj48 w_4 (0 : Int32) _ _ _ h hR hS (lv_sub hl [0, 1, 2, 3, 4] rfl)
  · have h := h.2 c_7
    refine lv_iload_n hx hb dX1_village_10 rfl (lv_at hl 2 rfl) ?_
    refine lv_iconst (v := (0 : Int32)) hx hb dX1_village_11 (by decide) ?_
    refine lv_sipush (v := (600 : Int32)) hx hb dX1_village_12 (by decide) ?_
    refine ce_qi (fw := fun u => u) (fy := fun _ => y) (cr_S (n := 3) (As := [.int (p2), .int ((0 : Int32)), .int ((600 : Int32))]) (rest := []) ⟨hx, hb, hml, hown, hts⟩ hK hR (m_X1_isIn hW h) q790 q791 q74 q792 rfl rfl hds_X1_isIn ⟨Nat.le_of_ble_eq_true rfl, Nat.le_of_ble_eq_true rfl⟩ rfl rfl hl.1 rfl (lv_room (Nat.le_of_ble_eq_true rfl)) dX1_village_15 ⟨(Nat.le_of_ble_eq_true rfl), (Nat.le_of_ble_eq_true rfl)⟩) hR hS (fun r_15 w_15 H locs h hR _ hS => ?_)
    refine lv_if_eq (tgt := 47) hx hb dX1_village_18 (by decide) (fun c_18 => ?_) (fun c_18 => ?_)
    · have h := h.1 c_18
      refine lv_iconst (v := (0 : Int32)) hx hb dX1_village_47 (by decide) ?_
      refine W.widen (k := 0) (n := 0) (Nat.le_of_ble_eq_true rfl) (Nat.le_of_ble_eq_true rfl) ?_
      exact Jj48 w_15 (0 : Int32) _ _ _ h hR hS (lv_sub hl [0, 1, 2, 3, 4] rfl)
    · have h := h.2 c_18
      refine lv_iload_n hx hb dX1_village_21 rfl (lv_at hl 3 rfl) ?_
      refine lv_iconst (v := (0 : Int32)) hx hb dX1_village_22 (by decide) ?_
      refine lv_sipush (v := (600 : Int32)) hx hb dX1_village_23 (by decide) ?_
      refine ce_qi (fw := fun u => u) (fy := fun _ => y) (cr_S (n := 3) (As := [.int (p3), .int ((0 : Int32)), .int ((600 : Int32))]) (rest := []) ⟨hx, hb, hml, hown, hts⟩ hK hR (m_X1_isIn hW h) q790 q791 q74 q792 rfl rfl hds_X1_isIn ⟨Nat.le_of_ble_eq_true rfl, Nat.le_of_ble_eq_true rfl⟩ rfl rfl hl.1 rfl (lv_room (Nat.le_of_ble_eq_true rfl)) dX1_village_26 ⟨(Nat.le_of_ble_eq_true rfl), (Nat.le_of_ble_eq_true rfl)⟩) hR hS (fun r_26 w_26 H locs h hR _ hS => ?_)
      refine lv_if_eq (tgt := 47) hx hb dX1_village_29 (by decide) (fun c_29 => ?_) (fun c_29 => ?_)
      · have h := h.1 c_29
        refine lv_iconst (v := (0 : Int32)) hx hb dX1_village_47 (by decide) ?_
        refine W.widen (k := 0) (n := 0) (Nat.le_of_ble_eq_true rfl) (Nat.le_of_ble_eq_true rfl) ?_
        exact Jj48 w_26 (0 : Int32) _ _ _ h hR hS (lv_sub hl [0, 1, 2, 3, 4] rfl)
      · have h := h.2 c_29
        refine lv_iload hx hb dX1_village_32 (lv_at hl 4 rfl) ?_
        refine lv_iconst (v := (1 : Int32)) hx hb dX1_village_34 (by decide) ?_
        refine lv_bipush (v := (9 : Int32)) hx hb dX1_village_35 (by decide) ?_
        refine ce_qi (fw := fun u => u) (fy := fun _ => y) (cr_S (n := 3) (As := [.int (p4), .int ((1 : Int32)), .int ((9 : Int32))]) (rest := []) ⟨hx, hb, hml, hown, hts⟩ hK hR (m_X1_isIn hW h) q790 q791 q74 q792 rfl rfl hds_X1_isIn ⟨Nat.le_of_ble_eq_true rfl, Nat.le_of_ble_eq_true rfl⟩ rfl rfl hl.1 rfl (lv_room (Nat.le_of_ble_eq_true rfl)) dX1_village_37 ⟨(Nat.le_of_ble_eq_true rfl), (Nat.le_of_ble_eq_true rfl)⟩) hR hS (fun r_37 w_37 H locs h hR _ hS => ?_)
        refine lv_if_eq (tgt := 47) hx hb dX1_village_40 (by decide) (fun c_40 => ?_) (fun c_40 => ?_)
        · have h := h.1 c_40
          refine lv_iconst (v := (0 : Int32)) hx hb dX1_village_47 (by decide) ?_
          refine W.widen (k := 0) (n := 0) (Nat.le_of_ble_eq_true rfl) (Nat.le_of_ble_eq_true rfl) ?_
          exact Jj48 w_37 (0 : Int32) _ _ _ h hR hS (lv_sub hl [0, 1, 2, 3, 4] rfl)
        · have h := h.2 c_40
          refine lv_iconst (v := (1 : Int32)) hx hb dX1_village_43 (by decide) ?_
          refine lv_goto (tgt := 48) hx hb dX1_village_44 (by decide) ?_
          refine W.widen (k := 0) (n := 0) (Nat.le_of_ble_eq_true rfl) (Nat.le_of_ble_eq_true rfl) ?_
          exact Jj48 w_37 (1 : Int32) _ _ _ h hR hS (lv_sub hl [0, 1, 2, 3, 4] rfl)
abbrev rm_X1_company : Room := { frames := 7, cells := 6, slots := 38, locals := 171 }
def sp_X1_company (κ : Kx) (y : Ly) (post : Int32 → Wd → Ly → Prop) (px : String → Wd → Prop) (w : Wd) (p1 : Int32) (p2 : Int32) : Prop := sp_X1_isIn κ y (fun r_5 w_5 => ∀ j25 : Wd → Int32 → Prop, (j25 = fun (w25 : Wd) (s0_25 : Int32) => sp_X1_check κ y (fun w_27 => ∀ j46 : Wd → Int32 → Prop, (j46 = fun (w46 : Wd) (s0_46 : Int32) => sp_X1_state κ y (fun w_48 => (nC y < 4) ∧ ((∀ i, live y 14 i → (gv w_48 14 i 0).toNatClampNeg ≠ nC y) ∧ (∀ n_68 : Nat, n_68 = nC y → ∀ w_68 : Wd, w_68 = wMkC w_48 n_68 p1 p2 → ∀ (y_68 : Ly) (q9a q9b q9c : Nat), y_68 = yMkC y n_68 q9a q9b q9c → ∀ y_71 : Ly, YAdd y_68 42 0 (y_68.2 9 n_68) y_71 → post ((nI (nC y_71)) - (1 : Int32)) w_68 y_71))) px w46 s0_46) → ((((4 : Int32) ≤ nI (nC y)) → (j46 w_27 (0 : Int32))) ∧ ((¬ ((4 : Int32) ≤ nI (nC y))) → (j46 w_27 (1 : Int32))))) px w25 s0_25) → (((r_5 = 0) → (j25 w_5 (0 : Int32))) ∧ ((¬ (r_5 = 0)) → (sp_X1_isIn κ y (fun r_14 w_14 => ((r_14 = 0) → (j25 w_14 (0 : Int32))) ∧ ((¬ (r_14 = 0)) → (j25 w_14 (1 : Int32)))) w_5 p2 (0 : Int32) (3 : Int32))))) w p1 (0 : Int32) (2000 : Int32)
theorem hd_X1_company : yX1_company.cls = RX1 ∧ yX1_company.cls ≠ "java/lang/invoke/MethodHandle" ∧ yX1_company.cls ≠ "java/lang/invoke/VarHandle" ∧ (parseMethodDescriptor yX1_company.desc).map (fun d => d.parameters.length) = some 2 := by decide +kernel
set_option maxHeartbeats 4000000 in
theorem m_X1_company {l : Launch} {κ : Kx} {y : Ly} {X : XR} {post : Int32 → Wd → Ly → Prop} {px : String → Wd → Prop} {w : Wd} {p1 : Int32} {p2 : Int32}  (hfl : l.stackTraces = false) (hW : WFc κ y) (l0 : live y 0 0) (h : sp_X1_company κ y post px w p1 p2) : vx_Met l yX1_company (ws_ yX1_company cX1_company 3 (Option.some Jvm.ClassFile.FieldType.int)) rm_X1_company (va_Pc [.ref (y.2 0 0), .int (p1), .int (p2)] (RC κ w y X)) (va_Qi (fun r (u : Wd × Ly) => post r u.1 u.2) (fun (u : Wd × Ly) t => Rp κ u.1 u.2 X [] t.heap ∧ WFc κ u.2) (Af κ)) (XCk κ y X px) 6 38 (Af κ) := by
  unfold sp_X1_company at h
  refine vx_ofW (cc := cX1_company) (maxL := 3) (ret := (Option.some Jvm.ClassFile.FieldType.int)) (by decide) rfl ?_
  intro p e s m args below meth c s₁ B hml ht hv
  obtain ⟨rfl, hR, hK⟩ := hv
  have hx := B.exec
  have hb := B.bytes
  have hr := B.returns
  have hts := atoms_spec (ws := ws_ yX1_company cX1_company 3 (Option.some Jvm.ClassFile.FieldType.int)) B.pre
  have hts : ∀ w ∈ lw_all, w.before _ s = true := fun w h => hts w (List.mem_cons_of_mem _ h)
  have hown : s.vm.findClass RX1 = some m.cls := findClass_of_methodNamed B.named
  have hlocks := B.notSynchronized
  have hR0 := hR
  have hLe : LeS y y := LeS.rf
  have hS : va_S (Af κ) s.heap s.heap [] := va_S.rf
  have hl := lv_entry ([.ref (y.2 0 0), .int (p1), .int (p2)]) (n := 3) (Nat.le_of_ble_eq_true rfl)
  rw [lg_entry_eq]
  generalize (lg_sl ([.ref (y.2 0 0), .int (p1), .int (p2)]) ++ List.replicate (3 - (lg_sl ([.ref (y.2 0 0), .int (p1), .int (p2)])).length) Slot.unset).toArray = ls at hl ⊢
  have hl : lv_has ls 3 [(0, .ref (y.2 0 0)), (1, .int (p1)), (2, .int (p2))] := hl
  refine lv_iload_n hx hb dX1_company_0 rfl (lv_at hl 1 rfl) ?_
  refine lv_iconst (v := (0 : Int32)) hx hb dX1_company_1 (by decide) ?_
  refine lv_sipush (v := (2000 : Int32)) hx hb dX1_company_2 (by decide) ?_
  refine ce_qi (fw := fun u => u) (fy := fun _ => y) (cr_S (n := 3) (As := [.int (p1), .int ((0 : Int32)), .int ((2000 : Int32))]) (rest := []) ⟨hx, hb, hml, hown, hts⟩ hK hR (m_X1_isIn hW h) q790 q791 q74 q792 rfl rfl hds_X1_isIn ⟨Nat.le_of_ble_eq_true rfl, Nat.le_of_ble_eq_true rfl⟩ rfl rfl hl.1 rfl (lv_room (Nat.le_of_ble_eq_true rfl)) dX1_company_5 ⟨(Nat.le_of_ble_eq_true rfl), (Nat.le_of_ble_eq_true rfl)⟩) hR hS (fun r_5 w_5 H locs h hR _ hS => ?_)
  refine jn_elim h (fun j25 ej25 h => ?_)
  have Jj25 : ∀ (w25 : Wd) (s0_25 : Int32) (H : Heap) (locs : List Loc) (ls : Array Slot), j25 w25 s0_25 → Rp κ w25 y X [] H → va_S (Af κ) s.heap H locs → lv_has ls 3 [(0, .ref (y.2 0 0)), (1, .int (p1)), (2, .int (p2))] → W p l e (headSpec (ws_ yX1_company cX1_company 3 (Option.some Jvm.ClassFile.FieldType.int)) rm_X1_company).room s m ([.ref (y.2 0 0), .int (p1), .int (p2)] : List Value).toArray below meth c H locs (0) (0) (vx_MQ below (va_Qi (fun r (u : Wd × Ly) => post r u.1 u.2) (fun (u : Wd × Ly) t => Rp κ u.1 u.2 X [] t.heap ∧ WFc κ u.2) (Af κ)) (XCk κ y X px) ([.ref (y.2 0 0), .int (p1), .int (p2)] : List Value).toArray s 6 38 (Af κ)) (F0 m 25 ls [.int (s0_25)]) := by
    clear h
    intro w25 s0_25 H locs ls h hR hS hl
    subst ej25
    refine jr_ldcS (own := "Publicanry") (k := 110) (tx := "company") (n := 1110) hx hb hown hK (List.mem_of_getElem? (i := 6) rfl) dX1_company_25 ?_
    refine cex_qv (fw := fun u => u) (fy := fun _ => y) (crx_S (n := 2) (As := [.int (s0_25), .ref (kA κ 1110)]) (rest := []) ⟨hx, hb, hml, hown, hts⟩ hK hR (m_X1_check hfl hW h) q794 q795 q74 q796 rfl rfl hds_X1_check ⟨Nat.le_of_ble_eq_true rfl, Nat.le_of_ble_eq_true rfl⟩ rfl rfl hl.1 rfl (lv_room (Nat.le_of_ble_eq_true rfl)) dX1_company_27 ⟨(Nat.le_of_ble_eq_true rfl), (Nat.le_of_ble_eq_true rfl)⟩) hR hS ht hlocks (Nat.le_of_ble_eq_true rfl) (Nat.le_of_ble_eq_true rfl) (fun w_27 H locs h hR _ hS => ?_)
    refine lv_aload_n hx hb dX1_company_30 rfl (lv_at hl 0 rfl) ?_
    refine g0_1 hx hb hts hown hK hR l0 q248 dX1_company_31 ?_
    refine jr_size ⟨hx, hb, hml, hown, hts⟩ hK hR ⟨fun _ _ _ _ _ => rfl, fun _ _ _ _ _ => rfl⟩ hW.lsC q536 ⟨Nat.le_of_ble_eq_true rfl, Nat.le_of_ble_eq_true rfl⟩ hl.1 (Nat.le_of_ble_eq_true rfl) dX1_company_34 ⟨(Nat.le_of_ble_eq_true rfl), (Nat.le_of_ble_eq_true rfl)⟩ ?_
    refine lv_iconst (v := (4 : Int32)) hx hb dX1_company_37 (by decide) ?_
    refine jn_elim h (fun j46 ej46 h => ?_)
    have Jj46 : ∀ (w46 : Wd) (s0_46 : Int32) (H : Heap) (locs : List Loc) (ls : Array Slot), j46 w46 s0_46 → Rp κ w46 y X [] H → va_S (Af κ) s.heap H locs → lv_has ls 3 [(0, .ref (y.2 0 0)), (1, .int (p1)), (2, .int (p2))] → W p l e (headSpec (ws_ yX1_company cX1_company 3 (Option.some Jvm.ClassFile.FieldType.int)) rm_X1_company).room s m ([.ref (y.2 0 0), .int (p1), .int (p2)] : List Value).toArray below meth c H locs (1) (6) (vx_MQ below (va_Qi (fun r (u : Wd × Ly) => post r u.1 u.2) (fun (u : Wd × Ly) t => Rp κ u.1 u.2 X [] t.heap ∧ WFc κ u.2) (Af κ)) (XCk κ y X px) ([.ref (y.2 0 0), .int (p1), .int (p2)] : List Value).toArray s 6 38 (Af κ)) (F0 m 46 ls [.int (s0_46)]) := by
      clear h
      intro w46 s0_46 H locs ls h hR hS hl
      subst ej46
      refine jr_ldcS (own := "Publicanry") (k := 151) (tx := "full") (n := 1151) hx hb hown hK (List.mem_of_getElem? (i := 1) rfl) dX1_company_46 ?_
      refine cex_qv (fw := fun u => u) (fy := fun _ => y) (crx_S (n := 2) (As := [.int (s0_46), .ref (kA κ 1151)]) (rest := []) ⟨hx, hb, hml, hown, hts⟩ hK hR (m_X1_state hfl hW h) q813 q814 q74 q815 rfl rfl hds_X1_state ⟨Nat.le_of_ble_eq_true rfl, Nat.le_of_ble_eq_true rfl⟩ rfl rfl hl.1 rfl (lv_room (Nat.le_of_ble_eq_true rfl)) dX1_company_48 ⟨(Nat.le_of_ble_eq_true rfl), (Nat.le_of_ble_eq_true rfl)⟩) hR hS ht hlocks (Nat.le_of_ble_eq_true rfl) (Nat.le_of_ble_eq_true rfl) (fun w_48 H locs h hR _ hS => ?_)
      refine lv_aload_n hx hb dX1_company_51 rfl (lv_at hl 0 rfl) ?_
      refine g0_1 hx hb hts hown hK hR l0 q248 dX1_company_52 ?_
      refine xa_new (C := RX12) (T := TX12) (N := 12) (ci := 7) (fs := [.int 0, .null, .null, .int 0, .int 0, .int 0, .int 0, .int 0, .int 0, .int 0, .int 0, .int 0]) hx hb hts in_X12 tyX12 tyX12_ok hown q371 q1111 q106 hK.1 hS rfl (fun j hj => by rcases (show j = 0 ∨ j = 1 ∨ j = 2 ∨ j = 3 ∨ j = 4 ∨ j = 5 ∨ j = 6 ∨ j = 7 ∨ j = 8 ∨ j = 9 ∨ j = 10 ∨ j = 11 by omega) with rfl | rfl | rfl | rfl | rfl | rfl | rfl | rfl | rfl | rfl | rfl | rfl <;> rfl) (Nat.le_of_ble_eq_true rfl) (Nat.le_of_ble_eq_true rfl) dX1_company_55 (fun q_55 H1 hq h1 hz ho hS => ?_)
      have hR := hR.newL hq h1 (by omega) ho
      clear hq h1 hz ho
      generalize H1 = H at hR hS ⊢
      have hR : Rp κ w_48 y X [(q_55, .inr (7, [.int 0, .null, .null, .int 0, .int 0, .int 0, .int 0, .int 0, .int 0, .int 0, .int 0, .int 0]))] H := hR
      refine lv_dup hx hb dX1_company_58 rfl ?_
      refine lv_aload_n hx hb dX1_company_59 rfl (lv_at hl 0 rfl) ?_
      refine g0_1 hx hb hts hown hK hR l0 q248 dX1_company_60 ?_
      refine jr_size ⟨hx, hb, hml, hown, hts⟩ hK hR ⟨fun _ _ _ _ _ => rfl, fun _ _ _ _ _ => rfl⟩ hW.lsC q536 ⟨Nat.le_of_ble_eq_true rfl, Nat.le_of_ble_eq_true rfl⟩ hl.1 (Nat.le_of_ble_eq_true rfl) dX1_company_63 ⟨(Nat.le_of_ble_eq_true rfl), (Nat.le_of_ble_eq_true rfl)⟩ ?_
      refine lv_iload_n hx hb dX1_company_66 rfl (lv_at hl 1 rfl) ?_
      refine lv_iload_n hx hb dX1_company_67 rfl (lv_at hl 2 rfl) ?_
      have o_68 := h.1
      have h := h.2
      have o_68_a := h.1
      have h := h.2
      obtain ⟨n_68, en_n_68⟩ : ∃ z : Nat, z = nC y := ⟨_, rfl⟩
      have h := h n_68 en_n_68
      rw [show y.1 (42 + 100) 0 = n_68 from en_n_68.symm]
      refine va_callv (va_runI (As := [.int (nI n_68), .int (p1), .int (p2)]) (rest := [.ref (q_55), .ref (y.2 42 0)]) ⟨hx, hb, hml, hown, hts⟩ (m_X12_init (X := xl X [(q_55, .inr (7, [.int 0, .null, .null, .int 0, .int 0, .int 0, .int 0, .int 0, .int 0, .int 0, .int 0, .int 0]))]) (Or.inr ⟨0, rfl⟩)) (cwI 3 hts (lw_meth q1114) rfl rfl rfl (hts _ q106) (hts _ q1112) (hts _ q1113) rfl (by decide +kernel) ⟨Nat.le_of_ble_eq_true rfl, Nat.le_of_ble_eq_true rfl⟩) ⟨RC.blind, RC.pre hR hK⟩ rfl rfl hl.1 rfl (lv_room (Nat.le_of_ble_eq_true rfl)) dX1_company_68 ⟨(Nat.le_of_ble_eq_true rfl), (Nat.le_of_ble_eq_true rfl)⟩) hS (fun _ _ h => h) (fun _ h => h) (fun u_68 t9 H locs ht9 _ hp9 hB9 hz9 _ hS => ?_)
      rw [ht9] at hB9
      have hR := hR.wroteLs (t := 0) rfl hB9
      clear hB9 hz9 hp9
      have hR := hR.mkC (n := n_68) (fun i hi => hW.vi8 hi) (by rw [en_n_68]; exact o_68_a)
      obtain ⟨w_68, ew_68⟩ : ∃ z, z = wMkC w_48 n_68 p1 p2 := ⟨_, rfl⟩
      obtain ⟨y_68, ey_68⟩ : ∃ z, z = yMkC y n_68 q_55 u_68.1 u_68.2 := ⟨_, rfl⟩
      have h := h w_68 ew_68 y_68 _ _ _ ey_68
      have hR : Rp κ w_68 y_68 X [] H := by
        rw [ew_68, ey_68]
        exact hR
      have lv_y_68 : live y_68 9 n_68 := ⟨by rw [ey_68]; exact yMkC_f0, by decide⟩
      have hq_y_68 : q_55 = y_68.2 9 n_68 := by rw [ey_68]; exact yMkC_a0.symm
      have hW_y_68 : WFc κ y_68 := by rw [ey_68]; exact WFc.mkC hW en_n_68 (by rw [en_n_68]; exact o_68)
      rw [hq_y_68]
      have lv_68 := l0
      have lv_68_a := hW.lsC
      have lv_68_b := l0
      have ea_68 : y_68.2 0 0 = y.2 0 0 := by rw [ey_68]; exact yMkC_2 (by omega)
      have lw_68 : live y_68 0 0 := ⟨by rw [ey_68, yMkC_1 (by omega)]; exact lv_68.1, lv_68.2⟩
      have ea_68_a : y_68.2 42 0 = y.2 42 0 := by rw [ey_68]; exact yMkC_2 (by omega)
      have lw_68_b : live y_68 0 0 := ⟨by rw [ey_68, yMkC_1 (by omega)]; exact lv_68_b.1, lv_68_b.2⟩
      have lw_68_a : live y_68 42 0 := ⟨by rw [ey_68, yMkC_1 (by omega)]; exact lv_68_a.1, lv_68_a.2⟩
      have hl : lv_has ls 3 [(0, .ref (y_68.2 0 0)), (1, .int (p1)), (2, .int (p2))] := by
        rw [ea_68]
        exact hl
      rw [← ea_68_a]
      have cn_68 : n_68 = nC y_68 := by rw [en_n_68, ey_68]; exact (show (yMkC y n_68 q_55 u_68.1 u_68.2).1 142 0 = y.1 142 0 from yMkC_1 (by omega)).symm
      have lv_71 := lw_68
      refine jr_add ⟨hx, hb, hml, hown, hts⟩ hK hR hS ⟨fun _ _ _ _ _ => rfl, fun _ _ _ _ _ => rfl⟩ (by decide) (by decide) (by decide) lw_68_a (Nat.lt_of_le_of_lt hW_y_68.nC4 (by decide)) (fun hp9 => hW_y_68.arC hp9) (fun X1 L1 H1 hR1 => ⟨7, _, _, rfl, List.mem_of_getElem? (i := 22) rfl, hR1.role (live_off lv_y_68 (by omega) (by omega))⟩) q1002 ⟨Nat.le_of_ble_eq_true rfl, Nat.le_of_ble_eq_true rfl⟩ hl.1 (Nat.le_of_ble_eq_true rfl) dX1_company_71 ⟨(Nat.le_of_ble_eq_true rfl), (Nat.le_of_ble_eq_true rfl)⟩ (fun H locs y_71 hY_y_71 hR hS => ?_)
      have h := h y_71 hY_y_71
      have hW_y_71 : WFc κ y_71 := WFc.addC hW_y_68 hY_y_71 cn_68 (by rw [en_n_68]; exact o_68) lv_y_68
      have ea_71 : y_71.2 0 0 = y_68.2 0 0 := hY_y_71.2.2 0 0 (by omega) (by omega)
      have lw_71 : live y_71 0 0 := ⟨by rw [hY_y_71.2.1 0 0 (by omega) (by omega) (by omega)]; exact lv_71.1, lv_71.2⟩
      have hl : lv_has ls 3 [(0, .ref (y_71.2 0 0)), (1, .int (p1)), (2, .int (p2))] := by
        rw [ea_71]
        exact hl
      refine lv_pop hx hb dX1_company_74 rfl ?_
      refine lv_aload_n hx hb dX1_company_75 rfl (lv_at hl 0 rfl) ?_
      refine g0_1 hx hb hts hown hK hR lw_71 q248 dX1_company_76 ?_
      refine jr_size ⟨hx, hb, hml, hown, hts⟩ hK hR ⟨fun _ _ _ _ _ => rfl, fun _ _ _ _ _ => rfl⟩ hW_y_71.lsC q536 ⟨Nat.le_of_ble_eq_true rfl, Nat.le_of_ble_eq_true rfl⟩ hl.1 (Nat.le_of_ble_eq_true rfl) dX1_company_79 ⟨(Nat.le_of_ble_eq_true rfl), (Nat.le_of_ble_eq_true rfl)⟩ ?_
      refine lv_iconst (v := (1 : Int32)) hx hb dX1_company_82 (by decide) ?_
      refine lv_isub hx hb dX1_company_83 ?_
      refine W.widen (k := 6) (n := 38) (Nat.le_of_ble_eq_true rfl) (Nat.le_of_ble_eq_true rfl) ?_
      refine vx_ret ?_; exact W.iret (v := (nI (nC y_71)) - (1 : Int32)) hx hb hr (fun t ht hW9 => ⟨⟨(nI (nC y_71)) - (1 : Int32), (w_68, y_71), rfl, h, ⟨rpt ht hR, hW_y_71⟩⟩, hS.F ht⟩) hS.2.2 dX1_company_84
    refine lv_icmp_ge (tgt := 45) hx hb dX1_company_38 (by decide) (fun c_38 => ?_) (fun c_38 => ?_)
    · have h := h.1 c_38
      refine lv_iconst (v := (0 : Int32)) hx hb dX1_company_45 (by decide) ?_
      refine W.widen (k := 1) (n := 6) (Nat.le_of_ble_eq_true rfl) (Nat.le_of_ble_eq_true rfl) ?_
      exact Jj46 w_27 (0 : Int32) _ _ _ h hR hS (lv_sub hl [0, 1, 2] rfl)
    · have h := h.2 c_38
      refine lv_iconst (v := (1 : Int32)) hx hb dX1_company_41 (by decide) ?_
      refine lv_goto (tgt := 46) hx hb dX1_company_42 (by decide) ?_
      refine W.widen (k := 1) (n := 6) (Nat.le_of_ble_eq_true rfl) (Nat.le_of_ble_eq_true rfl) ?_
      exact Jj46 w_27 (1 : Int32) _ _ _ h hR hS (lv_sub hl [0, 1, 2] rfl)
  refine lv_if_eq (tgt := 24) hx hb dX1_company_8 (by decide) (fun c_8 => ?_) (fun c_8 => ?_)
  · have h := h.1 c_8
    refine lv_iconst (v := (0 : Int32)) hx hb dX1_company_24 (by decide) ?_
    refine W.widen (k := 0) (n := 0) (Nat.le_of_ble_eq_true rfl) (Nat.le_of_ble_eq_true rfl) ?_
    exact Jj25 w_5 (0 : Int32) _ _ _ h hR hS (lv_sub hl [0, 1, 2] rfl)
  · have h := h.2 c_8
    refine lv_iload_n hx hb dX1_company_11 rfl (lv_at hl 2 rfl) ?_
    refine lv_iconst (v := (0 : Int32)) hx hb dX1_company_12 (by decide) ?_
    refine lv_iconst (v := (3 : Int32)) hx hb dX1_company_13 (by decide) ?_
    refine ce_qi (fw := fun u => u) (fy := fun _ => y) (cr_S (n := 3) (As := [.int (p2), .int ((0 : Int32)), .int ((3 : Int32))]) (rest := []) ⟨hx, hb, hml, hown, hts⟩ hK hR (m_X1_isIn hW h) q790 q791 q74 q792 rfl rfl hds_X1_isIn ⟨Nat.le_of_ble_eq_true rfl, Nat.le_of_ble_eq_true rfl⟩ rfl rfl hl.1 rfl (lv_room (Nat.le_of_ble_eq_true rfl)) dX1_company_14 ⟨(Nat.le_of_ble_eq_true rfl), (Nat.le_of_ble_eq_true rfl)⟩) hR hS (fun r_14 w_14 H locs h hR _ hS => ?_)
    refine lv_if_eq (tgt := 24) hx hb dX1_company_17 (by decide) (fun c_17 => ?_) (fun c_17 => ?_)
    · have h := h.1 c_17
      refine lv_iconst (v := (0 : Int32)) hx hb dX1_company_24 (by decide) ?_
      refine W.widen (k := 0) (n := 0) (Nat.le_of_ble_eq_true rfl) (Nat.le_of_ble_eq_true rfl) ?_
      exact Jj25 w_14 (0 : Int32) _ _ _ h hR hS (lv_sub hl [0, 1, 2] rfl)
    · have h := h.2 c_17
      refine lv_iconst (v := (1 : Int32)) hx hb dX1_company_20 (by decide) ?_
      refine lv_goto (tgt := 25) hx hb dX1_company_21 (by decide) ?_
      refine W.widen (k := 0) (n := 0) (Nat.le_of_ble_eq_true rfl) (Nat.le_of_ble_eq_true rfl) ?_
      exact Jj25 w_14 (1 : Int32) _ _ _ h hR hS (lv_sub hl [0, 1, 2] rfl)
