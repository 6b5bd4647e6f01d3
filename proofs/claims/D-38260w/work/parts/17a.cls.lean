/-! printed by wip gen: J20_bitCount, X1_year, X1_houses, X1_one, X1_add, X1_told_2, X1_has, X1_hold, X1_isIn, X1_check, X1_state, X1_index, X1_areVillages, X1_dutyOf, X1_companyOf, X1_ring, X1_lotOf, X1_force, X1_isSuable, X1_votes, X1_bench, X1_part, X1_isBad, X1_clerks, X1_law, X1_partner, X10_shown, X10_cut, X10_stir, X10_harvest, X10_flee, X12_shares, X12_gain -/
set_option maxRecDepth 100000
abbrev rm_J20_bitCount : Room := { frames := 0, cells := 0, slots := 0, locals := 0 }
def sp_J20_bitCount (κ : Kx) (y : Ly) (post : Int32 → Wd → Prop) (w : Wd) (p0 : Int32) : Prop := ∀ x_9 : Int32, x_9 = p0 - (((p0.toUInt32 >>> ((1 : Int32).toUInt32 &&& Int32.toUInt32 31)).toInt32) &&& (1431655765 : Int32)) → ∀ x_23 : Int32, x_23 = (x_9 &&& (858993459 : Int32)) + (((x_9.toUInt32 >>> ((2 : Int32).toUInt32 &&& Int32.toUInt32 31)).toInt32) &&& (858993459 : Int32)) → ∀ x_33 : Int32, x_33 = (x_23 + ((x_23.toUInt32 >>> ((4 : Int32).toUInt32 &&& Int32.toUInt32 31)).toInt32)) &&& (252645135 : Int32) → ∀ x_40 : Int32, x_40 = x_33 + ((x_33.toUInt32 >>> ((8 : Int32).toUInt32 &&& Int32.toUInt32 31)).toInt32) → ∀ x_47 : Int32, x_47 = x_40 + ((x_40.toUInt32 >>> ((16 : Int32).toUInt32 &&& Int32.toUInt32 31)).toInt32) → post (x_47 &&& (63 : Int32)) w
theorem hds_J20_bitCount : yJ20_bitCount.cls ≠ "java/lang/invoke/MethodHandle" ∧ yJ20_bitCount.cls ≠ "java/lang/invoke/VarHandle" ∧ (parseMethodDescriptor yJ20_bitCount.desc).map (fun d => d.parameters.length) = some 1 := by decide +kernel
set_option maxHeartbeats 4000000 in
theorem m_J20_bitCount {l : Launch} {κ : Kx} {y : Ly} {X : XR} {post : Int32 → Wd → Prop} {w : Wd} {p0 : Int32}  (hW : WFc κ y)  (h : sp_J20_bitCount κ y post w p0) : Met l yJ20_bitCount (ws_ yJ20_bitCount cJ20_bitCount 1 (Option.some Jvm.ClassFile.FieldType.int)) rm_J20_bitCount (va_Pc [.int (p0)] (RC κ w y X)) (va_Qi post (fun w t => Rp κ w y X [] t.heap) (Af κ)) 0 0 (Af κ) := by
  unfold sp_J20_bitCount at h
  refine Met.ofW (cc := cJ20_bitCount) (maxL := 1) (ret := (Option.some Jvm.ClassFile.FieldType.int)) (by decide) rfl ?_
  intro p e s m args below meth c s₁ B hml hv
  obtain ⟨rfl, hR, hK⟩ := hv
  have hx := B.exec
  have hb := B.bytes
  have hr := B.returns
  have hts := atoms_spec (ws := ws_ yJ20_bitCount cJ20_bitCount 1 (Option.some Jvm.ClassFile.FieldType.int)) B.pre
  have hts : ∀ w ∈ lw_all, w.before _ s = true := fun w h => hts w (List.mem_cons_of_mem _ h)
  have hown : s.vm.findClass RJ20 = some m.cls := findClass_of_methodNamed B.named
  have hlocks := B.notSynchronized
  have hS : va_S (Af κ) s.heap s.heap [] := va_S.rf
  have hl := lv_entry ([.int (p0)]) (n := 1) (Nat.le_of_ble_eq_true rfl)
  rw [lg_entry_eq]
  generalize (lg_sl ([.int (p0)]) ++ List.replicate (1 - (lg_sl ([.int (p0)])).length) Slot.unset).toArray = ls at hl ⊢
  have hl : lv_has ls 1 [(0, .int (p0))] := hl
  refine lv_iload_n hx hb dJ20_bitCount_0 rfl (lv_at hl 0 rfl) ?_
  refine lv_iload_n hx hb dJ20_bitCount_1 rfl (lv_at hl 0 rfl) ?_
  refine lv_iconst (v := (1 : Int32)) hx hb dJ20_bitCount_2 (by decide) ?_
  refine lv_iushr hx hb dJ20_bitCount_3 rfl ?_
  refine lv_ldcw (v := (1431655765 : Int32)) hx hb hown (hts _ q1490) dJ20_bitCount_4 ?_
  refine lv_iand hx hb dJ20_bitCount_7 ?_
  refine lv_isub hx hb dJ20_bitCount_8 ?_
  refine lv_topi (fun x_9 ex_9 => ?_)
  have h := h x_9 ex_9
  refine lv_istore_n (lv' := [(0, .int (x_9))]) hx hb dJ20_bitCount_9 rfl hl (by decide) rfl (fun ls hl => ?_)
  refine lv_iload_n hx hb dJ20_bitCount_10 rfl (lv_at hl 0 rfl) ?_
  refine lv_ldcw (v := (858993459 : Int32)) hx hb hown (hts _ q1491) dJ20_bitCount_11 ?_
  refine lv_iand hx hb dJ20_bitCount_14 ?_
  refine lv_iload_n hx hb dJ20_bitCount_15 rfl (lv_at hl 0 rfl) ?_
  refine lv_iconst (v := (2 : Int32)) hx hb dJ20_bitCount_16 (by decide) ?_
  refine lv_iushr hx hb dJ20_bitCount_17 rfl ?_
  refine lv_ldcw (v := (858993459 : Int32)) hx hb hown (hts _ q1491) dJ20_bitCount_18 ?_
  refine lv_iand hx hb dJ20_bitCount_21 ?_
  refine lv_iadd hx hb dJ20_bitCount_22 ?_
  refine lv_topi (fun x_23 ex_23 => ?_)
  have h := h x_23 ex_23
  refine lv_istore_n (lv' := [(0, .int (x_23))]) hx hb dJ20_bitCount_23 rfl hl (by decide) rfl (fun ls hl => ?_)
  refine lv_iload_n hx hb dJ20_bitCount_24 rfl (lv_at hl 0 rfl) ?_
  refine lv_iload_n hx hb dJ20_bitCount_25 rfl (lv_at hl 0 rfl) ?_
  refine lv_iconst (v := (4 : Int32)) hx hb dJ20_bitCount_26 (by decide) ?_
  refine lv_iushr hx hb dJ20_bitCount_27 rfl ?_
  refine lv_iadd hx hb dJ20_bitCount_28 ?_
  refine lv_ldcw (v := (252645135 : Int32)) hx hb hown (hts _ q1492) dJ20_bitCount_29 ?_
  refine lv_iand hx hb dJ20_bitCount_32 ?_
  refine lv_topi (fun x_33 ex_33 => ?_)
  have h := h x_33 ex_33
  refine lv_istore_n (lv' := [(0, .int (x_33))]) hx hb dJ20_bitCount_33 rfl hl (by decide) rfl (fun ls hl => ?_)
  refine lv_iload_n hx hb dJ20_bitCount_34 rfl (lv_at hl 0 rfl) ?_
  refine lv_iload_n hx hb dJ20_bitCount_35 rfl (lv_at hl 0 rfl) ?_
  refine lv_bipush (v := (8 : Int32)) hx hb dJ20_bitCount_36 (by decide) ?_
  refine lv_iushr hx hb dJ20_bitCount_38 rfl ?_
  refine lv_iadd hx hb dJ20_bitCount_39 ?_
  refine lv_topi (fun x_40 ex_40 => ?_)
  have h := h x_40 ex_40
  refine lv_istore_n (lv' := [(0, .int (x_40))]) hx hb dJ20_bitCount_40 rfl hl (by decide) rfl (fun ls hl => ?_)
  refine lv_iload_n hx hb dJ20_bitCount_41 rfl (lv_at hl 0 rfl) ?_
  refine lv_iload_n hx hb dJ20_bitCount_42 rfl (lv_at hl 0 rfl) ?_
  refine lv_bipush (v := (16 : Int32)) hx hb dJ20_bitCount_43 (by decide) ?_
  refine lv_iushr hx hb dJ20_bitCount_45 rfl ?_
  refine lv_iadd hx hb dJ20_bitCount_46 ?_
  refine lv_topi (fun x_47 ex_47 => ?_)
  have h := h x_47 ex_47
  refine lv_istore_n (lv' := [(0, .int (x_47))]) hx hb dJ20_bitCount_47 rfl hl (by decide) rfl (fun ls hl => ?_)
  refine lv_iload_n hx hb dJ20_bitCount_48 rfl (lv_at hl 0 rfl) ?_
  refine lv_bipush (v := (63 : Int32)) hx hb dJ20_bitCount_49 (by decide) ?_
  refine lv_iand hx hb dJ20_bitCount_51 ?_
  refine W.widen (k := 0) (n := 0) (Nat.le_of_ble_eq_true rfl) (Nat.le_of_ble_eq_true rfl) ?_
  exact W.iret (v := x_47 &&& (63 : Int32)) hx hb hr (fun t ht hW9 => ⟨⟨x_47 &&& (63 : Int32), w, rfl, h, rpt ht hR⟩, hS.F ht⟩) hS.2.2 dJ20_bitCount_52
abbrev rm_X1_year : Room := { frames := 0, cells := 0, slots := 0, locals := 0 }
def sp_X1_year (κ : Kx) (y : Ly) (post : Int32 → Wd → Prop) (w : Wd)  : Prop := post ((gv w 0 0 8) / (4 : Int32)) w
theorem hd_X1_year : yX1_year.cls = RX1 ∧ yX1_year.cls ≠ "java/lang/invoke/MethodHandle" ∧ yX1_year.cls ≠ "java/lang/invoke/VarHandle" ∧ (parseMethodDescriptor yX1_year.desc).map (fun d => d.parameters.length) = some 0 := by decide +kernel
set_option maxHeartbeats 4000000 in
theorem m_X1_year {l : Launch} {κ : Kx} {y : Ly} {X : XR} {post : Int32 → Wd → Prop} {w : Wd}   (hW : WFc κ y) (l0 : live y 0 0) (h : sp_X1_year κ y post w ) : Met l yX1_year (ws_ yX1_year cX1_year 1 (Option.some Jvm.ClassFile.FieldType.int)) rm_X1_year (va_Pc [.ref (y.2 0 0)] (RC κ w y X)) (va_Qi post (fun w t => Rp κ w y X [] t.heap) (Af κ)) 0 0 (Af κ) := by
  unfold sp_X1_year at h
  refine Met.ofW (cc := cX1_year) (maxL := 1) (ret := (Option.some Jvm.ClassFile.FieldType.int)) (by decide) rfl ?_
  intro p e s m args below meth c s₁ B hml hv
  obtain ⟨rfl, hR, hK⟩ := hv
  have hx := B.exec
  have hb := B.bytes
  have hr := B.returns
  have hts := atoms_spec (ws := ws_ yX1_year cX1_year 1 (Option.some Jvm.ClassFile.FieldType.int)) B.pre
  have hts : ∀ w ∈ lw_all, w.before _ s = true := fun w h => hts w (List.mem_cons_of_mem _ h)
  have hown : s.vm.findClass RX1 = some m.cls := findClass_of_methodNamed B.named
  have hlocks := B.notSynchronized
  have hS : va_S (Af κ) s.heap s.heap [] := va_S.rf
  have hl := lv_entry ([.ref (y.2 0 0)]) (n := 1) (Nat.le_of_ble_eq_true rfl)
  rw [lg_entry_eq]
  generalize (lg_sl ([.ref (y.2 0 0)]) ++ List.replicate (1 - (lg_sl ([.ref (y.2 0 0)])).length) Slot.unset).toArray = ls at hl ⊢
  have hl : lv_has ls 1 [(0, .ref (y.2 0 0))] := hl
  refine lv_aload_n hx hb dX1_year_0 rfl (lv_at hl 0 rfl) ?_
  refine g0_8 hx hb hts hown hK hR l0 q255 dX1_year_1 ?_
  refine lv_iconst (v := (4 : Int32)) hx hb dX1_year_4 (by decide) ?_
  refine lv_idiv hx hb dX1_year_5 (by decide) ?_
  refine W.widen (k := 0) (n := 0) (Nat.le_of_ble_eq_true rfl) (Nat.le_of_ble_eq_true rfl) ?_
  exact W.iret (v := (gv w 0 0 8) / (4 : Int32)) hx hb hr (fun t ht hW9 => ⟨⟨(gv w 0 0 8) / (4 : Int32), w, rfl, h, rpt ht hR⟩, hS.F ht⟩) hS.2.2 dX1_year_6
abbrev rm_X1_houses : Room := { frames := 3, cells := 1, slots := 4, locals := 68 }
def st_X1_houses_10 (κ : Kx) (y : Ly) (post : Int32 → Wd → Prop) (ex : Wd → (Int32) → Prop) (rec : Wd → Int32 → Nat → Int32 → Prop)  (w : Wd) (v1 : Int32) (c2 : Nat) (z2 : Int32) : Prop := ((¬ (¬ c2 = nV y)) → (ex w v1)) ∧ (((¬ c2 = nV y)) → (∀ x_35 : Int32, x_35 = v1 + (gv w 6 c2 6) → rec w x_35 (c2 + 1) (nI c2)))
def sp_X1_houses_10 (κ : Kx) (y : Ly) (post : Int32 → Wd → Prop) (ex : Wd → (Int32) → Prop)  : Nat → Wd → Int32 → Nat → Int32 → Prop
  | 0 => fun _ _ _ _ => False
  | n + 1 => fun w v1 c2 z2 => st_X1_houses_10 κ y post ex (sp_X1_houses_10 κ y post ex  n)  w v1 c2 z2
set_option maxHeartbeats 4000000 in
theorem lp_X1_houses_10 {p : Program} {l : Launch} {e : Env} {s : State} {m : MethodId} {args : Array Value} {below : List Frame} {meth : Method} {c : Code} {κ : Kx} {y : Ly} {X : XR} {post : Int32 → Wd → Prop} {q2 : Nat} (hx : p.tables.exec = Jvm.exec) (hb : c.code = cX1_houses) (hr : meth.sig.returnType = (Option.some Jvm.ClassFile.FieldType.int)) (hml : c.maxLocals = 4) (hown : s.vm.findClass RX1 = some m.cls) (hts : ∀ w ∈ lw_all, w.before args s = true) (hlocks : meth.locks = false) (hK : KK κ s) (hW : WFc κ y)  {C1 S1 : Nat} (hC : C1 ≤ 1) (hSl : S1 ≤ 4) {ex : Wd → (Int32) → Prop}
    (kx : ∀ (w : Wd) (v1 : Int32) (H : Heap) (locs : List Loc) (ls : Array Slot) (cells slots : Nat) , ex w v1 → Rp κ w y X [] H → va_S (Af κ) s.heap H locs → lv_has ls 4 [(1, .int (v1))] → cells ≤ C1 → slots ≤ S1 → W p l e (headSpec (ws_ yX1_houses cX1_houses 4 (Option.some Jvm.ClassFile.FieldType.int)) rm_X1_houses).room s m args below meth c H locs cells slots (MQ below (va_Qi post (fun w t => Rp κ w y X [] t.heap) (Af κ)) args s 1 4 (Af κ)) (F0 m 39 ls [])) :
    ∀ (f : Nat) (w : Wd) (v1 : Int32) (c2 : Nat) (z2 : Int32) (H : Heap) (locs : List Loc) (ls : Array Slot) (cells slots : Nat)  (hc2 : c2 ≤ nV y), sp_X1_houses_10 κ y post ex  f w v1 c2 z2 → Rp κ w y X [(q2, itC y 40 0 c2 z2)] H → va_S (Af κ) s.heap H locs → lv_has ls 4 [(1, .int (v1)), (2, .ref (q2))] → cells + f * 0 ≤ C1 → slots + f * 0 ≤ S1 → W p l e (headSpec (ws_ yX1_houses cX1_houses 4 (Option.some Jvm.ClassFile.FieldType.int)) rm_X1_houses).room s m args below meth c H locs cells slots (MQ below (va_Qi post (fun w t => Rp κ w y X [] t.heap) (Af κ)) args s 1 4 (Af κ)) (F0 m 10 ls []) := by
  intro f
  induction f with
  | zero =>
    intro w v1 c2 z2 H locs ls cells slots hc2 h
    exact False.elim h
  | succ f ih =>
    intro w v1 c2 z2 H locs ls cells slots hc2 h hR hS hl hc hs
    have h : st_X1_houses_10 κ y post ex (sp_X1_houses_10 κ y post ex  f)  w v1 c2 z2 := h
    unfold st_X1_houses_10 at h
    refine lv_aload_n hx hb dX1_houses_10 rfl (lv_at hl 1 rfl) ?_
    refine jr_hasNext (t := 0) ⟨hx, hb, hml, hown, hts⟩ hK hR rfl ⟨fun _ _ _ _ _ => rfl, fun _ _ _ _ _ => rfl⟩ hW.lsV (by omega) (Nat.le_trans hW.nV8 (by decide)) q349 ⟨Nat.le_of_ble_eq_true rfl, Nat.le_of_ble_eq_true rfl⟩ hl.1 (Nat.le_of_ble_eq_true rfl) dX1_houses_11 ⟨(Nat.le_trans (show cells + 0 ≤ C1 from by omega) hC), (Nat.le_trans (show slots + 0 ≤ S1 from by omega) hSl)⟩ ?_
    refine lv_if_eq (tgt := 39) hx hb dX1_houses_16 (by decide) (fun c_16 => ?_) (fun c_16 => ?_)
    · replace c_16 : ¬ (¬ c2 = nV y) := bi_0.mp c_16
      have h := h.1 c_16
      have hR := hR.sub (L' := []) [] rfl rfl
      exact kx w v1 _ _ _ _ _ h hR hS (lv_sub hl [0] rfl) (by omega) (by omega)
    · replace c_16 : (¬ c2 = nV y) := bi_n0.mp c_16
      have h := h.2 c_16
      refine lv_aload_n hx hb dX1_houses_19 rfl (lv_at hl 1 rfl) ?_
      have hn_20 : c2 < nV y := by omega
      refine jr_next (t := 0) (a := y.2 6 c2) ⟨hx, hb, hml, hown, hts⟩ hK hR hS rfl ⟨fun _ _ _ _ _ => rfl, fun _ _ _ _ _ => rfl⟩ hW.lsV ⟨hW.arV (Nat.lt_of_le_of_lt (Nat.zero_le _) hn_20), (Nat.le_trans hW.nV8 (by decide))⟩ hn_20 (hW.elV hn_20) q359 ⟨Nat.le_of_ble_eq_true rfl, Nat.le_of_ble_eq_true rfl⟩ hl.1 (Nat.le_of_ble_eq_true rfl) dX1_houses_20 ⟨(Nat.le_trans (show cells + 0 ≤ C1 from by omega) hC), (Nat.le_trans (show slots + 0 ≤ S1 from by omega) hSl)⟩ (fun H locs hR hS => ?_)
      have hR : Rp κ w y X [(q2, itC y 40 0 (c2 + 1) (nI c2))] H := hR
      refine jr_castS (ci := 6) hx hb hown hK hts (hR.role (hW.vil hn_20)) rfl q496 dX1_houses_25 ?_
      refine lv_astore_n (lv' := [(3, .ref (y.2 6 c2)), (1, .int (v1)), (2, .ref (q2))]) hx hb dX1_houses_28 rfl hl (by decide) rfl (fun ls hl => ?_)
      refine lv_iload_n hx hb dX1_houses_29 rfl (lv_at hl 1 rfl) ?_
      refine lv_aload_n hx hb dX1_houses_30 rfl (lv_at hl 0 rfl) ?_
      refine g6_6 hx hb hts hown hK hR (hW.vil hn_20) q932 dX1_houses_31 ?_
      refine lv_iadd hx hb dX1_houses_34 ?_
      refine lv_topi (fun x_35 ex_35 => ?_)
      have h := h x_35 ex_35
      refine lv_istore_n (lv' := [(1, .int (x_35)), (3, .ref (y.2 6 c2)), (2, .ref (q2))]) hx hb dX1_houses_35 rfl hl (by decide) rfl (fun ls hl => ?_)
      refine lv_goto (tgt := 10) hx hb dX1_houses_36 (by decide) ?_
      exact ih w x_35 (c2 + 1) (nI c2) _ _ _ _ _ (by omega) h hR hS (lv_sub hl [0, 2] rfl) (by omega) (by omega)
def sp_X1_houses (κ : Kx) (y : Ly) (post : Int32 → Wd → Prop) (w : Wd)  : Prop := sp_X1_houses_10 κ y post (fun w_10 y1_10 => post (y1_10) w_10)  9 w (0 : Int32) 0 (-1)
theorem hd_X1_houses : yX1_houses.cls = RX1 ∧ yX1_houses.cls ≠ "java/lang/invoke/MethodHandle" ∧ yX1_houses.cls ≠ "java/lang/invoke/VarHandle" ∧ (parseMethodDescriptor yX1_houses.desc).map (fun d => d.parameters.length) = some 0 := by decide +kernel
set_option maxHeartbeats 4000000 in
theorem m_X1_houses {l : Launch} {κ : Kx} {y : Ly} {X : XR} {post : Int32 → Wd → Prop} {w : Wd}   (hW : WFc κ y) (l0 : live y 0 0) (h : sp_X1_houses κ y post w ) : Met l yX1_houses (ws_ yX1_houses cX1_houses 4 (Option.some Jvm.ClassFile.FieldType.int)) rm_X1_houses (va_Pc [.ref (y.2 0 0)] (RC κ w y X)) (va_Qi post (fun w t => Rp κ w y X [] t.heap) (Af κ)) 1 4 (Af κ) := by
  unfold sp_X1_houses at h
  refine Met.ofW (cc := cX1_houses) (maxL := 4) (ret := (Option.some Jvm.ClassFile.FieldType.int)) (by decide) rfl ?_
  intro p e s m args below meth c s₁ B hml hv
  obtain ⟨rfl, hR, hK⟩ := hv
  have hx := B.exec
  have hb := B.bytes
  have hr := B.returns
  have hts := atoms_spec (ws := ws_ yX1_houses cX1_houses 4 (Option.some Jvm.ClassFile.FieldType.int)) B.pre
  have hts : ∀ w ∈ lw_all, w.before _ s = true := fun w h => hts w (List.mem_cons_of_mem _ h)
  have hown : s.vm.findClass RX1 = some m.cls := findClass_of_methodNamed B.named
  have hlocks := B.notSynchronized
  have hS : va_S (Af κ) s.heap s.heap [] := va_S.rf
  have hl := lv_entry ([.ref (y.2 0 0)]) (n := 4) (Nat.le_of_ble_eq_true rfl)
  rw [lg_entry_eq]
  generalize (lg_sl ([.ref (y.2 0 0)]) ++ List.replicate (4 - (lg_sl ([.ref (y.2 0 0)])).length) Slot.unset).toArray = ls at hl ⊢
  have hl : lv_has ls 4 [(0, .ref (y.2 0 0))] := hl
  refine lv_iconst (v := (0 : Int32)) hx hb dX1_houses_0 (by decide) ?_
  refine lv_istore_n (lv' := [(1, .int ((0 : Int32))), (0, .ref (y.2 0 0))]) hx hb dX1_houses_1 rfl hl (by decide) rfl (fun ls hl => ?_)
  refine lv_aload_n hx hb dX1_houses_2 rfl (lv_at hl 1 rfl) ?_
  refine g0_0 hx hb hts hown hK hR l0 q247 dX1_houses_3 ?_
  refine jr_iter ⟨hx, hb, hml, hown, hts⟩ hK hR hS ⟨fun _ _ _ _ _ => rfl, fun _ _ _ _ _ => rfl⟩ hW.lsV q325 ⟨Nat.le_of_ble_eq_true rfl, Nat.le_of_ble_eq_true rfl⟩ hl.1 (Nat.le_of_ble_eq_true rfl) dX1_houses_6 ⟨(Nat.le_of_ble_eq_true rfl), (Nat.le_of_ble_eq_true rfl)⟩ (fun q_6 H locs hR hS => ?_)
  have hR : Rp κ w y X [(q_6, itC y 40 0 0 (-1))] H := hR
  refine lv_astore_n (lv' := [(2, .ref (q_6)), (1, .int ((0 : Int32))), (0, .ref (y.2 0 0))]) hx hb dX1_houses_9 rfl hl (by decide) rfl (fun ls hl => ?_)
  refine lp_X1_houses_10 (C1 := 1) (S1 := 4) hx hb hr hml hown hts hlocks hK hW  (Nat.le_of_ble_eq_true rfl) (Nat.le_of_ble_eq_true rfl) (fun w_10 y1_10 H locs ls cells9 slots9 h hR hS hl hc9 hs9 => ?_) 9 w (0 : Int32) 0 (-1) _ _ _ _ _ (by omega) h hR hS (lv_sub hl [1, 0] rfl) (by omega) (by omega)
  refine W.widen (k := 1) (n := 4) hc9 hs9 ?_
  refine lv_iload_n hx hb dX1_houses_39 rfl (lv_at hl 0 rfl) ?_
  refine W.widen (k := 1) (n := 4) (Nat.le_of_ble_eq_true rfl) (Nat.le_of_ble_eq_true rfl) ?_
  exact W.iret (v := y1_10) hx hb hr (fun t ht hW9 => ⟨⟨y1_10, w_10, rfl, h, rpt ht hR⟩, hS.F ht⟩) hS.2.2 dX1_houses_40
abbrev rm_X1_one : Room := { frames := 0, cells := 0, slots := 0, locals := 0 }
def sp_X1_one (κ : Kx) (y : Ly) (post : Int32 → Wd → Prop) (w : Wd) (p0 : Int32) : Prop := ((p0 = 0) → (post ((0 : Int32)) w)) ∧ ((¬ (p0 = 0)) → (post ((1 : Int32)) w))
theorem hds_X1_one : yX1_one.cls ≠ "java/lang/invoke/MethodHandle" ∧ yX1_one.cls ≠ "java/lang/invoke/VarHandle" ∧ (parseMethodDescriptor yX1_one.desc).map (fun d => d.parameters.length) = some 1 := by decide +kernel
set_option maxHeartbeats 4000000 in
theorem m_X1_one {l : Launch} {κ : Kx} {y : Ly} {X : XR} {post : Int32 → Wd → Prop} {w : Wd} {p0 : Int32}  (hW : WFc κ y)  (h : sp_X1_one κ y post w p0) : Met l yX1_one (ws_ yX1_one cX1_one 1 (Option.some Jvm.ClassFile.FieldType.int)) rm_X1_one (va_Pc [.int (p0)] (RC κ w y X)) (va_Qi post (fun w t => Rp κ w y X [] t.heap) (Af κ)) 0 0 (Af κ) := by
  unfold sp_X1_one at h
  refine Met.ofW (cc := cX1_one) (maxL := 1) (ret := (Option.some Jvm.ClassFile.FieldType.int)) (by decide) rfl ?_
  intro p e s m args below meth c s₁ B hml hv
  obtain ⟨rfl, hR, hK⟩ := hv
  have hx := B.exec
  have hb := B.bytes
  have hr := B.returns
  have hts := atoms_spec (ws := ws_ yX1_one cX1_one 1 (Option.some Jvm.ClassFile.FieldType.int)) B.pre
  have hts : ∀ w ∈ lw_all, w.before _ s = true := fun w h => hts w (List.mem_cons_of_mem _ h)
  have hown : s.vm.findClass RX1 = some m.cls := findClass_of_methodNamed B.named
  have hlocks := B.notSynchronized
  have hS : va_S (Af κ) s.heap s.heap [] := va_S.rf
  have hl := lv_entry ([.int (p0)]) (n := 1) (Nat.le_of_ble_eq_true rfl)
  rw [lg_entry_eq]
  generalize (lg_sl ([.int (p0)]) ++ List.replicate (1 - (lg_sl ([.int (p0)])).length) Slot.unset).toArray = ls at hl ⊢
  have hl : lv_has ls 1 [(0, .int (p0))] := hl
  refine lv_iload_n hx hb dX1_one_0 rfl (lv_at hl 0 rfl) ?_
  refine lv_if_eq (tgt := 8) hx hb dX1_one_1 (by decide) (fun c_1 => ?_) (fun c_1 => ?_)
  · have h := h.1 c_1
    refine lv_iconst (v := (0 : Int32)) hx hb dX1_one_8 (by decide) ?_
    refine W.widen (k := 0) (n := 0) (Nat.le_of_ble_eq_true rfl) (Nat.le_of_ble_eq_true rfl) ?_
    exact W.iret (v := (0 : Int32)) hx hb hr (fun t ht hW9 => ⟨⟨(0 : Int32), w, rfl, h, rpt ht hR⟩, hS.F ht⟩) hS.2.2 dX1_one_9
  · have h := h.2 c_1
    refine lv_iconst (v := (1 : Int32)) hx hb dX1_one_4 (by decide) ?_
    refine lv_goto (tgt := 9) hx hb dX1_one_5 (by decide) ?_
    refine W.widen (k := 0) (n := 0) (Nat.le_of_ble_eq_true rfl) (Nat.le_of_ble_eq_true rfl) ?_
    exact W.iret (v := (1 : Int32)) hx hb hr (fun t ht hW9 => ⟨⟨(1 : Int32), w, rfl, h, rpt ht hR⟩, hS.F ht⟩) hS.2.2 dX1_one_9
abbrev rm_X1_add : Room := { frames := 0, cells := 0, slots := 0, locals := 0 }
def sp_X1_add (κ : Kx) (y : Ly) (post : Wd → Prop) (w : Wd) (p1 : Int64) : Prop := ∀ w_11 : Wd, w_11 = sd w ((w.2 * ((31 : Int64))) + p1) → post w_11
theorem hd_X1_add : yX1_add.cls = RX1 ∧ yX1_add.cls ≠ "java/lang/invoke/MethodHandle" ∧ yX1_add.cls ≠ "java/lang/invoke/VarHandle" ∧ (parseMethodDescriptor yX1_add.desc).map (fun d => d.parameters.length) = some 1 := by decide +kernel
set_option maxHeartbeats 4000000 in
theorem m_X1_add {l : Launch} {κ : Kx} {y : Ly} {X : XR} {post : Wd → Prop} {w : Wd} {p1 : Int64}  (hW : WFc κ y) (l0 : live y 0 0) (h : sp_X1_add κ y post w p1) : Met l yX1_add (ws_ yX1_add cX1_add 3 (Option.none : Option Jvm.ClassFile.FieldType)) rm_X1_add (va_Pc [.ref (y.2 0 0), .long (p1)] (RC κ w y X)) (va_Qv post (fun w t => Rp κ w y X [] t.heap) (Af κ)) 0 0 (Af κ) := by
  unfold sp_X1_add at h
  refine Met.ofW (cc := cX1_add) (maxL := 3) (ret := (Option.none : Option Jvm.ClassFile.FieldType)) (by decide) rfl ?_
  intro p e s m args below meth c s₁ B hml hv
  obtain ⟨rfl, hR, hK⟩ := hv
  have hx := B.exec
  have hb := B.bytes
  have hr := B.returns
  have hts := atoms_spec (ws := ws_ yX1_add cX1_add 3 (Option.none : Option Jvm.ClassFile.FieldType)) B.pre
  have hts : ∀ w ∈ lw_all, w.before _ s = true := fun w h => hts w (List.mem_cons_of_mem _ h)
  have hown : s.vm.findClass RX1 = some m.cls := findClass_of_methodNamed B.named
  have hlocks := B.notSynchronized
  have hS : va_S (Af κ) s.heap s.heap [] := va_S.rf
  have hl := lv_entry ([.ref (y.2 0 0), .long (p1)]) (n := 3) (Nat.le_of_ble_eq_true rfl)
  rw [lg_entry_eq]
  generalize (lg_sl ([.ref (y.2 0 0), .long (p1)]) ++ List.replicate (3 - (lg_sl ([.ref (y.2 0 0), .long (p1)])).length) Slot.unset).toArray = ls at hl ⊢
  have hl : lv_has ls 3 [(0, .ref (y.2 0 0)), (1, .long (p1))] := hl
  refine lv_aload_n hx hb dX1_add_0 rfl (lv_at hl 0 rfl) ?_
  refine lv_aload_n hx hb dX1_add_1 rfl (lv_at hl 0 rfl) ?_
  refine g0_15 hx hb hts hown hK hR l0 q262 dX1_add_2 ?_
  refine lv_ldc2 (v := (31 : Int64)) hx hb hown (hts _ q594) dX1_add_5 ?_
  refine lv_lmul hx hb dX1_add_8 ?_
  refine lv_lload_n hx hb dX1_add_9 rfl (lv_at hl 1 rfl) ?_
  refine lv_ladd hx hb dX1_add_10 ?_
  refine p0_15 hx hb hts hown hK hR hS hW.pu0 l0 q262 dX1_add_11 (fun H locs w_11 ew_11 hR hS => ?_)
  have h := h w_11 ew_11
  refine W.widen (k := 0) (n := 0) (Nat.le_of_ble_eq_true rfl) (Nat.le_of_ble_eq_true rfl) ?_
  exact W.vret hx hb hr (fun t ht hW9 => ⟨⟨w_11, rfl, h, rpt ht hR⟩, hS.F ht⟩) hS.2.2 dX1_add_14
abbrev rm_X1_told_2 : Room := { frames := 1, cells := 0, slots := 0, locals := 20 }
def sp_X1_told_2 (κ : Kx) (y : Ly) (post : Int32 → Wd → Prop) (w : Wd) (a0 : Nat) (p1 : Int32) : Prop := (p1 = (0 : Int32) → (post (gv w 4 a0 0) w)) ∧ (p1 = (1 : Int32) → (post (gv w 4 a0 1) w)) ∧ (p1 = (2 : Int32) → (post (gv w 4 a0 2) w)) ∧ (p1 = (3 : Int32) → (sp_X1_one κ y (fun r_51 w_51 => post (r_51) w_51) w (gv w 4 a0 4))) ∧ (¬ p1 = (0 : Int32) → ¬ p1 = (1 : Int32) → ¬ p1 = (2 : Int32) → ¬ p1 = (3 : Int32) → (post (gv w 4 a0 5) w))
theorem hds_X1_told_2 : yX1_told_2.cls ≠ "java/lang/invoke/MethodHandle" ∧ yX1_told_2.cls ≠ "java/lang/invoke/VarHandle" ∧ (parseMethodDescriptor yX1_told_2.desc).map (fun d => d.parameters.length) = some 2 := by decide +kernel
set_option maxHeartbeats 4000000 in
theorem m_X1_told_2 {l : Launch} {κ : Kx} {y : Ly} {X : XR} {post : Int32 → Wd → Prop} {w : Wd} {a0 : Nat} {p1 : Int32}  (hW : WFc κ y) (l0 : live y 4 a0) (h : sp_X1_told_2 κ y post w a0 p1) : Met l yX1_told_2 (ws_ yX1_told_2 cX1_told_2 2 (Option.some Jvm.ClassFile.FieldType.int)) rm_X1_told_2 (va_Pc [.ref (y.2 4 a0), .int (p1)] (RC κ w y X)) (va_Qi post (fun w t => Rp κ w y X [] t.heap) (Af κ)) 0 0 (Af κ) := by
  unfold sp_X1_told_2 at h
  refine Met.ofW (cc := cX1_told_2) (maxL := 2) (ret := (Option.some Jvm.ClassFile.FieldType.int)) (by decide) rfl ?_
  intro p e s m args below meth c s₁ B hml hv
  obtain ⟨rfl, hR, hK⟩ := hv
  have hx := B.exec
  have hb := B.bytes
  have hr := B.returns
  have hts := atoms_spec (ws := ws_ yX1_told_2 cX1_told_2 2 (Option.some Jvm.ClassFile.FieldType.int)) B.pre
  have hts : ∀ w ∈ lw_all, w.before _ s = true := fun w h => hts w (List.mem_cons_of_mem _ h)
  have hown : s.vm.findClass RX1 = some m.cls := findClass_of_methodNamed B.named
  have hlocks := B.notSynchronized
  have hS : va_S (Af κ) s.heap s.heap [] := va_S.rf
  have hl := lv_entry ([.ref (y.2 4 a0), .int (p1)]) (n := 2) (Nat.le_of_ble_eq_true rfl)
  rw [lg_entry_eq]
  generalize (lg_sl ([.ref (y.2 4 a0), .int (p1)]) ++ List.replicate (2 - (lg_sl ([.ref (y.2 4 a0), .int (p1)])).length) Slot.unset).toArray = ls at hl ⊢
  have hl : lv_has ls 2 [(0, .ref (y.2 4 a0)), (1, .int (p1))] := hl
  refine lv_iload_n hx hb dX1_told_2_0 rfl (lv_at hl 1 rfl) ?_
  by_cases c_1 : p1 = (0 : Int32)
  · have h := h.1 c_1
    refine lv_tableIn (off := 31) (tgt := 32) hx hb dX1_told_2_1 (by rw [c_1]; decide) (by rw [c_1]; decide) (by rw [c_1]; rfl) (by decide) ?_
    refine lv_aload_n hx hb dX1_told_2_32 rfl (lv_at hl 0 rfl) ?_
    refine g4_0 hx hb hts hown hK hR l0 q225 dX1_told_2_33 ?_
    refine W.widen (k := 0) (n := 0) (Nat.le_of_ble_eq_true rfl) (Nat.le_of_ble_eq_true rfl) ?_
    exact W.iret (v := gv w 4 a0 0) hx hb hr (fun t ht hW9 => ⟨⟨gv w 4 a0 0, w, rfl, h, rpt ht hR⟩, hS.F ht⟩) hS.2.2 dX1_told_2_36
  replace h := h.2
  by_cases c_1_a : p1 = (1 : Int32)
  · have h := h.1 c_1_a
    refine lv_tableIn (off := 36) (tgt := 37) hx hb dX1_told_2_1 (by rw [c_1_a]; decide) (by rw [c_1_a]; decide) (by rw [c_1_a]; rfl) (by decide) ?_
    refine lv_aload_n hx hb dX1_told_2_37 rfl (lv_at hl 0 rfl) ?_
    refine g4_1 hx hb hts hown hK hR l0 q228 dX1_told_2_38 ?_
    refine W.widen (k := 0) (n := 0) (Nat.le_of_ble_eq_true rfl) (Nat.le_of_ble_eq_true rfl) ?_
    exact W.iret (v := gv w 4 a0 1) hx hb hr (fun t ht hW9 => ⟨⟨gv w 4 a0 1, w, rfl, h, rpt ht hR⟩, hS.F ht⟩) hS.2.2 dX1_told_2_41
  replace h := h.2
  by_cases c_1_b : p1 = (2 : Int32)
  · have h := h.1 c_1_b
    refine lv_tableIn (off := 41) (tgt := 42) hx hb dX1_told_2_1 (by rw [c_1_b]; decide) (by rw [c_1_b]; decide) (by rw [c_1_b]; rfl) (by decide) ?_
    refine lv_aload_n hx hb dX1_told_2_42 rfl (lv_at hl 0 rfl) ?_
    refine g4_2 hx hb hts hown hK hR l0 q230 dX1_told_2_43 ?_
    refine W.widen (k := 0) (n := 0) (Nat.le_of_ble_eq_true rfl) (Nat.le_of_ble_eq_true rfl) ?_
    exact W.iret (v := gv w 4 a0 2) hx hb hr (fun t ht hW9 => ⟨⟨gv w 4 a0 2, w, rfl, h, rpt ht hR⟩, hS.F ht⟩) hS.2.2 dX1_told_2_46
  replace h := h.2
  by_cases c_1_c : p1 = (3 : Int32)
  · have h := h.1 c_1_c
    refine lv_tableIn (off := 46) (tgt := 47) hx hb dX1_told_2_1 (by rw [c_1_c]; decide) (by rw [c_1_c]; decide) (by rw [c_1_c]; rfl) (by decide) ?_
    refine lv_aload_n hx hb dX1_told_2_47 rfl (lv_at hl 0 rfl) ?_
    refine g4_4 hx hb hts hown hK hR l0 q232 dX1_told_2_48 ?_
    refine ce_qi (fw := fun u => u) (fy := fun _ => y) (cr_S (n := 1) (As := [.int (gv w 4 a0 4)]) (rest := []) ⟨hx, hb, hml, hown, hts⟩ hK hR (m_X1_one hW h) q548 q549 q74 q550 rfl rfl hds_X1_one ⟨Nat.le_of_ble_eq_true rfl, Nat.le_of_ble_eq_true rfl⟩ rfl rfl hl.1 rfl (lv_room (Nat.le_of_ble_eq_true rfl)) dX1_told_2_51 ⟨(Nat.le_of_ble_eq_true rfl), (Nat.le_of_ble_eq_true rfl)⟩) hR hS (fun r_51 w_51 H locs h hR _ hS => ?_)
    refine W.widen (k := 0) (n := 0) (Nat.le_of_ble_eq_true rfl) (Nat.le_of_ble_eq_true rfl) ?_
    exact W.iret (v := r_51) hx hb hr (fun t ht hW9 => ⟨⟨r_51, w_51, rfl, h, rpt ht hR⟩, hS.F ht⟩) hS.2.2 dX1_told_2_54
  replace h := h.2
  replace h := h c_1 c_1_a c_1_b c_1_c
  refine lv_tableOut (tgt := 55) hx hb dX1_told_2_1 (tb_out (lo := 0) (hi := 3) (fun v h1 h2 => by
    have h3 : v = 0 ∨ v = 1 ∨ v = 2 ∨ v = 3 := by omega
    rcases h3 with rfl | rfl | rfl | rfl
    · exact c_1
    · exact c_1_a
    · exact c_1_b
    · exact c_1_c
    )) (by decide) ?_
  refine lv_aload_n hx hb dX1_told_2_55 rfl (lv_at hl 0 rfl) ?_
  refine g4_5 hx hb hts hown hK hR l0 q233 dX1_told_2_56 ?_
  refine W.widen (k := 0) (n := 0) (Nat.le_of_ble_eq_true rfl) (Nat.le_of_ble_eq_true rfl) ?_
  exact W.iret (v := gv w 4 a0 5) hx hb hr (fun t ht hW9 => ⟨⟨gv w 4 a0 5, w, rfl, h, rpt ht hR⟩, hS.F ht⟩) hS.2.2 dX1_told_2_59
abbrev rm_X1_has : Room := { frames := 0, cells := 0, slots := 0, locals := 0 }
def sp_X1_has (κ : Kx) (y : Ly) (post : Int32 → Wd → Prop) (w : Wd) (p0 : Int32) (p1 : Int32) : Prop := ((¬ (p0 >>> (p1 &&& 31)) &&& (1 : Int32) = (1 : Int32)) → (post ((0 : Int32)) w)) ∧ (((p0 >>> (p1 &&& 31)) &&& (1 : Int32) = (1 : Int32)) → (post ((1 : Int32)) w))
theorem hds_X1_has : yX1_has.cls ≠ "java/lang/invoke/MethodHandle" ∧ yX1_has.cls ≠ "java/lang/invoke/VarHandle" ∧ (parseMethodDescriptor yX1_has.desc).map (fun d => d.parameters.length) = some 2 := by decide +kernel
set_option maxHeartbeats 4000000 in
theorem m_X1_has {l : Launch} {κ : Kx} {y : Ly} {X : XR} {post : Int32 → Wd → Prop} {w : Wd} {p0 : Int32} {p1 : Int32}  (hW : WFc κ y)  (h : sp_X1_has κ y post w p0 p1) : Met l yX1_has (ws_ yX1_has cX1_has 2 (Option.some Jvm.ClassFile.FieldType.boolean)) rm_X1_has (va_Pc [.int (p0), .int (p1)] (RC κ w y X)) (va_Qi post (fun w t => Rp κ w y X [] t.heap) (Af κ)) 0 0 (Af κ) := by
  unfold sp_X1_has at h
  refine Met.ofW (cc := cX1_has) (maxL := 2) (ret := (Option.some Jvm.ClassFile.FieldType.boolean)) (by decide) rfl ?_
  intro p e s m args below meth c s₁ B hml hv
  obtain ⟨rfl, hR, hK⟩ := hv
  have hx := B.exec
  have hb := B.bytes
  have hr := B.returns
  have hts := atoms_spec (ws := ws_ yX1_has cX1_has 2 (Option.some Jvm.ClassFile.FieldType.boolean)) B.pre
  have hts : ∀ w ∈ lw_all, w.before _ s = true := fun w h => hts w (List.mem_cons_of_mem _ h)
  have hown : s.vm.findClass RX1 = some m.cls := findClass_of_methodNamed B.named
  have hlocks := B.notSynchronized
  have hS : va_S (Af κ) s.heap s.heap [] := va_S.rf
  have hl := lv_entry ([.int (p0), .int (p1)]) (n := 2) (Nat.le_of_ble_eq_true rfl)
  rw [lg_entry_eq]
  generalize (lg_sl ([.int (p0), .int (p1)]) ++ List.replicate (2 - (lg_sl ([.int (p0), .int (p1)])).length) Slot.unset).toArray = ls at hl ⊢
  have hl : lv_has ls 2 [(0, .int (p0)), (1, .int (p1))] := hl
  refine lv_iload_n hx hb dX1_has_0 rfl (lv_at hl 0 rfl) ?_
  refine lv_iload_n hx hb dX1_has_1 rfl (lv_at hl 1 rfl) ?_
  refine lv_ishr hx hb dX1_has_2 ?_
  refine lv_iconst (v := (1 : Int32)) hx hb dX1_has_3 (by decide) ?_
  refine lv_iand hx hb dX1_has_4 ?_
  refine lv_iconst (v := (1 : Int32)) hx hb dX1_has_5 (by decide) ?_
  refine lv_icmp_ne (tgt := 13) hx hb dX1_has_6 (by decide) (fun c_6 => ?_) (fun c_6 => ?_)
  · have h := h.1 c_6
    refine lv_iconst (v := (0 : Int32)) hx hb dX1_has_13 (by decide) ?_
    refine W.widen (k := 0) (n := 0) (Nat.le_of_ble_eq_true rfl) (Nat.le_of_ble_eq_true rfl) ?_
    exact W.zret (v := (0 : Int32)) hx hb hr nbo_0.n (fun t ht hW9 => ⟨⟨(0 : Int32), w, rfl, h, rpt ht hR⟩, hS.F ht⟩) hS.2.2 dX1_has_14
  · have h := h.2 c_6
    refine lv_iconst (v := (1 : Int32)) hx hb dX1_has_9 (by decide) ?_
    refine lv_goto (tgt := 14) hx hb dX1_has_10 (by decide) ?_
    refine W.widen (k := 0) (n := 0) (Nat.le_of_ble_eq_true rfl) (Nat.le_of_ble_eq_true rfl) ?_
    exact W.zret (v := (1 : Int32)) hx hb hr nbo_1.n (fun t ht hW9 => ⟨⟨(1 : Int32), w, rfl, h, rpt ht hR⟩, hS.F ht⟩) hS.2.2 dX1_has_14
abbrev rm_X1_hold : Room := { frames := 1, cells := 0, slots := 0, locals := 24 }
def sp_X1_hold (κ : Kx) (y : Ly) (post : Int32 → Wd → Prop) (w : Wd) (p0 : Int32) (p1 : Int32) (p2 : Int32) : Prop := post (jmax p1 (jmin p2 p0)) w
theorem hds_X1_hold : yX1_hold.cls ≠ "java/lang/invoke/MethodHandle" ∧ yX1_hold.cls ≠ "java/lang/invoke/VarHandle" ∧ (parseMethodDescriptor yX1_hold.desc).map (fun d => d.parameters.length) = some 3 := by decide +kernel
set_option maxHeartbeats 4000000 in
theorem m_X1_hold {l : Launch} {κ : Kx} {y : Ly} {X : XR} {post : Int32 → Wd → Prop} {w : Wd} {p0 : Int32} {p1 : Int32} {p2 : Int32}  (hW : WFc κ y)  (h : sp_X1_hold κ y post w p0 p1 p2) : Met l yX1_hold (ws_ yX1_hold cX1_hold 3 (Option.some Jvm.ClassFile.FieldType.int)) rm_X1_hold (va_Pc [.int (p0), .int (p1), .int (p2)] (RC κ w y X)) (va_Qi post (fun w t => Rp κ w y X [] t.heap) (Af κ)) 0 0 (Af κ) := by
  unfold sp_X1_hold at h
  refine Met.ofW (cc := cX1_hold) (maxL := 3) (ret := (Option.some Jvm.ClassFile.FieldType.int)) (by decide) rfl ?_
  intro p e s m args below meth c s₁ B hml hv
  obtain ⟨rfl, hR, hK⟩ := hv
  have hx := B.exec
  have hb := B.bytes
  have hr := B.returns
  have hts := atoms_spec (ws := ws_ yX1_hold cX1_hold 3 (Option.some Jvm.ClassFile.FieldType.int)) B.pre
  have hts : ∀ w ∈ lw_all, w.before _ s = true := fun w h => hts w (List.mem_cons_of_mem _ h)
  have hown : s.vm.findClass RX1 = some m.cls := findClass_of_methodNamed B.named
  have hlocks := B.notSynchronized
  have hS : va_S (Af κ) s.heap s.heap [] := va_S.rf
  have hl := lv_entry ([.int (p0), .int (p1), .int (p2)]) (n := 3) (Nat.le_of_ble_eq_true rfl)
  rw [lg_entry_eq]
  generalize (lg_sl ([.int (p0), .int (p1), .int (p2)]) ++ List.replicate (3 - (lg_sl ([.int (p0), .int (p1), .int (p2)])).length) Slot.unset).toArray = ls at hl ⊢
  have hl : lv_has ls 3 [(0, .int (p0)), (1, .int (p1)), (2, .int (p2))] := hl
  refine lv_iload_n hx hb dX1_hold_0 rfl (lv_at hl 1 rfl) ?_
  refine lv_iload_n hx hb dX1_hold_1 rfl (lv_at hl 2 rfl) ?_
  refine lv_iload_n hx hb dX1_hold_2 rfl (lv_at hl 0 rfl) ?_
  refine va_mmin hx hb (hml.trans hl.1.symm) hown (hts _ q640) (hts _ q322) (hts _ q95) (hts _ q323) (Nat.le_of_ble_eq_true rfl) (Nat.le_of_ble_eq_true rfl) (Nat.le_of_ble_eq_true rfl) (Nat.le_of_ble_eq_true rfl) dX1_hold_3 ?_
  refine va_mmax hx hb (hml.trans hl.1.symm) hown (hts _ q641) (hts _ q642) (hts _ q95) (hts _ q643) (Nat.le_of_ble_eq_true rfl) (Nat.le_of_ble_eq_true rfl) (Nat.le_of_ble_eq_true rfl) (Nat.le_of_ble_eq_true rfl) dX1_hold_6 ?_
  refine W.widen (k := 0) (n := 0) (Nat.le_of_ble_eq_true rfl) (Nat.le_of_ble_eq_true rfl) ?_
  exact W.iret (v := jmax p1 (jmin p2 p0)) hx hb hr (fun t ht hW9 => ⟨⟨jmax p1 (jmin p2 p0), w, rfl, h, rpt ht hR⟩, hS.F ht⟩) hS.2.2 dX1_hold_9
abbrev rm_X1_isIn : Room := { frames := 0, cells := 0, slots := 0, locals := 0 }
def sp_X1_isIn (κ : Kx) (y : Ly) (post : Int32 → Wd → Prop) (w : Wd) (p0 : Int32) (p1 : Int32) (p2 : Int32) : Prop := ((p0 < p1) → (post ((0 : Int32)) w)) ∧ ((¬ (p0 < p1)) → (((p2 < p0) → (post ((0 : Int32)) w)) ∧ ((¬ (p2 < p0)) → (post ((1 : Int32)) w))))
theorem hds_X1_isIn : yX1_isIn.cls ≠ "java/lang/invoke/MethodHandle" ∧ yX1_isIn.cls ≠ "java/lang/invoke/VarHandle" ∧ (parseMethodDescriptor yX1_isIn.desc).map (fun d => d.parameters.length) = some 3 := by decide +kernel
set_option maxHeartbeats 4000000 in
theorem m_X1_isIn {l : Launch} {κ : Kx} {y : Ly} {X : XR} {post : Int32 → Wd → Prop} {w : Wd} {p0 : Int32} {p1 : Int32} {p2 : Int32}  (hW : WFc κ y)  (h : sp_X1_isIn κ y post w p0 p1 p2) : Met l yX1_isIn (ws_ yX1_isIn cX1_isIn 3 (Option.some Jvm.ClassFile.FieldType.boolean)) rm_X1_isIn (va_Pc [.int (p0), .int (p1), .int (p2)] (RC κ w y X)) (va_Qi post (fun w t => Rp κ w y X [] t.heap) (Af κ)) 0 0 (Af κ) := by
  unfold sp_X1_isIn at h
  refine Met.ofW (cc := cX1_isIn) (maxL := 3) (ret := (Option.some Jvm.ClassFile.FieldType.boolean)) (by decide) rfl ?_
  intro p e s m args below meth c s₁ B hml hv
  obtain ⟨rfl, hR, hK⟩ := hv
  have hx := B.exec
  have hb := B.bytes
  have hr := B.returns
  have hts := atoms_spec (ws := ws_ yX1_isIn cX1_isIn 3 (Option.some Jvm.ClassFile.FieldType.boolean)) B.pre
  have hts : ∀ w ∈ lw_all, w.before _ s = true := fun w h => hts w (List.mem_cons_of_mem _ h)
  have hown : s.vm.findClass RX1 = some m.cls := findClass_of_methodNamed B.named
  have hlocks := B.notSynchronized
  have hS : va_S (Af κ) s.heap s.heap [] := va_S.rf
  have hl := lv_entry ([.int (p0), .int (p1), .int (p2)]) (n := 3) (Nat.le_of_ble_eq_true rfl)
  rw [lg_entry_eq]
  generalize (lg_sl ([.int (p0), .int (p1), .int (p2)]) ++ List.replicate (3 - (lg_sl ([.int (p0), .int (p1), .int (p2)])).length) Slot.unset).toArray = ls at hl ⊢
  have hl : lv_has ls 3 [(0, .int (p0)), (1, .int (p1)), (2, .int (p2))] := hl
  refine lv_iload_n hx hb dX1_isIn_0 rfl (lv_at hl 0 rfl) ?_
  refine lv_iload_n hx hb dX1_isIn_1 rfl (lv_at hl 1 rfl) ?_
  refine lv_icmp_lt (tgt := 14) hx hb dX1_isIn_2 (by decide) (fun c_2 => ?_) (fun c_2 => ?_)
  · have h := h.1 c_2
    refine lv_iconst (v := (0 : Int32)) hx hb dX1_isIn_14 (by decide) ?_
    refine W.widen (k := 0) (n := 0) (Nat.le_of_ble_eq_true rfl) (Nat.le_of_ble_eq_true rfl) ?_
    exact W.zret (v := (0 : Int32)) hx hb hr nbo_0.n (fun t ht hW9 => ⟨⟨(0 : Int32), w, rfl, h, rpt ht hR⟩, hS.F ht⟩) hS.2.2 dX1_isIn_15
  · have h := h.2 c_2
    refine lv_iload_n hx hb dX1_isIn_5 rfl (lv_at hl 0 rfl) ?_
    refine lv_iload_n hx hb dX1_isIn_6 rfl (lv_at hl 2 rfl) ?_
    refine lv_icmp_gt (tgt := 14) hx hb dX1_isIn_7 (by decide) (fun c_7 => ?_) (fun c_7 => ?_)
    · have h := h.1 c_7
      refine lv_iconst (v := (0 : Int32)) hx hb dX1_isIn_14 (by decide) ?_
      refine W.widen (k := 0) (n := 0) (Nat.le_of_ble_eq_true rfl) (Nat.le_of_ble_eq_true rfl) ?_
      exact W.zret (v := (0 : Int32)) hx hb hr nbo_0.n (fun t ht hW9 => ⟨⟨(0 : Int32), w, rfl, h, rpt ht hR⟩, hS.F ht⟩) hS.2.2 dX1_isIn_15
    · have h := h.2 c_7
      refine lv_iconst (v := (1 : Int32)) hx hb dX1_isIn_10 (by decide) ?_
      refine lv_goto (tgt := 15) hx hb dX1_isIn_11 (by decide) ?_
      refine W.widen (k := 0) (n := 0) (Nat.le_of_ble_eq_true rfl) (Nat.le_of_ble_eq_true rfl) ?_
      exact W.zret (v := (1 : Int32)) hx hb hr nbo_1.n (fun t ht hW9 => ⟨⟨(1 : Int32), w, rfl, h, rpt ht hR⟩, hS.F ht⟩) hS.2.2 dX1_isIn_15
abbrev rm_X1_check : Room := { frames := 6, cells := 1, slots := 6, locals := 90 }
def sp_X1_check (κ : Kx) (y : Ly) (post : Wd → Prop) (px : String → Wd → Prop) (w : Wd) (p0 : Int32) : Prop := ((¬ p0 = 0) → (post w)) ∧ ((p0 = 0) → (px "java/lang/IllegalArgumentException" w))
theorem hds_X1_check : yX1_check.cls ≠ "java/lang/invoke/MethodHandle" ∧ yX1_check.cls ≠ "java/lang/invoke/VarHandle" ∧ (parseMethodDescriptor yX1_check.desc).map (fun d => d.parameters.length) = some 2 := by decide +kernel
set_option maxHeartbeats 4000000 in
theorem m_X1_check {l : Launch} {κ : Kx} {y : Ly} {X : XR} {post : Wd → Prop} {px : String → Wd → Prop} {w : Wd} {p0 : Int32} {s1 : Nat} (hfl : l.stackTraces = false) (hW : WFc κ y)  (h : sp_X1_check κ y post px w p0) : vx_Met l yX1_check (ws_ yX1_check cX1_check 2 (Option.none : Option Jvm.ClassFile.FieldType)) rm_X1_check (va_Pc [.int (p0), .ref (s1)] (RC κ w y X)) (va_Qv post (fun w t => Rp κ w y X [] t.heap) (Af κ)) (XCk κ y X px) 1 6 (Af κ) := by
  unfold sp_X1_check at h
  refine vx_ofW (cc := cX1_check) (maxL := 2) (ret := (Option.none : Option Jvm.ClassFile.FieldType)) (by decide) rfl ?_
  intro p e s m args below meth c s₁ B hml ht hv
  obtain ⟨rfl, hR, hK⟩ := hv
  have hx := B.exec
  have hb := B.bytes
  have hr := B.returns
  have hts := atoms_spec (ws := ws_ yX1_check cX1_check 2 (Option.none : Option Jvm.ClassFile.FieldType)) B.pre
  have hts : ∀ w ∈ lw_all, w.before _ s = true := fun w h => hts w (List.mem_cons_of_mem _ h)
  have hown : s.vm.findClass RX1 = some m.cls := findClass_of_methodNamed B.named
  have hlocks := B.notSynchronized
  have hR0 := hR
  have hS : va_S (Af κ) s.heap s.heap [] := va_S.rf
  have hl := lv_entry ([.int (p0), .ref (s1)]) (n := 2) (Nat.le_of_ble_eq_true rfl)
  rw [lg_entry_eq]
  generalize (lg_sl ([.int (p0), .ref (s1)]) ++ List.replicate (2 - (lg_sl ([.int (p0), .ref (s1)])).length) Slot.unset).toArray = ls at hl ⊢
  have hl : lv_has ls 2 [(0, .int (p0)), (1, .ref (s1))] := hl
  refine lv_iload_n hx hb dX1_check_0 rfl (lv_at hl 0 rfl) ?_
  refine lv_if_ne (tgt := 13) hx hb dX1_check_1 (by decide) (fun c_1 => ?_) (fun c_1 => ?_)
  · have h := h.1 c_1
    refine W.widen (k := 1) (n := 6) (Nat.le_of_ble_eq_true rfl) (Nat.le_of_ble_eq_true rfl) ?_
    refine vx_ret ?_; exact W.vret hx hb hr (fun t ht hW9 => ⟨⟨w, rfl, h, rpt ht hR⟩, hS.F ht⟩) hS.2.2 dX1_check_13
  · have h := h.2 c_1
    exact jr_throwA (cls := "java/lang/IllegalArgumentException") (k := 1) (ki := 1) hx hb hfl hown hK hts (by decide +kernel) q797 q90 rfl (lv_at hl 1 rfl) (xw_iae hK hts) xo_iae hR0 hR hS (hl.1.trans hml.symm) dX1_check_4 dX1_check_7 dX1_check_8 dX1_check_9 dX1_check_12 ht (Nat.le_of_ble_eq_true rfl) (Nat.le_of_ble_eq_true rfl) (Nat.le_of_ble_eq_true rfl) (Nat.le_of_ble_eq_true rfl) hlocks h (Nat.le_of_ble_eq_true rfl) (Nat.le_of_ble_eq_true rfl)
abbrev rm_X1_state : Room := { frames := 6, cells := 1, slots := 6, locals := 90 }
def sp_X1_state (κ : Kx) (y : Ly) (post : Wd → Prop) (px : String → Wd → Prop) (w : Wd) (p0 : Int32) : Prop := ((¬ p0 = 0) → (post w)) ∧ ((p0 = 0) → (px "java/lang/IllegalStateException" w))
theorem hds_X1_state : yX1_state.cls ≠ "java/lang/invoke/MethodHandle" ∧ yX1_state.cls ≠ "java/lang/invoke/VarHandle" ∧ (parseMethodDescriptor yX1_state.desc).map (fun d => d.parameters.length) = some 2 := by decide +kernel
set_option maxHeartbeats 4000000 in
theorem m_X1_state {l : Launch} {κ : Kx} {y : Ly} {X : XR} {post : Wd → Prop} {px : String → Wd → Prop} {w : Wd} {p0 : Int32} {s1 : Nat} (hfl : l.stackTraces = false) (hW : WFc κ y)  (h : sp_X1_state κ y post px w p0) : vx_Met l yX1_state (ws_ yX1_state cX1_state 2 (Option.none : Option Jvm.ClassFile.FieldType)) rm_X1_state (va_Pc [.int (p0), .ref (s1)] (RC κ w y X)) (va_Qv post (fun w t => Rp κ w y X [] t.heap) (Af κ)) (XCk κ y X px) 1 6 (Af κ) := by
  unfold sp_X1_state at h
  refine vx_ofW (cc := cX1_state) (maxL := 2) (ret := (Option.none : Option Jvm.ClassFile.FieldType)) (by decide) rfl ?_
  intro p e s m args below meth c s₁ B hml ht hv
  obtain ⟨rfl, hR, hK⟩ := hv
  have hx := B.exec
  have hb := B.bytes
  have hr := B.returns
  have hts := atoms_spec (ws := ws_ yX1_state cX1_state 2 (Option.none : Option Jvm.ClassFile.FieldType)) B.pre
  have hts : ∀ w ∈ lw_all, w.before _ s = true := fun w h => hts w (List.mem_cons_of_mem _ h)
  have hown : s.vm.findClass RX1 = some m.cls := findClass_of_methodNamed B.named
  have hlocks := B.notSynchronized
  have hR0 := hR
  have hS : va_S (Af κ) s.heap s.heap [] := va_S.rf
  have hl := lv_entry ([.int (p0), .ref (s1)]) (n := 2) (Nat.le_of_ble_eq_true rfl)
  rw [lg_entry_eq]
  generalize (lg_sl ([.int (p0), .ref (s1)]) ++ List.replicate (2 - (lg_sl ([.int (p0), .ref (s1)])).length) Slot.unset).toArray = ls at hl ⊢
  have hl : lv_has ls 2 [(0, .int (p0)), (1, .ref (s1))] := hl
  refine lv_iload_n hx hb dX1_state_0 rfl (lv_at hl 0 rfl) ?_
  refine lv_if_ne (tgt := 13) hx hb dX1_state_1 (by decide) (fun c_1 => ?_) (fun c_1 => ?_)
  · have h := h.1 c_1
    refine W.widen (k := 1) (n := 6) (Nat.le_of_ble_eq_true rfl) (Nat.le_of_ble_eq_true rfl) ?_
    refine vx_ret ?_; exact W.vret hx hb hr (fun t ht hW9 => ⟨⟨w, rfl, h, rpt ht hR⟩, hS.F ht⟩) hS.2.2 dX1_state_13
  · have h := h.2 c_1
    exact jr_throwA (cls := "java/lang/IllegalStateException") (k := 1) (ki := 1) hx hb hfl hown hK hts (by decide +kernel) q816 q91 rfl (lv_at hl 1 rfl) (xw_ise hK hts) xo_ise hR0 hR hS (hl.1.trans hml.symm) dX1_state_4 dX1_state_7 dX1_state_8 dX1_state_9 dX1_state_12 ht (Nat.le_of_ble_eq_true rfl) (Nat.le_of_ble_eq_true rfl) (Nat.le_of_ble_eq_true rfl) (Nat.le_of_ble_eq_true rfl) hlocks h (Nat.le_of_ble_eq_true rfl) (Nat.le_of_ble_eq_true rfl)
abbrev rm_X1_index : Room := { frames := 6, cells := 1, slots := 6, locals := 90 }
def sp_X1_index (κ : Kx) (y : Ly) (post : Int32 → Wd → Prop) (px : String → Wd → Prop) (w : Wd) (p0 : Int32) (p1 : Int32) : Prop := ((p0 < 0) → (px "java/lang/IndexOutOfBoundsException" w)) ∧ ((¬ (p0 < 0)) → (((p0 < p1) → (post (p0) w)) ∧ ((¬ (p0 < p1)) → (px "java/lang/IndexOutOfBoundsException" w))))
theorem hds_X1_index : yX1_index.cls ≠ "java/lang/invoke/MethodHandle" ∧ yX1_index.cls ≠ "java/lang/invoke/VarHandle" ∧ (parseMethodDescriptor yX1_index.desc).map (fun d => d.parameters.length) = some 3 := by decide +kernel
set_option maxHeartbeats 4000000 in
theorem m_X1_index {l : Launch} {κ : Kx} {y : Ly} {X : XR} {post : Int32 → Wd → Prop} {px : String → Wd → Prop} {w : Wd} {p0 : Int32} {p1 : Int32} {s2 : Nat} (hfl : l.stackTraces = false) (hW : WFc κ y)  (h : sp_X1_index κ y post px w p0 p1) : vx_Met l yX1_index (ws_ yX1_index cX1_index 3 (Option.some Jvm.ClassFile.FieldType.int)) rm_X1_index (va_Pc [.int (p0), .int (p1), .ref (s2)] (RC κ w y X)) (va_Qi post (fun w t => Rp κ w y X [] t.heap) (Af κ)) (XCk κ y X px) 1 6 (Af κ) := by
  unfold sp_X1_index at h
  refine vx_ofW (cc := cX1_index) (maxL := 3) (ret := (Option.some Jvm.ClassFile.FieldType.int)) (by decide) rfl ?_
  intro p e s m args below meth c s₁ B hml ht hv
  obtain ⟨rfl, hR, hK⟩ := hv
  have hx := B.exec
  have hb := B.bytes
  have hr := B.returns
  have hts := atoms_spec (ws := ws_ yX1_index cX1_index 3 (Option.some Jvm.ClassFile.FieldType.int)) B.pre
  have hts : ∀ w ∈ lw_all, w.before _ s = true := fun w h => hts w (List.mem_cons_of_mem _ h)
  have hown : s.vm.findClass RX1 = some m.cls := findClass_of_methodNamed B.named
  have hlocks := B.notSynchronized
  have hR0 := hR
  have hS : va_S (Af κ) s.heap s.heap [] := va_S.rf
  have hl := lv_entry ([.int (p0), .int (p1), .ref (s2)]) (n := 3) (Nat.le_of_ble_eq_true rfl)
  rw [lg_entry_eq]
  generalize (lg_sl ([.int (p0), .int (p1), .ref (s2)]) ++ List.replicate (3 - (lg_sl ([.int (p0), .int (p1), .ref (s2)])).length) Slot.unset).toArray = ls at hl ⊢
  have hl : lv_has ls 3 [(0, .int (p0)), (1, .int (p1)), (2, .ref (s2))] := hl
  refine lv_iload_n hx hb dX1_index_0 rfl (lv_at hl 0 rfl) ?_
  refine lv_if_lt (tgt := 9) hx hb dX1_index_1 (by decide) (fun c_1 => ?_) (fun c_1 => ?_)
  · have h := h.1 c_1
    exact jr_throwA (cls := "java/lang/IndexOutOfBoundsException") (k := 2) (ki := 2) hx hb hfl hown hK hts (by decide +kernel) q1036 q102 rfl (lv_at hl 2 rfl) (xw_ioobe hK hts) xo_ioobe hR0 hR hS (hl.1.trans hml.symm) dX1_index_9 dX1_index_12 dX1_index_13 dX1_index_14 dX1_index_17 ht (Nat.le_of_ble_eq_true rfl) (Nat.le_of_ble_eq_true rfl) (Nat.le_of_ble_eq_true rfl) (Nat.le_of_ble_eq_true rfl) hlocks h (Nat.le_of_ble_eq_true rfl) (Nat.le_of_ble_eq_true rfl)
  · have h := h.2 c_1
    refine lv_iload_n hx hb dX1_index_4 rfl (lv_at hl 0 rfl) ?_
    refine lv_iload_n hx hb dX1_index_5 rfl (lv_at hl 1 rfl) ?_
    refine lv_icmp_lt (tgt := 18) hx hb dX1_index_6 (by decide) (fun c_6 => ?_) (fun c_6 => ?_)
    · have h := h.1 c_6
      refine lv_iload_n hx hb dX1_index_18 rfl (lv_at hl 0 rfl) ?_
      refine W.widen (k := 1) (n := 6) (Nat.le_of_ble_eq_true rfl) (Nat.le_of_ble_eq_true rfl) ?_
      refine vx_ret ?_; exact W.iret (v := p0) hx hb hr (fun t ht hW9 => ⟨⟨p0, w, rfl, h, rpt ht hR⟩, hS.F ht⟩) hS.2.2 dX1_index_19
    · have h := h.2 c_6
      exact jr_throwA (cls := "java/lang/IndexOutOfBoundsException") (k := 2) (ki := 2) hx hb hfl hown hK hts (by decide +kernel) q1036 q102 rfl (lv_at hl 2 rfl) (xw_ioobe hK hts) xo_ioobe hR0 hR hS (hl.1.trans hml.symm) dX1_index_9 dX1_index_12 dX1_index_13 dX1_index_14 dX1_index_17 ht (Nat.le_of_ble_eq_true rfl) (Nat.le_of_ble_eq_true rfl) (Nat.le_of_ble_eq_true rfl) (Nat.le_of_ble_eq_true rfl) hlocks h (Nat.le_of_ble_eq_true rfl) (Nat.le_of_ble_eq_true rfl)
abbrev rm_X1_areVillages : Room := { frames := 1, cells := 0, slots := 0, locals := 20 }
def sp_X1_areVillages (κ : Kx) (y : Ly) (post : Int32 → Wd → Prop) (w : Wd) (p1 : Int32) : Prop := ((p1 < 0) → (post ((0 : Int32)) w)) ∧ ((¬ (p1 < 0)) → (((¬ p1 >>> ((nI (nV y)) &&& 31) = 0) → (post ((0 : Int32)) w)) ∧ ((p1 >>> ((nI (nV y)) &&& 31) = 0) → (post ((1 : Int32)) w))))
theorem hd_X1_areVillages : yX1_areVillages.cls = RX1 ∧ yX1_areVillages.cls ≠ "java/lang/invoke/MethodHandle" ∧ yX1_areVillages.cls ≠ "java/lang/invoke/VarHandle" ∧ (parseMethodDescriptor yX1_areVillages.desc).map (fun d => d.parameters.length) = some 1 := by decide +kernel
set_option maxHeartbeats 4000000 in
theorem m_X1_areVillages {l : Launch} {κ : Kx} {y : Ly} {X : XR} {post : Int32 → Wd → Prop} {w : Wd} {p1 : Int32}  (hW : WFc κ y) (l0 : live y 0 0) (h : sp_X1_areVillages κ y post w p1) : Met l yX1_areVillages (ws_ yX1_areVillages cX1_areVillages 2 (Option.some Jvm.ClassFile.FieldType.boolean)) rm_X1_areVillages (va_Pc [.ref (y.2 0 0), .int (p1)] (RC κ w y X)) (va_Qi post (fun w t => Rp κ w y X [] t.heap) (Af κ)) 0 0 (Af κ) := by
  unfold sp_X1_areVillages at h
  refine Met.ofW (cc := cX1_areVillages) (maxL := 2) (ret := (Option.some Jvm.ClassFile.FieldType.boolean)) (by decide) rfl ?_
  intro p e s m args below meth c s₁ B hml hv
  obtain ⟨rfl, hR, hK⟩ := hv
  have hx := B.exec
  have hb := B.bytes
  have hr := B.returns
  have hts := atoms_spec (ws := ws_ yX1_areVillages cX1_areVillages 2 (Option.some Jvm.ClassFile.FieldType.boolean)) B.pre
  have hts : ∀ w ∈ lw_all, w.before _ s = true := fun w h => hts w (List.mem_cons_of_mem _ h)
  have hown : s.vm.findClass RX1 = some m.cls := findClass_of_methodNamed B.named
  have hlocks := B.notSynchronized
  have hS : va_S (Af κ) s.heap s.heap [] := va_S.rf
  have hl := lv_entry ([.ref (y.2 0 0), .int (p1)]) (n := 2) (Nat.le_of_ble_eq_true rfl)
  rw [lg_entry_eq]
  generalize (lg_sl ([.ref (y.2 0 0), .int (p1)]) ++ List.replicate (2 - (lg_sl ([.ref (y.2 0 0), .int (p1)])).length) Slot.unset).toArray = ls at hl ⊢
  have hl : lv_has ls 2 [(0, .ref (y.2 0 0)), (1, .int (p1))] := hl
  refine lv_iload_n hx hb dX1_areVillages_0 rfl (lv_at hl 1 rfl) ?_
  refine lv_if_lt (tgt := 20) hx hb dX1_areVillages_1 (by decide) (fun c_1 => ?_) (fun c_1 => ?_)
  · have h := h.1 c_1
    refine lv_iconst (v := (0 : Int32)) hx hb dX1_areVillages_20 (by decide) ?_
    refine W.widen (k := 0) (n := 0) (Nat.le_of_ble_eq_true rfl) (Nat.le_of_ble_eq_true rfl) ?_
    exact W.zret (v := (0 : Int32)) hx hb hr nbo_0.n (fun t ht hW9 => ⟨⟨(0 : Int32), w, rfl, h, rpt ht hR⟩, hS.F ht⟩) hS.2.2 dX1_areVillages_21
  · have h := h.2 c_1
    refine lv_iload_n hx hb dX1_areVillages_4 rfl (lv_at hl 1 rfl) ?_
    refine lv_aload_n hx hb dX1_areVillages_5 rfl (lv_at hl 0 rfl) ?_
    refine g0_0 hx hb hts hown hK hR l0 q247 dX1_areVillages_6 ?_
    refine jr_size ⟨hx, hb, hml, hown, hts⟩ hK hR ⟨fun _ _ _ _ _ => rfl, fun _ _ _ _ _ => rfl⟩ hW.lsV q536 ⟨Nat.le_of_ble_eq_true rfl, Nat.le_of_ble_eq_true rfl⟩ hl.1 (Nat.le_of_ble_eq_true rfl) dX1_areVillages_9 ⟨(Nat.le_of_ble_eq_true rfl), (Nat.le_of_ble_eq_true rfl)⟩ ?_
    refine lv_ishr hx hb dX1_areVillages_12 ?_
    refine lv_if_ne (tgt := 20) hx hb dX1_areVillages_13 (by decide) (fun c_13 => ?_) (fun c_13 => ?_)
    · have h := h.1 c_13
      refine lv_iconst (v := (0 : Int32)) hx hb dX1_areVillages_20 (by decide) ?_
      refine W.widen (k := 0) (n := 0) (Nat.le_of_ble_eq_true rfl) (Nat.le_of_ble_eq_true rfl) ?_
      exact W.zret (v := (0 : Int32)) hx hb hr nbo_0.n (fun t ht hW9 => ⟨⟨(0 : Int32), w, rfl, h, rpt ht hR⟩, hS.F ht⟩) hS.2.2 dX1_areVillages_21
    · have h := h.2 c_13
      refine lv_iconst (v := (1 : Int32)) hx hb dX1_areVillages_16 (by decide) ?_
      refine lv_goto (tgt := 21) hx hb dX1_areVillages_17 (by decide) ?_
      refine W.widen (k := 0) (n := 0) (Nat.le_of_ble_eq_true rfl) (Nat.le_of_ble_eq_true rfl) ?_
      exact W.zret (v := (1 : Int32)) hx hb hr nbo_1.n (fun t ht hW9 => ⟨⟨(1 : Int32), w, rfl, h, rpt ht hR⟩, hS.F ht⟩) hS.2.2 dX1_areVillages_21
abbrev rm_X1_dutyOf : Room := { frames := 7, cells := 2, slots := 9, locals := 112 }
def sp_X1_dutyOf (κ : Kx) (y : Ly) (post : Nat → Wd → Prop) (px : String → Wd → Prop) (w : Wd) (p0 : Int32) : Prop := sp_X1_index κ y (fun r_7 w_7 => (vp_in (r_7) 3) ∧ (post ((r_7).toNatClampNeg) w_7)) px w p0 (3 : Int32)
theorem hds_X1_dutyOf : yX1_dutyOf.cls ≠ "java/lang/invoke/MethodHandle" ∧ yX1_dutyOf.cls ≠ "java/lang/invoke/VarHandle" ∧ (parseMethodDescriptor yX1_dutyOf.desc).map (fun d => d.parameters.length) = some 1 := by decide +kernel
set_option maxHeartbeats 4000000 in
theorem m_X1_dutyOf {l : Launch} {κ : Kx} {y : Ly} {X : XR} {post : Nat → Wd → Prop} {px : String → Wd → Prop} {w : Wd} {p0 : Int32}  (hfl : l.stackTraces = false) (hW : WFc κ y)  (h : sp_X1_dutyOf κ y post px w p0) : vx_Met l yX1_dutyOf (ws_ yX1_dutyOf cX1_dutyOf 1 (Option.some (Jvm.ClassFile.FieldType.object "Publicanry$Duty"))) rm_X1_dutyOf (va_Pc [.int (p0)] (RC κ w y X)) (va_Qr (fun u : Nat × Wd => post u.1 u.2) (fun u ra t => Rp κ u.2 y X [] t.heap ∧ (ra = kA κ (20 + u.1) ∧ u.1 < 3)) (Af κ)) (XCk κ y X px) 2 9 (Af κ) := by
  unfold sp_X1_dutyOf at h
  refine vx_ofW (cc := cX1_dutyOf) (maxL := 1) (ret := (Option.some (Jvm.ClassFile.FieldType.object "Publicanry$Duty"))) (by decide) rfl ?_
  intro p e s m args below meth c s₁ B hml ht hv
  obtain ⟨rfl, hR, hK⟩ := hv
  have hx := B.exec
  have hb := B.bytes
  have hr := B.returns
  have hts := atoms_spec (ws := ws_ yX1_dutyOf cX1_dutyOf 1 (Option.some (Jvm.ClassFile.FieldType.object "Publicanry$Duty"))) B.pre
  have hts : ∀ w ∈ lw_all, w.before _ s = true := fun w h => hts w (List.mem_cons_of_mem _ h)
  have hown : s.vm.findClass RX1 = some m.cls := findClass_of_methodNamed B.named
  have hlocks := B.notSynchronized
  have hR0 := hR
  have hS : va_S (Af κ) s.heap s.heap [] := va_S.rf
  have hl := lv_entry ([.int (p0)]) (n := 1) (Nat.le_of_ble_eq_true rfl)
  rw [lg_entry_eq]
  generalize (lg_sl ([.int (p0)]) ++ List.replicate (1 - (lg_sl ([.int (p0)])).length) Slot.unset).toArray = ls at hl ⊢
  have hl : lv_has ls 1 [(0, .int (p0))] := hl
  refine jr_values (rest := []) ⟨hx, hb, hml, hown, hts⟩ hK hR hS q206 ⟨Nat.le_of_ble_eq_true rfl, Nat.le_of_ble_eq_true rfl⟩ hl.1 (Nat.le_of_ble_eq_true rfl) dX1_dutyOf_0 ⟨(Nat.le_of_ble_eq_true rfl), (Nat.le_of_ble_eq_true rfl)⟩ (fun q_0 H locs hR hS => ?_)
  have hR : Rp κ w y X [(q_0, dvC κ)] H := hR
  refine lv_iload_n hx hb dX1_dutyOf_3 rfl (lv_at hl 0 rfl) ?_
  refine lv_iconst (v := (3 : Int32)) hx hb dX1_dutyOf_4 (by decide) ?_
  refine jr_ldcS (own := "Publicanry") (k := 118) (tx := "duty") (n := 1118) hx hb hown hK (List.mem_of_getElem? (i := 4) rfl) dX1_dutyOf_5 ?_
  refine cex_qi (fw := fun u => u) (fy := fun _ => y) (crx_S (n := 3) (As := [.int (p0), .int ((3 : Int32)), .ref (kA κ 1118)]) (rest := [.ref (q_0)]) ⟨hx, hb, hml, hown, hts⟩ hK hR (m_X1_index hfl hW h) q1033 q1034 q74 q1035 rfl rfl hds_X1_index ⟨Nat.le_of_ble_eq_true rfl, Nat.le_of_ble_eq_true rfl⟩ rfl rfl hl.1 rfl (lv_room (Nat.le_of_ble_eq_true rfl)) dX1_dutyOf_7 ⟨(Nat.le_of_ble_eq_true rfl), (Nat.le_of_ble_eq_true rfl)⟩) hR hS ht hlocks (Nat.le_of_ble_eq_true rfl) (Nat.le_of_ble_eq_true rfl) (fun r_7 w_7 H locs h hR _ hS => ?_)
  have o_10 := h.1
  have h := h.2
  refine xa_aald hx hb hK.1 (hR.L 0 _ rfl) 7 rfl o_10 dX1_dutyOf_10 ?_
  have hR := hR.sub (L' := []) [] rfl rfl
  refine W.widen (k := 2) (n := 9) (Nat.le_of_ble_eq_true rfl) (Nat.le_of_ble_eq_true rfl) ?_
  refine vx_ret ?_; exact W.aret hx hb hr (Or.inl ⟨_, rfl⟩) (Or.inr ⟨_, rfl⟩) (fun t ht hW9 => ⟨⟨((r_7).toNatClampNeg, w_7), _, rfl, h, rpt ht hR, rfl, (vp_lt o_10)⟩, hS.F ht⟩) hS.2.2 dX1_dutyOf_11
abbrev rm_X1_companyOf : Room := { frames := 7, cells := 1, slots := 6, locals := 112 }
def sp_X1_companyOf (κ : Kx) (y : Ly) (post : Nat → Wd → Prop) (px : String → Wd → Prop) (w : Wd) (p1 : Int32) : Prop := sp_X1_index κ y (fun r_14 w_14 => (vp_in (r_14) (nC y)) ∧ (post (((r_14).toNatClampNeg)) w_14)) px w p1 (nI (nC y))
theorem hd_X1_companyOf : yX1_companyOf.cls = RX1 ∧ yX1_companyOf.cls ≠ "java/lang/invoke/MethodHandle" ∧ yX1_companyOf.cls ≠ "java/lang/invoke/VarHandle" ∧ (parseMethodDescriptor yX1_companyOf.desc).map (fun d => d.parameters.length) = some 1 := by decide +kernel
set_option maxHeartbeats 4000000 in
theorem m_X1_companyOf {l : Launch} {κ : Kx} {y : Ly} {X : XR} {post : Nat → Wd → Prop} {px : String → Wd → Prop} {w : Wd} {p1 : Int32}  (hfl : l.stackTraces = false) (hW : WFc κ y) (l0 : live y 0 0) (h : sp_X1_companyOf κ y post px w p1) : vx_Met l yX1_companyOf (ws_ yX1_companyOf cX1_companyOf 2 (Option.some (Jvm.ClassFile.FieldType.object "Publicanry$Company"))) rm_X1_companyOf (va_Pc [.ref (y.2 0 0), .int (p1)] (RC κ w y X)) (va_Qr (fun u : Nat × Wd => post u.1 u.2) (fun u ra t => Rp κ u.2 y X [] t.heap ∧ (ra = y.2 9 u.1 ∧ live y 9 u.1)) (Af κ)) (XCk κ y X px) 1 6 (Af κ) := by
  unfold sp_X1_companyOf at h
  refine vx_ofW (cc := cX1_companyOf) (maxL := 2) (ret := (Option.some (Jvm.ClassFile.FieldType.object "Publicanry$Company"))) (by decide) rfl ?_
  intro p e s m args below meth c s₁ B hml ht hv
  obtain ⟨rfl, hR, hK⟩ := hv
  have hx := B.exec
  have hb := B.bytes
  have hr := B.returns
  have hts := atoms_spec (ws := ws_ yX1_companyOf cX1_companyOf 2 (Option.some (Jvm.ClassFile.FieldType.object "Publicanry$Company"))) B.pre
  have hts : ∀ w ∈ lw_all, w.before _ s = true := fun w h => hts w (List.mem_cons_of_mem _ h)
  have hown : s.vm.findClass RX1 = some m.cls := findClass_of_methodNamed B.named
  have hlocks := B.notSynchronized
  have hR0 := hR
  have hS : va_S (Af κ) s.heap s.heap [] := va_S.rf
  have hl := lv_entry ([.ref (y.2 0 0), .int (p1)]) (n := 2) (Nat.le_of_ble_eq_true rfl)
  rw [lg_entry_eq]
  generalize (lg_sl ([.ref (y.2 0 0), .int (p1)]) ++ List.replicate (2 - (lg_sl ([.ref (y.2 0 0), .int (p1)])).length) Slot.unset).toArray = ls at hl ⊢
  have hl : lv_has ls 2 [(0, .ref (y.2 0 0)), (1, .int (p1))] := hl
  refine lv_aload_n hx hb dX1_companyOf_0 rfl (lv_at hl 0 rfl) ?_
  refine g0_1 hx hb hts hown hK hR l0 q248 dX1_companyOf_1 ?_
  refine lv_iload_n hx hb dX1_companyOf_4 rfl (lv_at hl 1 rfl) ?_
  refine lv_aload_n hx hb dX1_companyOf_5 rfl (lv_at hl 0 rfl) ?_
  refine g0_1 hx hb hts hown hK hR l0 q248 dX1_companyOf_6 ?_
  refine jr_size ⟨hx, hb, hml, hown, hts⟩ hK hR ⟨fun _ _ _ _ _ => rfl, fun _ _ _ _ _ => rfl⟩ hW.lsC q536 ⟨Nat.le_of_ble_eq_true rfl, Nat.le_of_ble_eq_true rfl⟩ hl.1 (Nat.le_of_ble_eq_true rfl) dX1_companyOf_9 ⟨(Nat.le_of_ble_eq_true rfl), (Nat.le_of_ble_eq_true rfl)⟩ ?_
  refine jr_ldcS (own := "Publicanry") (k := 110) (tx := "company") (n := 1110) hx hb hown hK (List.mem_of_getElem? (i := 6) rfl) dX1_companyOf_12 ?_
  refine cex_qi (fw := fun u => u) (fy := fun _ => y) (crx_S (n := 3) (As := [.int (p1), .int (nI (nC y)), .ref (kA κ 1110)]) (rest := [.ref (y.2 42 0)]) ⟨hx, hb, hml, hown, hts⟩ hK hR (m_X1_index hfl hW h) q1033 q1034 q74 q1035 rfl rfl hds_X1_index ⟨Nat.le_of_ble_eq_true rfl, Nat.le_of_ble_eq_true rfl⟩ rfl rfl hl.1 rfl (lv_room (Nat.le_of_ble_eq_true rfl)) dX1_companyOf_14 ⟨(Nat.le_of_ble_eq_true rfl), (Nat.le_of_ble_eq_true rfl)⟩) hR hS ht hlocks (Nat.le_of_ble_eq_true rfl) (Nat.le_of_ble_eq_true rfl) (fun r_14 w_14 H locs h hR _ hS => ?_)
  have o_17 := h.1
  have h := h.2
  refine jr_get (a := y.2 9 ((r_14).toNatClampNeg)) ⟨hx, hb, hml, hown, hts⟩ hK hR ⟨fun _ _ _ _ _ => rfl, fun _ _ _ _ _ => rfl⟩ hW.lsC ⟨hW.arC (Nat.lt_of_le_of_lt (Nat.zero_le _) (vp_lt o_17)), (Nat.le_trans hW.nC4 (by decide))⟩ o_17 (hW.elC (vp_lt o_17)) q685 ⟨Nat.le_of_ble_eq_true rfl, Nat.le_of_ble_eq_true rfl⟩ hl.1 (Nat.le_of_ble_eq_true rfl) dX1_companyOf_17 ⟨(Nat.le_of_ble_eq_true rfl), (Nat.le_of_ble_eq_true rfl)⟩ ?_
  refine jr_castS (ci := 7) hx hb hown hK hts (hR.role (hW.com (vp_lt o_17))) rfl q371 dX1_companyOf_20 ?_
  refine W.widen (k := 1) (n := 6) (Nat.le_of_ble_eq_true rfl) (Nat.le_of_ble_eq_true rfl) ?_
  refine vx_ret ?_; exact W.aret hx hb hr (Or.inl ⟨_, rfl⟩) (Or.inr ⟨_, rfl⟩) (fun t ht hW9 => ⟨⟨(((r_14).toNatClampNeg), w_14), _, rfl, h, rpt ht hR, rfl, (hW.com (vp_lt o_17))⟩, hS.F ht⟩) hS.2.2 dX1_companyOf_23
abbrev rm_X1_ring : Room := { frames := 8, cells := 2, slots := 12, locals := 133 }
def sp_X1_ring (κ : Kx) (y : Ly) (post : Int32 → Wd → Prop) (px : String → Wd → Prop) (w : Wd) (p1 : Int32) (p2 : Int32) : Prop := sp_X1_companyOf κ y (fun i_2 w_2 => sp_X1_isIn κ y (fun r_9 w_9 => sp_X1_check κ y (fun w_15 => ∀ x_22 : Int32, x_22 = gv w_15 9 i_2 5 → ∀ w_26 : Wd, w_26 = sv w_15 9 i_2 5 (p2) → post (x_22) w_26) px w_9 r_9) w_2 p2 (0 : Int32) (3 : Int32)) px w p1
theorem hd_X1_ring : yX1_ring.cls = RX1 ∧ yX1_ring.cls ≠ "java/lang/invoke/MethodHandle" ∧ yX1_ring.cls ≠ "java/lang/invoke/VarHandle" ∧ (parseMethodDescriptor yX1_ring.desc).map (fun d => d.parameters.length) = some 2 := by decide +kernel
set_option maxHeartbeats 4000000 in
theorem m_X1_ring {l : Launch} {κ : Kx} {y : Ly} {X : XR} {post : Int32 → Wd → Prop} {px : String → Wd → Prop} {w : Wd} {p1 : Int32} {p2 : Int32}  (hfl : l.stackTraces = false) (hW : WFc κ y) (l0 : live y 0 0) (h : sp_X1_ring κ y post px w p1 p2) : vx_Met l yX1_ring (ws_ yX1_ring cX1_ring 5 (Option.some Jvm.ClassFile.FieldType.int)) rm_X1_ring (va_Pc [.ref (y.2 0 0), .int (p1), .int (p2)] (RC κ w y X)) (va_Qi post (fun w t => Rp κ w y X [] t.heap) (Af κ)) (XCk κ y X px) 2 12 (Af κ) := by
  unfold sp_X1_ring at h
  refine vx_ofW (cc := cX1_ring) (maxL := 5) (ret := (Option.some Jvm.ClassFile.FieldType.int)) (by decide) rfl ?_
  intro p e s m args below meth c s₁ B hml ht hv
  obtain ⟨rfl, hR, hK⟩ := hv
  have hx := B.exec
  have hb := B.bytes
  have hr := B.returns
  have hts := atoms_spec (ws := ws_ yX1_ring cX1_ring 5 (Option.some Jvm.ClassFile.FieldType.int)) B.pre
  have hts : ∀ w ∈ lw_all, w.before _ s = true := fun w h => hts w (List.mem_cons_of_mem _ h)
  have hown : s.vm.findClass RX1 = some m.cls := findClass_of_methodNamed B.named
  have hlocks := B.notSynchronized
  have hR0 := hR
  have hS : va_S (Af κ) s.heap s.heap [] := va_S.rf
  have hl := lv_entry ([.ref (y.2 0 0), .int (p1), .int (p2)]) (n := 5) (Nat.le_of_ble_eq_true rfl)
  rw [lg_entry_eq]
  generalize (lg_sl ([.ref (y.2 0 0), .int (p1), .int (p2)]) ++ List.replicate (5 - (lg_sl ([.ref (y.2 0 0), .int (p1), .int (p2)])).length) Slot.unset).toArray = ls at hl ⊢
  have hl : lv_has ls 5 [(0, .ref (y.2 0 0)), (1, .int (p1)), (2, .int (p2))] := hl
  refine lv_aload_n hx hb dX1_ring_0 rfl (lv_at hl 0 rfl) ?_
  refine lv_iload_n hx hb dX1_ring_1 rfl (lv_at hl 1 rfl) ?_
  refine cex_qr (fw := fun u : Nat × Wd => u.2) (fy := fun _ => y) (P := (fun (u : Nat × Wd) ra => ra = y.2 9 u.1 ∧ live y 9 u.1)) (crx_V (n := 1) (As := [.int (p1)]) (rest := []) ⟨hx, hb, hml, hown, hts⟩ hK hR (m_X1_companyOf hfl hW l0 h) q1176 q1178 qs22 q74 q1179 rfl rfl hd_X1_companyOf ⟨Nat.le_of_ble_eq_true rfl, Nat.le_of_ble_eq_true rfl⟩ (rv hK hR l0 (ci := 0) rfl rfl) rfl rfl hl.1 rfl (lv_room (Nat.le_of_ble_eq_true rfl)) dX1_ring_2 ⟨(Nat.le_of_ble_eq_true rfl), (Nat.le_of_ble_eq_true rfl)⟩) hR hS ht hlocks (Nat.le_of_ble_eq_true rfl) (Nat.le_of_ble_eq_true rfl) (fun u9 a_2 H locs h p9 hR _ hS => ?_)
  obtain ⟨i_2, w_2⟩ := u9
  obtain ⟨e9, lv_2⟩ := p9
  dsimp only at e9 lv_2
  subst e9
  refine lv_astore_n (lv' := [(3, .ref (y.2 9 i_2)), (0, .ref (y.2 0 0)), (1, .int (p1)), (2, .int (p2))]) hx hb dX1_ring_5 rfl hl (by decide) rfl (fun ls hl => ?_)
  refine lv_iload_n hx hb dX1_ring_6 rfl (lv_at hl 3 rfl) ?_
  refine lv_iconst (v := (0 : Int32)) hx hb dX1_ring_7 (by decide) ?_
  refine lv_iconst (v := (3 : Int32)) hx hb dX1_ring_8 (by decide) ?_
  refine ce_qi (fw := fun u => u) (fy := fun _ => y) (cr_S (n := 3) (As := [.int (p2), .int ((0 : Int32)), .int ((3 : Int32))]) (rest := []) ⟨hx, hb, hml, hown, hts⟩ hK hR (m_X1_isIn hW h) q790 q791 q74 q792 rfl rfl hds_X1_isIn ⟨Nat.le_of_ble_eq_true rfl, Nat.le_of_ble_eq_true rfl⟩ rfl rfl hl.1 rfl (lv_room (Nat.le_of_ble_eq_true rfl)) dX1_ring_9 ⟨(Nat.le_of_ble_eq_true rfl), (Nat.le_of_ble_eq_true rfl)⟩) hR hS (fun r_9 w_9 H locs h hR _ hS => ?_)
  refine jr_ldcwS (own := "Publicanry") (k := 260) (tx := "ring") (n := 1260) hx hb hown hK (List.mem_of_getElem? (i := 10) rfl) dX1_ring_12 ?_
  refine cex_qv (fw := fun u => u) (fy := fun _ => y) (crx_S (n := 2) (As := [.int (r_9), .ref (kA κ 1260)]) (rest := []) ⟨hx, hb, hml, hown, hts⟩ hK hR (m_X1_check hfl hW h) q794 q795 q74 q796 rfl rfl hds_X1_check ⟨Nat.le_of_ble_eq_true rfl, Nat.le_of_ble_eq_true rfl⟩ rfl rfl hl.1 rfl (lv_room (Nat.le_of_ble_eq_true rfl)) dX1_ring_15 ⟨(Nat.le_of_ble_eq_true rfl), (Nat.le_of_ble_eq_true rfl)⟩) hR hS ht hlocks (Nat.le_of_ble_eq_true rfl) (Nat.le_of_ble_eq_true rfl) (fun w_15 H locs h hR _ hS => ?_)
  refine lv_aload_n hx hb dX1_ring_18 rfl (lv_at hl 0 rfl) ?_
  refine g9_5 hx hb hts hown hK hR lv_2 q1133 dX1_ring_19 ?_
  refine lv_topi (fun x_22 ex_22 => ?_)
  have h := h x_22 ex_22
  refine lv_istore (lv' := [(4, .int (x_22)), (3, .ref (y.2 9 i_2)), (0, .ref (y.2 0 0)), (1, .int (p1)), (2, .int (p2))]) hx hb dX1_ring_22 hl (by decide) rfl (fun ls hl => ?_)
  refine lv_aload_n hx hb dX1_ring_24 rfl (lv_at hl 1 rfl) ?_
  refine lv_iload_n hx hb dX1_ring_25 rfl (lv_at hl 4 rfl) ?_
  refine p9_5 hx hb hts hown hK hR hS lv_2 q1133 dX1_ring_26 (fun H locs w_26 ew_26 hR hS => ?_)
  have h := h w_26 ew_26
  refine lv_iload hx hb dX1_ring_29 (lv_at hl 0 rfl) ?_
  refine W.widen (k := 2) (n := 12) (Nat.le_of_ble_eq_true rfl) (Nat.le_of_ble_eq_true rfl) ?_
  refine vx_ret ?_; exact W.iret (v := x_22) hx hb hr (fun t ht hW9 => ⟨⟨x_22, w_26, rfl, h, rpt ht hR⟩, hS.F ht⟩) hS.2.2 dX1_ring_31
abbrev rm_X1_lotOf : Room := { frames := 7, cells := 1, slots := 6, locals := 112 }
def sp_X1_lotOf (κ : Kx) (y : Ly) (post : Nat → Wd → Prop) (px : String → Wd → Prop) (w : Wd) (p1 : Int32) : Prop := sp_X1_index κ y (fun r_14 w_14 => (vp_in (r_14) (nL y)) ∧ (post (((r_14).toNatClampNeg)) w_14)) px w p1 (nI (nL y))
theorem hd_X1_lotOf : yX1_lotOf.cls = RX1 ∧ yX1_lotOf.cls ≠ "java/lang/invoke/MethodHandle" ∧ yX1_lotOf.cls ≠ "java/lang/invoke/VarHandle" ∧ (parseMethodDescriptor yX1_lotOf.desc).map (fun d => d.parameters.length) = some 1 := by decide +kernel
set_option maxHeartbeats 4000000 in
theorem m_X1_lotOf {l : Launch} {κ : Kx} {y : Ly} {X : XR} {post : Nat → Wd → Prop} {px : String → Wd → Prop} {w : Wd} {p1 : Int32}  (hfl : l.stackTraces = false) (hW : WFc κ y) (l0 : live y 0 0) (h : sp_X1_lotOf κ y post px w p1) : vx_Met l yX1_lotOf (ws_ yX1_lotOf cX1_lotOf 2 (Option.some (Jvm.ClassFile.FieldType.object "Publicanry$Lot"))) rm_X1_lotOf (va_Pc [.ref (y.2 0 0), .int (p1)] (RC κ w y X)) (va_Qr (fun u : Nat × Wd => post u.1 u.2) (fun u ra t => Rp κ u.2 y X [] t.heap ∧ (ra = y.2 11 u.1 ∧ live y 11 u.1)) (Af κ)) (XCk κ y X px) 1 6 (Af κ) := by
  unfold sp_X1_lotOf at h
  refine vx_ofW (cc := cX1_lotOf) (maxL := 2) (ret := (Option.some (Jvm.ClassFile.FieldType.object "Publicanry$Lot"))) (by decide) rfl ?_
  intro p e s m args below meth c s₁ B hml ht hv
  obtain ⟨rfl, hR, hK⟩ := hv
  have hx := B.exec
  have hb := B.bytes
  have hr := B.returns
  have hts := atoms_spec (ws := ws_ yX1_lotOf cX1_lotOf 2 (Option.some (Jvm.ClassFile.FieldType.object "Publicanry$Lot"))) B.pre
  have hts : ∀ w ∈ lw_all, w.before _ s = true := fun w h => hts w (List.mem_cons_of_mem _ h)
  have hown : s.vm.findClass RX1 = some m.cls := findClass_of_methodNamed B.named
  have hlocks := B.notSynchronized
  have hR0 := hR
  have hS : va_S (Af κ) s.heap s.heap [] := va_S.rf
  have hl := lv_entry ([.ref (y.2 0 0), .int (p1)]) (n := 2) (Nat.le_of_ble_eq_true rfl)
  rw [lg_entry_eq]
  generalize (lg_sl ([.ref (y.2 0 0), .int (p1)]) ++ List.replicate (2 - (lg_sl ([.ref (y.2 0 0), .int (p1)])).length) Slot.unset).toArray = ls at hl ⊢
  have hl : lv_has ls 2 [(0, .ref (y.2 0 0)), (1, .int (p1))] := hl
  refine lv_aload_n hx hb dX1_lotOf_0 rfl (lv_at hl 0 rfl) ?_
  refine g0_2 hx hb hts hown hK hR l0 q249 dX1_lotOf_1 ?_
  refine lv_iload_n hx hb dX1_lotOf_4 rfl (lv_at hl 1 rfl) ?_
  refine lv_aload_n hx hb dX1_lotOf_5 rfl (lv_at hl 0 rfl) ?_
  refine g0_2 hx hb hts hown hK hR l0 q249 dX1_lotOf_6 ?_
  refine jr_size ⟨hx, hb, hml, hown, hts⟩ hK hR ⟨fun _ _ _ _ _ => rfl, fun _ _ _ _ _ => rfl⟩ hW.lsL q536 ⟨Nat.le_of_ble_eq_true rfl, Nat.le_of_ble_eq_true rfl⟩ hl.1 (Nat.le_of_ble_eq_true rfl) dX1_lotOf_9 ⟨(Nat.le_of_ble_eq_true rfl), (Nat.le_of_ble_eq_true rfl)⟩ ?_
  refine jr_ldcS (own := "Publicanry") (k := 114) (tx := "lot") (n := 1114) hx hb hown hK (List.mem_of_getElem? (i := 11) rfl) dX1_lotOf_12 ?_
  refine cex_qi (fw := fun u => u) (fy := fun _ => y) (crx_S (n := 3) (As := [.int (p1), .int (nI (nL y)), .ref (kA κ 1114)]) (rest := [.ref (y.2 44 0)]) ⟨hx, hb, hml, hown, hts⟩ hK hR (m_X1_index hfl hW h) q1033 q1034 q74 q1035 rfl rfl hds_X1_index ⟨Nat.le_of_ble_eq_true rfl, Nat.le_of_ble_eq_true rfl⟩ rfl rfl hl.1 rfl (lv_room (Nat.le_of_ble_eq_true rfl)) dX1_lotOf_14 ⟨(Nat.le_of_ble_eq_true rfl), (Nat.le_of_ble_eq_true rfl)⟩) hR hS ht hlocks (Nat.le_of_ble_eq_true rfl) (Nat.le_of_ble_eq_true rfl) (fun r_14 w_14 H locs h hR _ hS => ?_)
  have o_17 := h.1
  have h := h.2
  refine jr_get (a := y.2 11 ((r_14).toNatClampNeg)) ⟨hx, hb, hml, hown, hts⟩ hK hR ⟨fun _ _ _ _ _ => rfl, fun _ _ _ _ _ => rfl⟩ hW.lsL ⟨hW.arL (Nat.lt_of_le_of_lt (Nat.zero_le _) (vp_lt o_17)), (Nat.le_trans hW.nL8 (by decide))⟩ o_17 (hW.elL (vp_lt o_17)) q685 ⟨Nat.le_of_ble_eq_true rfl, Nat.le_of_ble_eq_true rfl⟩ hl.1 (Nat.le_of_ble_eq_true rfl) dX1_lotOf_17 ⟨(Nat.le_of_ble_eq_true rfl), (Nat.le_of_ble_eq_true rfl)⟩ ?_
  refine jr_castS (ci := 9) hx hb hown hK hts (hR.role (hW.lot (vp_lt o_17))) rfl q497 dX1_lotOf_20 ?_
  refine W.widen (k := 1) (n := 6) (Nat.le_of_ble_eq_true rfl) (Nat.le_of_ble_eq_true rfl) ?_
  refine vx_ret ?_; exact W.aret hx hb hr (Or.inl ⟨_, rfl⟩) (Or.inr ⟨_, rfl⟩) (fun t ht hW9 => ⟨⟨(((r_14).toNatClampNeg), w_14), _, rfl, h, rpt ht hR, rfl, (hW.lot (vp_lt o_17))⟩, hS.F ht⟩) hS.2.2 dX1_lotOf_23
abbrev rm_X1_force : Room := { frames := 8, cells := 2, slots := 12, locals := 133 }
def sp_X1_force (κ : Kx) (y : Ly) (post : Int32 → Wd → Prop) (px : String → Wd → Prop) (w : Wd) (p1 : Int32) (p2 : Int32) : Prop := sp_X1_companyOf κ y (fun i_2 w_2 => sp_X1_isIn κ y (fun r_9 w_9 => sp_X1_check κ y (fun w_15 => ∀ x_22 : Int32, x_22 = gv w_15 9 i_2 6 → ∀ w_26 : Wd, w_26 = sv w_15 9 i_2 6 (p2) → post (x_22) w_26) px w_9 r_9) w_2 p2 (0 : Int32) (3 : Int32)) px w p1
theorem hd_X1_force : yX1_force.cls = RX1 ∧ yX1_force.cls ≠ "java/lang/invoke/MethodHandle" ∧ yX1_force.cls ≠ "java/lang/invoke/VarHandle" ∧ (parseMethodDescriptor yX1_force.desc).map (fun d => d.parameters.length) = some 2 := by decide +kernel
set_option maxHeartbeats 4000000 in
theorem m_X1_force {l : Launch} {κ : Kx} {y : Ly} {X : XR} {post : Int32 → Wd → Prop} {px : String → Wd → Prop} {w : Wd} {p1 : Int32} {p2 : Int32}  (hfl : l.stackTraces = false) (hW : WFc κ y) (l0 : live y 0 0) (h : sp_X1_force κ y post px w p1 p2) : vx_Met l yX1_force (ws_ yX1_force cX1_force 5 (Option.some Jvm.ClassFile.FieldType.int)) rm_X1_force (va_Pc [.ref (y.2 0 0), .int (p1), .int (p2)] (RC κ w y X)) (va_Qi post (fun w t => Rp κ w y X [] t.heap) (Af κ)) (XCk κ y X px) 2 12 (Af κ) := by
  unfold sp_X1_force at h
  refine vx_ofW (cc := cX1_force) (maxL := 5) (ret := (Option.some Jvm.ClassFile.FieldType.int)) (by decide) rfl ?_
  intro p e s m args below meth c s₁ B hml ht hv
  obtain ⟨rfl, hR, hK⟩ := hv
  have hx := B.exec
  have hb := B.bytes
  have hr := B.returns
  have hts := atoms_spec (ws := ws_ yX1_force cX1_force 5 (Option.some Jvm.ClassFile.FieldType.int)) B.pre
  have hts : ∀ w ∈ lw_all, w.before _ s = true := fun w h => hts w (List.mem_cons_of_mem _ h)
  have hown : s.vm.findClass RX1 = some m.cls := findClass_of_methodNamed B.named
  have hlocks := B.notSynchronized
  have hR0 := hR
  have hS : va_S (Af κ) s.heap s.heap [] := va_S.rf
  have hl := lv_entry ([.ref (y.2 0 0), .int (p1), .int (p2)]) (n := 5) (Nat.le_of_ble_eq_true rfl)
  rw [lg_entry_eq]
  generalize (lg_sl ([.ref (y.2 0 0), .int (p1), .int (p2)]) ++ List.replicate (5 - (lg_sl ([.ref (y.2 0 0), .int (p1), .int (p2)])).length) Slot.unset).toArray = ls at hl ⊢
  have hl : lv_has ls 5 [(0, .ref (y.2 0 0)), (1, .int (p1)), (2, .int (p2))] := hl
  refine lv_aload_n hx hb dX1_force_0 rfl (lv_at hl 0 rfl) ?_
  refine lv_iload_n hx hb dX1_force_1 rfl (lv_at hl 1 rfl) ?_
  refine cex_qr (fw := fun u : Nat × Wd => u.2) (fy := fun _ => y) (P := (fun (u : Nat × Wd) ra => ra = y.2 9 u.1 ∧ live y 9 u.1)) (crx_V (n := 1) (As := [.int (p1)]) (rest := []) ⟨hx, hb, hml, hown, hts⟩ hK hR (m_X1_companyOf hfl hW l0 h) q1176 q1178 qs22 q74 q1179 rfl rfl hd_X1_companyOf ⟨Nat.le_of_ble_eq_true rfl, Nat.le_of_ble_eq_true rfl⟩ (rv hK hR l0 (ci := 0) rfl rfl) rfl rfl hl.1 rfl (lv_room (Nat.le_of_ble_eq_true rfl)) dX1_force_2 ⟨(Nat.le_of_ble_eq_true rfl), (Nat.le_of_ble_eq_true rfl)⟩) hR hS ht hlocks (Nat.le_of_ble_eq_true rfl) (Nat.le_of_ble_eq_true rfl) (fun u9 a_2 H locs h p9 hR _ hS => ?_)
  obtain ⟨i_2, w_2⟩ := u9
  obtain ⟨e9, lv_2⟩ := p9
  dsimp only at e9 lv_2
  subst e9
  refine lv_astore_n (lv' := [(3, .ref (y.2 9 i_2)), (0, .ref (y.2 0 0)), (1, .int (p1)), (2, .int (p2))]) hx hb dX1_force_5 rfl hl (by decide) rfl (fun ls hl => ?_)
  refine lv_iload_n hx hb dX1_force_6 rfl (lv_at hl 3 rfl) ?_
  refine lv_iconst (v := (0 : Int32)) hx hb dX1_force_7 (by decide) ?_
  refine lv_iconst (v := (3 : Int32)) hx hb dX1_force_8 (by decide) ?_
  refine ce_qi (fw := fun u => u) (fy := fun _ => y) (cr_S (n := 3) (As := [.int (p2), .int ((0 : Int32)), .int ((3 : Int32))]) (rest := []) ⟨hx, hb, hml, hown, hts⟩ hK hR (m_X1_isIn hW h) q790 q791 q74 q792 rfl rfl hds_X1_isIn ⟨Nat.le_of_ble_eq_true rfl, Nat.le_of_ble_eq_true rfl⟩ rfl rfl hl.1 rfl (lv_room (Nat.le_of_ble_eq_true rfl)) dX1_force_9 ⟨(Nat.le_of_ble_eq_true rfl), (Nat.le_of_ble_eq_true rfl)⟩) hR hS (fun r_9 w_9 H locs h hR _ hS => ?_)
  refine jr_ldcwS (own := "Publicanry") (k := 367) (tx := "force") (n := 1367) hx hb hown hK (List.mem_of_getElem? (i := 14) rfl) dX1_force_12 ?_
  refine cex_qv (fw := fun u => u) (fy := fun _ => y) (crx_S (n := 2) (As := [.int (r_9), .ref (kA κ 1367)]) (rest := []) ⟨hx, hb, hml, hown, hts⟩ hK hR (m_X1_check hfl hW h) q794 q795 q74 q796 rfl rfl hds_X1_check ⟨Nat.le_of_ble_eq_true rfl, Nat.le_of_ble_eq_true rfl⟩ rfl rfl hl.1 rfl (lv_room (Nat.le_of_ble_eq_true rfl)) dX1_force_15 ⟨(Nat.le_of_ble_eq_true rfl), (Nat.le_of_ble_eq_true rfl)⟩) hR hS ht hlocks (Nat.le_of_ble_eq_true rfl) (Nat.le_of_ble_eq_true rfl) (fun w_15 H locs h hR _ hS => ?_)
  refine lv_aload_n hx hb dX1_force_18 rfl (lv_at hl 0 rfl) ?_
  refine g9_6 hx hb hts hown hK hR lv_2 q1134 dX1_force_19 ?_
  refine lv_topi (fun x_22 ex_22 => ?_)
  have h := h x_22 ex_22
  refine lv_istore (lv' := [(4, .int (x_22)), (3, .ref (y.2 9 i_2)), (0, .ref (y.2 0 0)), (1, .int (p1)), (2, .int (p2))]) hx hb dX1_force_22 hl (by decide) rfl (fun ls hl => ?_)
  refine lv_aload_n hx hb dX1_force_24 rfl (lv_at hl 1 rfl) ?_
  refine lv_iload_n hx hb dX1_force_25 rfl (lv_at hl 4 rfl) ?_
  refine p9_6 hx hb hts hown hK hR hS lv_2 q1134 dX1_force_26 (fun H locs w_26 ew_26 hR hS => ?_)
  have h := h w_26 ew_26
  refine lv_iload hx hb dX1_force_29 (lv_at hl 0 rfl) ?_
  refine W.widen (k := 2) (n := 12) (Nat.le_of_ble_eq_true rfl) (Nat.le_of_ble_eq_true rfl) ?_
  refine vx_ret ?_; exact W.iret (v := x_22) hx hb hr (fun t ht hW9 => ⟨⟨x_22, w_26, rfl, h, rpt ht hR⟩, hS.F ht⟩) hS.2.2 dX1_force_31
abbrev rm_X1_isSuable : Room := { frames := 1, cells := 0, slots := 0, locals := 20 }
def sp_X1_isSuable (κ : Kx) (y : Ly) (post : Int32 → Wd → Prop) (w : Wd) (a1 : Nat) : Prop := ((¬ (y.1 15 (a1) = 1)) → (post ((0 : Int32)) w)) ∧ (((y.1 15 (a1) = 1)) → ((y.1 15 (a1) = 1) ∧ (sp_X1_year κ y (fun r_18 w_18 => ((¬ gv w 16 a1 0 = r_18) → (post ((0 : Int32)) w_18)) ∧ ((gv w 16 a1 0 = r_18) → ((y.1 15 (a1) = 1) ∧ (((¬ gv w_18 16 a1 5 = 0) → (post ((0 : Int32)) w_18)) ∧ ((gv w_18 16 a1 5 = 0) → (post ((1 : Int32)) w_18)))))) w )))
theorem hd_X1_isSuable : yX1_isSuable.cls = RX1 ∧ yX1_isSuable.cls ≠ "java/lang/invoke/MethodHandle" ∧ yX1_isSuable.cls ≠ "java/lang/invoke/VarHandle" ∧ (parseMethodDescriptor yX1_isSuable.desc).map (fun d => d.parameters.length) = some 1 := by decide +kernel
set_option maxHeartbeats 4000000 in
theorem m_X1_isSuable {l : Launch} {κ : Kx} {y : Ly} {X : XR} {post : Int32 → Wd → Prop} {w : Wd} {a1 : Nat}  (hW : WFc κ y) (l0 : live y 0 0) (h : sp_X1_isSuable κ y post w a1) : Met l yX1_isSuable (ws_ yX1_isSuable cX1_isSuable 2 (Option.some Jvm.ClassFile.FieldType.boolean)) rm_X1_isSuable (va_Pc [.ref (y.2 0 0), .ref (if y.1 15 (a1) = 1 then y.2 15 (a1) else kA κ 0)] (RC κ w y X)) (va_Qi post (fun w t => Rp κ w y X [] t.heap) (Af κ)) 0 0 (Af κ) := by
  unfold sp_X1_isSuable at h
  refine Met.ofW (cc := cX1_isSuable) (maxL := 2) (ret := (Option.some Jvm.ClassFile.FieldType.boolean)) (by decide) rfl ?_
  intro p e s m args below meth c s₁ B hml hv
  obtain ⟨rfl, hR, hK⟩ := hv
  have hx := B.exec
  have hb := B.bytes
  have hr := B.returns
  have hts := atoms_spec (ws := ws_ yX1_isSuable cX1_isSuable 2 (Option.some Jvm.ClassFile.FieldType.boolean)) B.pre
  have hts : ∀ w ∈ lw_all, w.before _ s = true := fun w h => hts w (List.mem_cons_of_mem _ h)
  have hown : s.vm.findClass RX1 = some m.cls := findClass_of_methodNamed B.named
  have hlocks := B.notSynchronized
  have hS : va_S (Af κ) s.heap s.heap [] := va_S.rf
  have hl := lv_entry ([.ref (y.2 0 0), .ref (if y.1 15 (a1) = 1 then y.2 15 (a1) else kA κ 0)]) (n := 2) (Nat.le_of_ble_eq_true rfl)
  rw [lg_entry_eq]
  generalize (lg_sl ([.ref (y.2 0 0), .ref (if y.1 15 (a1) = 1 then y.2 15 (a1) else kA κ 0)]) ++ List.replicate (2 - (lg_sl ([.ref (y.2 0 0), .ref (if y.1 15 (a1) = 1 then y.2 15 (a1) else kA κ 0)])).length) Slot.unset).toArray = ls at hl ⊢
  have hl : lv_has ls 2 [(0, .ref (y.2 0 0)), (1, .ref (if y.1 15 (a1) = 1 then y.2 15 (a1) else kA κ 0))] := hl
  refine lv_aload_n hx hb dX1_isSuable_0 rfl (lv_at hl 1 rfl) ?_
  refine jr_oisPresent ⟨hx, hb, hml, hown, hts⟩ hK (op_at hK hR (a1)) q703 ⟨Nat.le_of_ble_eq_true rfl, Nat.le_of_ble_eq_true rfl⟩ hl.1 (Nat.le_of_ble_eq_true rfl) dX1_isSuable_1 ⟨(Nat.le_of_ble_eq_true rfl), (Nat.le_of_ble_eq_true rfl)⟩ ?_
  rw [op_pre]
  refine lv_if_eq (tgt := 41) hx hb dX1_isSuable_4 (by decide) (fun c_4 => ?_) (fun c_4 => ?_)
  · replace c_4 : ¬ (y.1 15 (a1) = 1) := bi_0.mp c_4
    have h := h.1 c_4
    refine lv_iconst (v := (0 : Int32)) hx hb dX1_isSuable_41 (by decide) ?_
    refine W.widen (k := 0) (n := 0) (Nat.le_of_ble_eq_true rfl) (Nat.le_of_ble_eq_true rfl) ?_
    exact W.zret (v := (0 : Int32)) hx hb hr nbo_0.n (fun t ht hW9 => ⟨⟨(0 : Int32), w, rfl, h, rpt ht hR⟩, hS.F ht⟩) hS.2.2 dX1_isSuable_42
  · replace c_4 : (y.1 15 (a1) = 1) := bi_n0.mp c_4
    have h := h.2 c_4
    refine lv_aload_n hx hb dX1_isSuable_7 rfl (lv_at hl 1 rfl) ?_
    have o_8 := h.1
    have h := h.2
    refine jr_oget (z := y.2 16 a1) ⟨hx, hb, hml, hown, hts⟩ hK (op_at hK hR (a1)) (if_pos o_8) q519 ⟨Nat.le_of_ble_eq_true rfl, Nat.le_of_ble_eq_true rfl⟩ hl.1 (Nat.le_of_ble_eq_true rfl) dX1_isSuable_8 ⟨(Nat.le_of_ble_eq_true rfl), (Nat.le_of_ble_eq_true rfl)⟩ ?_
    refine jr_castS (ci := 10) hx hb hown hK hts (hR.role (hW.lev ⟨o_8, by decide⟩)) rfl q707 dX1_isSuable_11 ?_
    refine g16_0 hx hb hts hown hK hR (hW.lev ⟨o_8, by decide⟩) q1544 dX1_isSuable_14 ?_
    refine lv_aload_n hx hb dX1_isSuable_17 rfl (lv_at hl 0 rfl) ?_
    refine ce_qi (fw := fun u => u) (fy := fun _ => y) (cr_V (n := 0) (As := []) (rest := [.int (gv w 16 a1 0)]) ⟨hx, hb, hml, hown, hts⟩ hK hR (m_X1_year hW l0 h) q532 q534 qs4 q74 q535 rfl rfl hd_X1_year ⟨Nat.le_of_ble_eq_true rfl, Nat.le_of_ble_eq_true rfl⟩ (rv hK hR l0 (ci := 0) rfl rfl) rfl rfl hl.1 rfl (lv_room (Nat.le_of_ble_eq_true rfl)) dX1_isSuable_18 ⟨(Nat.le_of_ble_eq_true rfl), (Nat.le_of_ble_eq_true rfl)⟩) hR hS (fun r_18 w_18 H locs h hR _ hS => ?_)
    refine lv_icmp_ne (tgt := 41) hx hb dX1_isSuable_21 (by decide) (fun c_21 => ?_) (fun c_21 => ?_)
    · have h := h.1 c_21
      refine lv_iconst (v := (0 : Int32)) hx hb dX1_isSuable_41 (by decide) ?_
      refine W.widen (k := 0) (n := 0) (Nat.le_of_ble_eq_true rfl) (Nat.le_of_ble_eq_true rfl) ?_
      exact W.zret (v := (0 : Int32)) hx hb hr nbo_0.n (fun t ht hW9 => ⟨⟨(0 : Int32), w_18, rfl, h, rpt ht hR⟩, hS.F ht⟩) hS.2.2 dX1_isSuable_42
    · have h := h.2 c_21
      refine lv_aload_n hx hb dX1_isSuable_24 rfl (lv_at hl 1 rfl) ?_
      have o_25 := h.1
      have h := h.2
      refine jr_oget (z := y.2 16 a1) ⟨hx, hb, hml, hown, hts⟩ hK (op_at hK hR (a1)) (if_pos o_25) q519 ⟨Nat.le_of_ble_eq_true rfl, Nat.le_of_ble_eq_true rfl⟩ hl.1 (Nat.le_of_ble_eq_true rfl) dX1_isSuable_25 ⟨(Nat.le_of_ble_eq_true rfl), (Nat.le_of_ble_eq_true rfl)⟩ ?_
      refine jr_castS (ci := 10) hx hb hown hK hts (hR.role (hW.lev ⟨o_25, by decide⟩)) rfl q707 dX1_isSuable_28 ?_
      refine g16_5 hx hb hts hown hK hR (hW.lev ⟨o_25, by decide⟩) q1552 dX1_isSuable_31 ?_
      refine lv_if_ne (tgt := 41) hx hb dX1_isSuable_34 (by decide) (fun c_34 => ?_) (fun c_34 => ?_)
      · have h := h.1 c_34
        refine lv_iconst (v := (0 : Int32)) hx hb dX1_isSuable_41 (by decide) ?_
        refine W.widen (k := 0) (n := 0) (Nat.le_of_ble_eq_true rfl) (Nat.le_of_ble_eq_true rfl) ?_
        exact W.zret (v := (0 : Int32)) hx hb hr nbo_0.n (fun t ht hW9 => ⟨⟨(0 : Int32), w_18, rfl, h, rpt ht hR⟩, hS.F ht⟩) hS.2.2 dX1_isSuable_42
      · have h := h.2 c_34
        refine lv_iconst (v := (1 : Int32)) hx hb dX1_isSuable_37 (by decide) ?_
        refine lv_goto (tgt := 42) hx hb dX1_isSuable_38 (by decide) ?_
        refine W.widen (k := 0) (n := 0) (Nat.le_of_ble_eq_true rfl) (Nat.le_of_ble_eq_true rfl) ?_
        exact W.zret (v := (1 : Int32)) hx hb hr nbo_1.n (fun t ht hW9 => ⟨⟨(1 : Int32), w_18, rfl, h, rpt ht hR⟩, hS.F ht⟩) hS.2.2 dX1_isSuable_42
abbrev rm_X1_votes : Room := { frames := 0, cells := 0, slots := 0, locals := 0 }
def sp_X1_votes (κ : Kx) (y : Ly) (post : Int32 → Wd → Prop) (w : Wd) (p0 : Int32) (p1 : Int32) (p2 : Int32) : Prop := ((p0 ≤ 0) → (((p0 ≤ p1 / (2 : Int32)) → (post ((0 : Int32) + (0 : Int32)) w)) ∧ ((¬ (p0 ≤ p1 / (2 : Int32))) → (post ((0 : Int32) + p2) w)))) ∧ ((¬ (p0 ≤ 0)) → (((p0 ≤ p1 / (2 : Int32)) → (post (((7 : Int32) - p2) + (0 : Int32)) w)) ∧ ((¬ (p0 ≤ p1 / (2 : Int32))) → (post (((7 : Int32) - p2) + p2) w))))
theorem hds_X1_votes : yX1_votes.cls ≠ "java/lang/invoke/MethodHandle" ∧ yX1_votes.cls ≠ "java/lang/invoke/VarHandle" ∧ (parseMethodDescriptor yX1_votes.desc).map (fun d => d.parameters.length) = some 3 := by decide +kernel
set_option maxHeartbeats 4000000 in
theorem m_X1_votes {l : Launch} {κ : Kx} {y : Ly} {X : XR} {post : Int32 → Wd → Prop} {w : Wd} {p0 : Int32} {p1 : Int32} {p2 : Int32}  (hW : WFc κ y)  (h : sp_X1_votes κ y post w p0 p1 p2) : Met l yX1_votes (ws_ yX1_votes cX1_votes 3 (Option.some Jvm.ClassFile.FieldType.int)) rm_X1_votes (va_Pc [.int (p0), .int (p1), .int (p2)] (RC κ w y X)) (va_Qi post (fun w t => Rp κ w y X [] t.heap) (Af κ)) 0 0 (Af κ) := by
  unfold sp_X1_votes at h
  refine Met.ofW (cc := cX1_votes) (maxL := 3) (ret := (Option.some Jvm.ClassFile.FieldType.int)) (by decide) rfl ?_
  intro p e s m args below meth c s₁ B hml hv
  obtain ⟨rfl, hR, hK⟩ := hv
  have hx := B.exec
  have hb := B.bytes
  have hr := B.returns
  have hts := atoms_spec (ws := ws_ yX1_votes cX1_votes 3 (Option.some Jvm.ClassFile.FieldType.int)) B.pre
  have hts : ∀ w ∈ lw_all, w.before _ s = true := fun w h => hts w (List.mem_cons_of_mem _ h)
  have hown : s.vm.findClass RX1 = some m.cls := findClass_of_methodNamed B.named
  have hlocks := B.notSynchronized
  have hS : va_S (Af κ) s.heap s.heap [] := va_S.rf
  have hl := lv_entry ([.int (p0), .int (p1), .int (p2)]) (n := 3) (Nat.le_of_ble_eq_true rfl)
  rw [lg_entry_eq]
  generalize (lg_sl ([.int (p0), .int (p1), .int (p2)]) ++ List.replicate (3 - (lg_sl ([.int (p0), .int (p1), .int (p2)])).length) Slot.unset).toArray = ls at hl ⊢
  have hl : lv_has ls 3 [(0, .int (p0)), (1, .int (p1)), (2, .int (p2))] := hl
  refine lv_iload_n hx hb dX1_votes_0 rfl (lv_at hl 0 rfl) ?_
  refine lv_if_le (tgt := 11) hx hb dX1_votes_1 (by decide) (fun c_1 => ?_) (fun c_1 => ?_)
  · have h := h.1 c_1
    refine lv_iconst (v := (0 : Int32)) hx hb dX1_votes_11 (by decide) ?_
    refine lv_iload_n hx hb dX1_votes_12 rfl (lv_at hl 0 rfl) ?_
    refine lv_iload_n hx hb dX1_votes_13 rfl (lv_at hl 1 rfl) ?_
    refine lv_iconst (v := (2 : Int32)) hx hb dX1_votes_14 (by decide) ?_
    refine lv_idiv hx hb dX1_votes_15 (by decide) ?_
    refine lv_icmp_le (tgt := 23) hx hb dX1_votes_16 (by decide) (fun c_16 => ?_) (fun c_16 => ?_)
    · have h := h.1 c_16
      refine lv_iconst (v := (0 : Int32)) hx hb dX1_votes_23 (by decide) ?_
      refine lv_iadd hx hb dX1_votes_24 ?_
      refine W.widen (k := 0) (n := 0) (Nat.le_of_ble_eq_true rfl) (Nat.le_of_ble_eq_true rfl) ?_
      exact W.iret (v := (0 : Int32) + (0 : Int32)) hx hb hr (fun t ht hW9 => ⟨⟨(0 : Int32) + (0 : Int32), w, rfl, h, rpt ht hR⟩, hS.F ht⟩) hS.2.2 dX1_votes_25
    · have h := h.2 c_16
      refine lv_iload_n hx hb dX1_votes_19 rfl (lv_at hl 2 rfl) ?_
      refine lv_goto (tgt := 24) hx hb dX1_votes_20 (by decide) ?_
      refine lv_iadd hx hb dX1_votes_24 ?_
      refine W.widen (k := 0) (n := 0) (Nat.le_of_ble_eq_true rfl) (Nat.le_of_ble_eq_true rfl) ?_
      exact W.iret (v := (0 : Int32) + p2) hx hb hr (fun t ht hW9 => ⟨⟨(0 : Int32) + p2, w, rfl, h, rpt ht hR⟩, hS.F ht⟩) hS.2.2 dX1_votes_25
  · have h := h.2 c_1
    refine lv_bipush (v := (7 : Int32)) hx hb dX1_votes_4 (by decide) ?_
    refine lv_iload_n hx hb dX1_votes_6 rfl (lv_at hl 2 rfl) ?_
    refine lv_isub hx hb dX1_votes_7 ?_
    refine lv_goto (tgt := 12) hx hb dX1_votes_8 (by decide) ?_
    refine lv_iload_n hx hb dX1_votes_12 rfl (lv_at hl 0 rfl) ?_
    refine lv_iload_n hx hb dX1_votes_13 rfl (lv_at hl 1 rfl) ?_
    refine lv_iconst (v := (2 : Int32)) hx hb dX1_votes_14 (by decide) ?_
    refine lv_idiv hx hb dX1_votes_15 (by decide) ?_
    refine lv_icmp_le (tgt := 23) hx hb dX1_votes_16 (by decide) (fun c_16_a => ?_) (fun c_16_a => ?_)
    · have h := h.1 c_16_a
      refine lv_iconst (v := (0 : Int32)) hx hb dX1_votes_23 (by decide) ?_
      refine lv_iadd hx hb dX1_votes_24 ?_
      refine W.widen (k := 0) (n := 0) (Nat.le_of_ble_eq_true rfl) (Nat.le_of_ble_eq_true rfl) ?_
      exact W.iret (v := ((7 : Int32) - p2) + (0 : Int32)) hx hb hr (fun t ht hW9 => ⟨⟨((7 : Int32) - p2) + (0 : Int32), w, rfl, h, rpt ht hR⟩, hS.F ht⟩) hS.2.2 dX1_votes_25
    · have h := h.2 c_16_a
      refine lv_iload_n hx hb dX1_votes_19 rfl (lv_at hl 2 rfl) ?_
      refine lv_goto (tgt := 24) hx hb dX1_votes_20 (by decide) ?_
      refine lv_iadd hx hb dX1_votes_24 ?_
      refine W.widen (k := 0) (n := 0) (Nat.le_of_ble_eq_true rfl) (Nat.le_of_ble_eq_true rfl) ?_
      exact W.iret (v := ((7 : Int32) - p2) + p2) hx hb hr (fun t ht hW9 => ⟨⟨((7 : Int32) - p2) + p2, w, rfl, h, rpt ht hR⟩, hS.F ht⟩) hS.2.2 dX1_votes_25
abbrev rm_X1_bench : Room := { frames := 7, cells := 1, slots := 6, locals := 111 }
def sp_X1_bench (κ : Kx) (y : Ly) (post : Int32 → Wd → Prop) (px : String → Wd → Prop) (w : Wd) (p1 : Int32) : Prop := sp_X1_isIn κ y (fun r_4 w_4 => sp_X1_check κ y (fun w_10 => ∀ x_17 : Int32, x_17 = gv w_10 0 0 11 → ∀ w_20 : Wd, w_20 = sv w_10 0 0 11 (p1) → post (x_17) w_20) px w_4 r_4) w p1 (0 : Int32) (7 : Int32)
theorem hd_X1_bench : yX1_bench.cls = RX1 ∧ yX1_bench.cls ≠ "java/lang/invoke/MethodHandle" ∧ yX1_bench.cls ≠ "java/lang/invoke/VarHandle" ∧ (parseMethodDescriptor yX1_bench.desc).map (fun d => d.parameters.length) = some 1 := by decide +kernel
set_option maxHeartbeats 4000000 in
theorem m_X1_bench {l : Launch} {κ : Kx} {y : Ly} {X : XR} {post : Int32 → Wd → Prop} {px : String → Wd → Prop} {w : Wd} {p1 : Int32}  (hfl : l.stackTraces = false) (hW : WFc κ y) (l0 : live y 0 0) (h : sp_X1_bench κ y post px w p1) : vx_Met l yX1_bench (ws_ yX1_bench cX1_bench 3 (Option.some Jvm.ClassFile.FieldType.int)) rm_X1_bench (va_Pc [.ref (y.2 0 0), .int (p1)] (RC κ w y X)) (va_Qi post (fun w t => Rp κ w y X [] t.heap) (Af κ)) (XCk κ y X px) 1 6 (Af κ) := by
  unfold sp_X1_bench at h
  refine vx_ofW (cc := cX1_bench) (maxL := 3) (ret := (Option.some Jvm.ClassFile.FieldType.int)) (by decide) rfl ?_
  intro p e s m args below meth c s₁ B hml ht hv
  obtain ⟨rfl, hR, hK⟩ := hv
  have hx := B.exec
  have hb := B.bytes
  have hr := B.returns
  have hts := atoms_spec (ws := ws_ yX1_bench cX1_bench 3 (Option.some Jvm.ClassFile.FieldType.int)) B.pre
  have hts : ∀ w ∈ lw_all, w.before _ s = true := fun w h => hts w (List.mem_cons_of_mem _ h)
  have hown : s.vm.findClass RX1 = some m.cls := findClass_of_methodNamed B.named
  have hlocks := B.notSynchronized
  have hR0 := hR
  have hS : va_S (Af κ) s.heap s.heap [] := va_S.rf
  have hl := lv_entry ([.ref (y.2 0 0), .int (p1)]) (n := 3) (Nat.le_of_ble_eq_true rfl)
  rw [lg_entry_eq]
  generalize (lg_sl ([.ref (y.2 0 0), .int (p1)]) ++ List.replicate (3 - (lg_sl ([.ref (y.2 0 0), .int (p1)])).length) Slot.unset).toArray = ls at hl ⊢
  have hl : lv_has ls 3 [(0, .ref (y.2 0 0)), (1, .int (p1))] := hl
  refine lv_iload_n hx hb dX1_bench_0 rfl (lv_at hl 1 rfl) ?_
  refine lv_iconst (v := (0 : Int32)) hx hb dX1_bench_1 (by decide) ?_
  refine lv_bipush (v := (7 : Int32)) hx hb dX1_bench_2 (by decide) ?_
  refine ce_qi (fw := fun u => u) (fy := fun _ => y) (cr_S (n := 3) (As := [.int (p1), .int ((0 : Int32)), .int ((7 : Int32))]) (rest := []) ⟨hx, hb, hml, hown, hts⟩ hK hR (m_X1_isIn hW h) q790 q791 q74 q792 rfl rfl hds_X1_isIn ⟨Nat.le_of_ble_eq_true rfl, Nat.le_of_ble_eq_true rfl⟩ rfl rfl hl.1 rfl (lv_room (Nat.le_of_ble_eq_true rfl)) dX1_bench_4 ⟨(Nat.le_of_ble_eq_true rfl), (Nat.le_of_ble_eq_true rfl)⟩) hR hS (fun r_4 w_4 H locs h hR _ hS => ?_)
  refine jr_ldcwS (own := "Publicanry") (k := 457) (tx := "many") (n := 1457) hx hb hown hK (List.mem_of_getElem? (i := 18) rfl) dX1_bench_7 ?_
  refine cex_qv (fw := fun u => u) (fy := fun _ => y) (crx_S (n := 2) (As := [.int (r_4), .ref (kA κ 1457)]) (rest := []) ⟨hx, hb, hml, hown, hts⟩ hK hR (m_X1_check hfl hW h) q794 q795 q74 q796 rfl rfl hds_X1_check ⟨Nat.le_of_ble_eq_true rfl, Nat.le_of_ble_eq_true rfl⟩ rfl rfl hl.1 rfl (lv_room (Nat.le_of_ble_eq_true rfl)) dX1_bench_10 ⟨(Nat.le_of_ble_eq_true rfl), (Nat.le_of_ble_eq_true rfl)⟩) hR hS ht hlocks (Nat.le_of_ble_eq_true rfl) (Nat.le_of_ble_eq_true rfl) (fun w_10 H locs h hR _ hS => ?_)
  refine lv_aload_n hx hb dX1_bench_13 rfl (lv_at hl 0 rfl) ?_
  refine g0_11 hx hb hts hown hK hR l0 q258 dX1_bench_14 ?_
  refine lv_topi (fun x_17 ex_17 => ?_)
  have h := h x_17 ex_17
  refine lv_istore_n (lv' := [(2, .int (x_17)), (0, .ref (y.2 0 0)), (1, .int (p1))]) hx hb dX1_bench_17 rfl hl (by decide) rfl (fun ls hl => ?_)
  refine lv_aload_n hx hb dX1_bench_18 rfl (lv_at hl 1 rfl) ?_
  refine lv_iload_n hx hb dX1_bench_19 rfl (lv_at hl 2 rfl) ?_
  refine p0_11 hx hb hts hown hK hR hS l0 q258 dX1_bench_20 (fun H locs w_20 ew_20 hR hS => ?_)
  have h := h w_20 ew_20
  refine lv_iload_n hx hb dX1_bench_23 rfl (lv_at hl 0 rfl) ?_
  refine W.widen (k := 1) (n := 6) (Nat.le_of_ble_eq_true rfl) (Nat.le_of_ble_eq_true rfl) ?_
  refine vx_ret ?_; exact W.iret (v := x_17) hx hb hr (fun t ht hW9 => ⟨⟨x_17, w_20, rfl, h, rpt ht hR⟩, hS.F ht⟩) hS.2.2 dX1_bench_24
abbrev rm_X1_part : Room := { frames := 0, cells := 0, slots := 0, locals := 0 }
def sp_X1_part (κ : Kx) (y : Ly) (post : Int32 → Wd → Prop) (w : Wd)  : Prop := post ((gv w 0 0 8) - (gv w 0 0 8) / (4 : Int32) * (4 : Int32)) w
theorem hd_X1_part : yX1_part.cls = RX1 ∧ yX1_part.cls ≠ "java/lang/invoke/MethodHandle" ∧ yX1_part.cls ≠ "java/lang/invoke/VarHandle" ∧ (parseMethodDescriptor yX1_part.desc).map (fun d => d.parameters.length) = some 0 := by decide +kernel
set_option maxHeartbeats 4000000 in
theorem m_X1_part {l : Launch} {κ : Kx} {y : Ly} {X : XR} {post : Int32 → Wd → Prop} {w : Wd}   (hW : WFc κ y) (l0 : live y 0 0) (h : sp_X1_part κ y post w ) : Met l yX1_part (ws_ yX1_part cX1_part 1 (Option.some Jvm.ClassFile.FieldType.int)) rm_X1_part (va_Pc [.ref (y.2 0 0)] (RC κ w y X)) (va_Qi post (fun w t => Rp κ w y X [] t.heap) (Af κ)) 0 0 (Af κ) := by
  unfold sp_X1_part at h
  refine Met.ofW (cc := cX1_part) (maxL := 1) (ret := (Option.some Jvm.ClassFile.FieldType.int)) (by decide) rfl ?_
  intro p e s m args below meth c s₁ B hml hv
  obtain ⟨rfl, hR, hK⟩ := hv
  have hx := B.exec
  have hb := B.bytes
  have hr := B.returns
  have hts := atoms_spec (ws := ws_ yX1_part cX1_part 1 (Option.some Jvm.ClassFile.FieldType.int)) B.pre
  have hts : ∀ w ∈ lw_all, w.before _ s = true := fun w h => hts w (List.mem_cons_of_mem _ h)
  have hown : s.vm.findClass RX1 = some m.cls := findClass_of_methodNamed B.named
  have hlocks := B.notSynchronized
  have hS : va_S (Af κ) s.heap s.heap [] := va_S.rf
  have hl := lv_entry ([.ref (y.2 0 0)]) (n := 1) (Nat.le_of_ble_eq_true rfl)
  rw [lg_entry_eq]
  generalize (lg_sl ([.ref (y.2 0 0)]) ++ List.replicate (1 - (lg_sl ([.ref (y.2 0 0)])).length) Slot.unset).toArray = ls at hl ⊢
  have hl : lv_has ls 1 [(0, .ref (y.2 0 0))] := hl
  refine lv_aload_n hx hb dX1_part_0 rfl (lv_at hl 0 rfl) ?_
  refine g0_8 hx hb hts hown hK hR l0 q255 dX1_part_1 ?_
  refine lv_iconst (v := (4 : Int32)) hx hb dX1_part_4 (by decide) ?_
  refine lv_irem hx hb dX1_part_5 (by decide) ?_
  refine W.widen (k := 0) (n := 0) (Nat.le_of_ble_eq_true rfl) (Nat.le_of_ble_eq_true rfl) ?_
  exact W.iret (v := (gv w 0 0 8) - (gv w 0 0 8) / (4 : Int32) * (4 : Int32)) hx hb hr (fun t ht hW9 => ⟨⟨(gv w 0 0 8) - (gv w 0 0 8) / (4 : Int32) * (4 : Int32), w, rfl, h, rpt ht hR⟩, hS.F ht⟩) hS.2.2 dX1_part_6
abbrev rm_X1_isBad : Room := { frames := 0, cells := 0, slots := 0, locals := 0 }
def sp_X1_isBad (κ : Kx) (y : Ly) (post : Int32 → Wd → Prop) (w : Wd) (a0 : Nat) : Prop := (((((gv w 6 a0 12) * (gv w 6 a0 1)) * (7 : Int32)) / (120 : Int32) ≤ gv w 6 a0 13) → (post ((0 : Int32)) w)) ∧ ((¬ ((((gv w 6 a0 12) * (gv w 6 a0 1)) * (7 : Int32)) / (120 : Int32) ≤ gv w 6 a0 13)) → (post ((1 : Int32)) w))
theorem hds_X1_isBad : yX1_isBad.cls ≠ "java/lang/invoke/MethodHandle" ∧ yX1_isBad.cls ≠ "java/lang/invoke/VarHandle" ∧ (parseMethodDescriptor yX1_isBad.desc).map (fun d => d.parameters.length) = some 1 := by decide +kernel
set_option maxHeartbeats 4000000 in
theorem m_X1_isBad {l : Launch} {κ : Kx} {y : Ly} {X : XR} {post : Int32 → Wd → Prop} {w : Wd} {a0 : Nat}  (hW : WFc κ y) (l0 : live y 6 a0) (h : sp_X1_isBad κ y post w a0) : Met l yX1_isBad (ws_ yX1_isBad cX1_isBad 1 (Option.some Jvm.ClassFile.FieldType.boolean)) rm_X1_isBad (va_Pc [.ref (y.2 6 a0)] (RC κ w y X)) (va_Qi post (fun w t => Rp κ w y X [] t.heap) (Af κ)) 0 0 (Af κ) := by
  unfold sp_X1_isBad at h
  refine Met.ofW (cc := cX1_isBad) (maxL := 1) (ret := (Option.some Jvm.ClassFile.FieldType.boolean)) (by decide) rfl ?_
  intro p e s m args below meth c s₁ B hml hv
  obtain ⟨rfl, hR, hK⟩ := hv
  have hx := B.exec
  have hb := B.bytes
  have hr := B.returns
  have hts := atoms_spec (ws := ws_ yX1_isBad cX1_isBad 1 (Option.some Jvm.ClassFile.FieldType.boolean)) B.pre
  have hts : ∀ w ∈ lw_all, w.before _ s = true := fun w h => hts w (List.mem_cons_of_mem _ h)
  have hown : s.vm.findClass RX1 = some m.cls := findClass_of_methodNamed B.named
  have hlocks := B.notSynchronized
  have hS : va_S (Af κ) s.heap s.heap [] := va_S.rf
  have hl := lv_entry ([.ref (y.2 6 a0)]) (n := 1) (Nat.le_of_ble_eq_true rfl)
  rw [lg_entry_eq]
  generalize (lg_sl ([.ref (y.2 6 a0)]) ++ List.replicate (1 - (lg_sl ([.ref (y.2 6 a0)])).length) Slot.unset).toArray = ls at hl ⊢
  have hl : lv_has ls 1 [(0, .ref (y.2 6 a0))] := hl
  refine lv_aload_n hx hb dX1_isBad_0 rfl (lv_at hl 0 rfl) ?_
  refine g6_13 hx hb hts hown hK hR l0 q949 dX1_isBad_1 ?_
  refine lv_aload_n hx hb dX1_isBad_4 rfl (lv_at hl 0 rfl) ?_
  refine g6_12 hx hb hts hown hK hR l0 q946 dX1_isBad_5 ?_
  refine lv_aload_n hx hb dX1_isBad_8 rfl (lv_at hl 0 rfl) ?_
  refine g6_1 hx hb hts hown hK hR l0 q922 dX1_isBad_9 ?_
  refine lv_imul hx hb dX1_isBad_12 ?_
  refine lv_bipush (v := (7 : Int32)) hx hb dX1_isBad_13 (by decide) ?_
  refine lv_imul hx hb dX1_isBad_15 ?_
  refine lv_bipush (v := (120 : Int32)) hx hb dX1_isBad_16 (by decide) ?_
  refine lv_idiv hx hb dX1_isBad_18 (by decide) ?_
  refine lv_icmp_ge (tgt := 26) hx hb dX1_isBad_19 (by decide) (fun c_19 => ?_) (fun c_19 => ?_)
  · have h := h.1 c_19
    refine lv_iconst (v := (0 : Int32)) hx hb dX1_isBad_26 (by decide) ?_
    refine W.widen (k := 0) (n := 0) (Nat.le_of_ble_eq_true rfl) (Nat.le_of_ble_eq_true rfl) ?_
    exact W.zret (v := (0 : Int32)) hx hb hr nbo_0.n (fun t ht hW9 => ⟨⟨(0 : Int32), w, rfl, h, rpt ht hR⟩, hS.F ht⟩) hS.2.2 dX1_isBad_27
  · have h := h.2 c_19
    refine lv_iconst (v := (1 : Int32)) hx hb dX1_isBad_22 (by decide) ?_
    refine lv_goto (tgt := 27) hx hb dX1_isBad_23 (by decide) ?_
    refine W.widen (k := 0) (n := 0) (Nat.le_of_ble_eq_true rfl) (Nat.le_of_ble_eq_true rfl) ?_
    exact W.zret (v := (1 : Int32)) hx hb hr nbo_1.n (fun t ht hW9 => ⟨⟨(1 : Int32), w, rfl, h, rpt ht hR⟩, hS.F ht⟩) hS.2.2 dX1_isBad_27
abbrev rm_X1_clerks : Room := { frames := 8, cells := 2, slots := 9, locals := 132 }
def sp_X1_clerks (κ : Kx) (y : Ly) (post : Int32 → Wd → Prop) (px : String → Wd → Prop) (w : Wd) (p1 : Int32) (p2 : Int32) : Prop := sp_X1_dutyOf κ y (fun i_1 w_1 => (vp_in (p1) 3) ∧ (∀ x_14 : Int32, x_14 = gv w_1 4 (((p1).toNatClampNeg)) 4 → (vp_in (p1) 3) ∧ ((nbo (p2)) ∧ (∀ w_22 : Wd, w_22 = sv w_1 4 (((p1).toNatClampNeg)) 4 (p2) → (nbo (x_14)) ∧ (post (x_14) w_22))))) px w p1
theorem hd_X1_clerks : yX1_clerks.cls = RX1 ∧ yX1_clerks.cls ≠ "java/lang/invoke/MethodHandle" ∧ yX1_clerks.cls ≠ "java/lang/invoke/VarHandle" ∧ (parseMethodDescriptor yX1_clerks.desc).map (fun d => d.parameters.length) = some 2 := by decide +kernel
set_option maxHeartbeats 4000000 in
theorem m_X1_clerks {l : Launch} {κ : Kx} {y : Ly} {X : XR} {post : Int32 → Wd → Prop} {px : String → Wd → Prop} {w : Wd} {p1 : Int32} {p2 : Int32}  (hfl : l.stackTraces = false) (hW : WFc κ y) (l0 : live y 0 0) (h : sp_X1_clerks κ y post px w p1 p2) : vx_Met l yX1_clerks (ws_ yX1_clerks cX1_clerks 4 (Option.some Jvm.ClassFile.FieldType.boolean)) rm_X1_clerks (va_Pc [.ref (y.2 0 0), .int (p1), .int (p2)] (RC κ w y X)) (va_Qi post (fun w t => Rp κ w y X [] t.heap) (Af κ)) (XCk κ y X px) 2 9 (Af κ) := by
  unfold sp_X1_clerks at h
  refine vx_ofW (cc := cX1_clerks) (maxL := 4) (ret := (Option.some Jvm.ClassFile.FieldType.boolean)) (by decide) rfl ?_
  intro p e s m args below meth c s₁ B hml ht hv
  obtain ⟨rfl, hR, hK⟩ := hv
  have hx := B.exec
  have hb := B.bytes
  have hr := B.returns
  have hts := atoms_spec (ws := ws_ yX1_clerks cX1_clerks 4 (Option.some Jvm.ClassFile.FieldType.boolean)) B.pre
  have hts : ∀ w ∈ lw_all, w.before _ s = true := fun w h => hts w (List.mem_cons_of_mem _ h)
  have hown : s.vm.findClass RX1 = some m.cls := findClass_of_methodNamed B.named
  have hlocks := B.notSynchronized
  have hR0 := hR
  have hS : va_S (Af κ) s.heap s.heap [] := va_S.rf
  have hl := lv_entry ([.ref (y.2 0 0), .int (p1), .int (p2)]) (n := 4) (Nat.le_of_ble_eq_true rfl)
  rw [lg_entry_eq]
  generalize (lg_sl ([.ref (y.2 0 0), .int (p1), .int (p2)]) ++ List.replicate (4 - (lg_sl ([.ref (y.2 0 0), .int (p1), .int (p2)])).length) Slot.unset).toArray = ls at hl ⊢
  have hl : lv_has ls 4 [(0, .ref (y.2 0 0)), (1, .int (p1)), (2, .int (p2))] := hl
  refine lv_iload_n hx hb dX1_clerks_0 rfl (lv_at hl 1 rfl) ?_
  refine cex_qr (fw := fun u : Nat × Wd => u.2) (fy := fun _ => y) (P := (fun (u : Nat × Wd) ra => ra = kA κ (20 + u.1) ∧ u.1 < 3)) (crx_S (n := 1) (As := [.int (p1)]) (rest := []) ⟨hx, hb, hml, hown, hts⟩ hK hR (m_X1_dutyOf hfl hW h) q1075 q1076 q74 q1077 rfl rfl hds_X1_dutyOf ⟨Nat.le_of_ble_eq_true rfl, Nat.le_of_ble_eq_true rfl⟩ rfl rfl hl.1 rfl (lv_room (Nat.le_of_ble_eq_true rfl)) dX1_clerks_1 ⟨(Nat.le_of_ble_eq_true rfl), (Nat.le_of_ble_eq_true rfl)⟩) hR hS ht hlocks (Nat.le_of_ble_eq_true rfl) (Nat.le_of_ble_eq_true rfl) (fun u9 a_1 H locs h p9 hR _ hS => ?_)
  obtain ⟨i_1, w_1⟩ := u9
  obtain ⟨e9, lv_1⟩ := p9
  dsimp only at e9 lv_1
  subst e9
  refine lv_pop hx hb dX1_clerks_4 rfl ?_
  refine lv_aload_n hx hb dX1_clerks_5 rfl (lv_at hl 0 rfl) ?_
  refine g0_3 hx hb hts hown hK hR l0 q250 dX1_clerks_6 ?_
  refine lv_iload_n hx hb dX1_clerks_9 rfl (lv_at hl 1 rfl) ?_
  have o_10 := h.1
  have h := h.2
  refine a5 hx hb hK hR hW.rla o_10 dX1_clerks_10 ?_
  refine g4_4 hx hb hts hown hK hR (hW.rul (vp_lt o_10)) q232 dX1_clerks_11 ?_
  refine lv_topi (fun x_14 ex_14 => ?_)
  have h := h x_14 ex_14
  refine lv_istore_n (lv' := [(3, .int (x_14)), (0, .ref (y.2 0 0)), (1, .int (p1)), (2, .int (p2))]) hx hb dX1_clerks_14 rfl hl (by decide) rfl (fun ls hl => ?_)
  refine lv_aload_n hx hb dX1_clerks_15 rfl (lv_at hl 1 rfl) ?_
  refine g0_3 hx hb hts hown hK hR l0 q250 dX1_clerks_16 ?_
  refine lv_iload_n hx hb dX1_clerks_19 rfl (lv_at hl 2 rfl) ?_
  have o_20 := h.1
  have h := h.2
  refine a5 hx hb hK hR hW.rla o_20 dX1_clerks_20 ?_
  refine lv_iload_n hx hb dX1_clerks_21 rfl (lv_at hl 3 rfl) ?_
  have o_22 := h.1
  have h := h.2
  refine p4_4 hx hb hts hown hK hR hS (hW.rul (vp_lt o_20)) o_22 q232 dX1_clerks_22 (fun H locs w_22 ew_22 hR hS => ?_)
  have h := h w_22 ew_22
  refine lv_iload_n hx hb dX1_clerks_25 rfl (lv_at hl 0 rfl) ?_
  have o_26 := h.1
  have h := h.2
  refine W.widen (k := 2) (n := 9) (Nat.le_of_ble_eq_true rfl) (Nat.le_of_ble_eq_true rfl) ?_
  refine vx_ret ?_; exact W.zret (v := x_14) hx hb hr o_26.n (fun t ht hW9 => ⟨⟨x_14, w_22, rfl, h, rpt ht hR⟩, hS.F ht⟩) hS.2.2 dX1_clerks_26
abbrev rm_X1_law : Room := { frames := 8, cells := 3, slots := 15, locals := 132 }
def sp_X1_law (κ : Kx) (y : Ly) (post : Int32 → Wd → Prop) (px : String → Wd → Prop) (w : Wd) (p1 : Int32) (p2 : Int32) : Prop := sp_X1_dutyOf κ y (fun i_1 w_1 => sp_X1_isIn κ y (fun r_8 w_8 => sp_X1_check κ y (fun w_14 => (vp_in (p1) 3) ∧ (sp_X1_told_2 κ y (fun r_24 w_24 => post (r_24) w_24) w_14 (((p1).toNatClampNeg)) p2)) px w_8 r_8) w_1 p2 (0 : Int32) (4 : Int32)) px w p1
theorem hd_X1_law : yX1_law.cls = RX1 ∧ yX1_law.cls ≠ "java/lang/invoke/MethodHandle" ∧ yX1_law.cls ≠ "java/lang/invoke/VarHandle" ∧ (parseMethodDescriptor yX1_law.desc).map (fun d => d.parameters.length) = some 2 := by decide +kernel
set_option maxHeartbeats 4000000 in
theorem m_X1_law {l : Launch} {κ : Kx} {y : Ly} {X : XR} {post : Int32 → Wd → Prop} {px : String → Wd → Prop} {w : Wd} {p1 : Int32} {p2 : Int32}  (hfl : l.stackTraces = false) (hW : WFc κ y) (l0 : live y 0 0) (h : sp_X1_law κ y post px w p1 p2) : vx_Met l yX1_law (ws_ yX1_law cX1_law 3 (Option.some Jvm.ClassFile.FieldType.int)) rm_X1_law (va_Pc [.ref (y.2 0 0), .int (p1), .int (p2)] (RC κ w y X)) (va_Qi post (fun w t => Rp κ w y X [] t.heap) (Af κ)) (XCk κ y X px) 3 15 (Af κ) := by
  unfold sp_X1_law at h
  refine vx_ofW (cc := cX1_law) (maxL := 3) (ret := (Option.some Jvm.ClassFile.FieldType.int)) (by decide) rfl ?_
  intro p e s m args below meth c s₁ B hml ht hv
  obtain ⟨rfl, hR, hK⟩ := hv
  have hx := B.exec
  have hb := B.bytes
  have hr := B.returns
  have hts := atoms_spec (ws := ws_ yX1_law cX1_law 3 (Option.some Jvm.ClassFile.FieldType.int)) B.pre
  have hts : ∀ w ∈ lw_all, w.before _ s = true := fun w h => hts w (List.mem_cons_of_mem _ h)
  have hown : s.vm.findClass RX1 = some m.cls := findClass_of_methodNamed B.named
  have hlocks := B.notSynchronized
  have hR0 := hR
  have hS : va_S (Af κ) s.heap s.heap [] := va_S.rf
  have hl := lv_entry ([.ref (y.2 0 0), .int (p1), .int (p2)]) (n := 3) (Nat.le_of_ble_eq_true rfl)
  rw [lg_entry_eq]
  generalize (lg_sl ([.ref (y.2 0 0), .int (p1), .int (p2)]) ++ List.replicate (3 - (lg_sl ([.ref (y.2 0 0), .int (p1), .int (p2)])).length) Slot.unset).toArray = ls at hl ⊢
  have hl : lv_has ls 3 [(0, .ref (y.2 0 0)), (1, .int (p1)), (2, .int (p2))] := hl
  refine lv_iload_n hx hb dX1_law_0 rfl (lv_at hl 1 rfl) ?_
  refine cex_qr (fw := fun u : Nat × Wd => u.2) (fy := fun _ => y) (P := (fun (u : Nat × Wd) ra => ra = kA κ (20 + u.1) ∧ u.1 < 3)) (crx_S (n := 1) (As := [.int (p1)]) (rest := []) ⟨hx, hb, hml, hown, hts⟩ hK hR (m_X1_dutyOf hfl hW h) q1075 q1076 q74 q1077 rfl rfl hds_X1_dutyOf ⟨Nat.le_of_ble_eq_true rfl, Nat.le_of_ble_eq_true rfl⟩ rfl rfl hl.1 rfl (lv_room (Nat.le_of_ble_eq_true rfl)) dX1_law_1 ⟨(Nat.le_of_ble_eq_true rfl), (Nat.le_of_ble_eq_true rfl)⟩) hR hS ht hlocks (Nat.le_of_ble_eq_true rfl) (Nat.le_of_ble_eq_true rfl) (fun u9 a_1 H locs h p9 hR _ hS => ?_)
  obtain ⟨i_1, w_1⟩ := u9
  obtain ⟨e9, lv_1⟩ := p9
  dsimp only at e9 lv_1
  subst e9
  refine lv_pop hx hb dX1_law_4 rfl ?_
  refine lv_iload_n hx hb dX1_law_5 rfl (lv_at hl 2 rfl) ?_
  refine lv_iconst (v := (0 : Int32)) hx hb dX1_law_6 (by decide) ?_
  refine lv_iconst (v := (4 : Int32)) hx hb dX1_law_7 (by decide) ?_
  refine ce_qi (fw := fun u => u) (fy := fun _ => y) (cr_S (n := 3) (As := [.int (p2), .int ((0 : Int32)), .int ((4 : Int32))]) (rest := []) ⟨hx, hb, hml, hown, hts⟩ hK hR (m_X1_isIn hW h) q790 q791 q74 q792 rfl rfl hds_X1_isIn ⟨Nat.le_of_ble_eq_true rfl, Nat.le_of_ble_eq_true rfl⟩ rfl rfl hl.1 rfl (lv_room (Nat.le_of_ble_eq_true rfl)) dX1_law_8 ⟨(Nat.le_of_ble_eq_true rfl), (Nat.le_of_ble_eq_true rfl)⟩) hR hS (fun r_8 w_8 H locs h hR _ hS => ?_)
  refine jr_ldcwS (own := "Publicanry") (k := 578) (tx := "what") (n := 1578) hx hb hown hK (List.mem_of_getElem? (i := 22) rfl) dX1_law_11 ?_
  refine cex_qv (fw := fun u => u) (fy := fun _ => y) (crx_S (n := 2) (As := [.int (r_8), .ref (kA κ 1578)]) (rest := []) ⟨hx, hb, hml, hown, hts⟩ hK hR (m_X1_check hfl hW h) q794 q795 q74 q796 rfl rfl hds_X1_check ⟨Nat.le_of_ble_eq_true rfl, Nat.le_of_ble_eq_true rfl⟩ rfl rfl hl.1 rfl (lv_room (Nat.le_of_ble_eq_true rfl)) dX1_law_14 ⟨(Nat.le_of_ble_eq_true rfl), (Nat.le_of_ble_eq_true rfl)⟩) hR hS ht hlocks (Nat.le_of_ble_eq_true rfl) (Nat.le_of_ble_eq_true rfl) (fun w_14 H locs h hR _ hS => ?_)
  refine lv_aload_n hx hb dX1_law_17 rfl (lv_at hl 0 rfl) ?_
  refine g0_3 hx hb hts hown hK hR l0 q250 dX1_law_18 ?_
  refine lv_iload_n hx hb dX1_law_21 rfl (lv_at hl 1 rfl) ?_
  have o_22 := h.1
  have h := h.2
  refine a5 hx hb hK hR hW.rla o_22 dX1_law_22 ?_
  refine lv_iload_n hx hb dX1_law_23 rfl (lv_at hl 2 rfl) ?_
  refine ce_qi (fw := fun u => u) (fy := fun _ => y) (cr_S (n := 2) (As := [.ref (y.2 4 ((p1).toNatClampNeg)), .int (p2)]) (rest := []) ⟨hx, hb, hml, hown, hts⟩ hK hR (m_X1_told_2 hW (hW.rul (vp_lt o_22)) h) q603 q604 q74 q605 rfl rfl hds_X1_told_2 ⟨Nat.le_of_ble_eq_true rfl, Nat.le_of_ble_eq_true rfl⟩ rfl rfl hl.1 rfl (lv_room (Nat.le_of_ble_eq_true rfl)) dX1_law_24 ⟨(Nat.le_of_ble_eq_true rfl), (Nat.le_of_ble_eq_true rfl)⟩) hR hS (fun r_24 w_24 H locs h hR _ hS => ?_)
  refine W.widen (k := 3) (n := 15) (Nat.le_of_ble_eq_true rfl) (Nat.le_of_ble_eq_true rfl) ?_
  refine vx_ret ?_; exact W.iret (v := r_24) hx hb hr (fun t ht hW9 => ⟨⟨r_24, w_24, rfl, h, rpt ht hR⟩, hS.F ht⟩) hS.2.2 dX1_law_27
abbrev rm_X1_partner : Room := { frames := 8, cells := 2, slots := 12, locals := 133 }
def sp_X1_partner (κ : Kx) (y : Ly) (post : Int32 → Wd → Prop) (px : String → Wd → Prop) (w : Wd) (p1 : Int32) (p2 : Int32) (p3 : Int32) : Prop := sp_X1_companyOf κ y (fun i_2 w_2 => sp_X1_index κ y (fun r_19 w_19 => ((p3 = 0) → ((vp_in (p2) (nP y i_2)) ∧ (post (gv w_19 10 ((5 * i_2 + ((p2).toNatClampNeg))) 0) w_19))) ∧ ((¬ (p3 = 0)) → ((vp_in (p2) (nP y i_2)) ∧ (post (gv w_19 10 ((5 * i_2 + ((p2).toNatClampNeg))) 1) w_19)))) px w_2 p2 (nI (nP y i_2))) px w p1
theorem hd_X1_partner : yX1_partner.cls = RX1 ∧ yX1_partner.cls ≠ "java/lang/invoke/MethodHandle" ∧ yX1_partner.cls ≠ "java/lang/invoke/VarHandle" ∧ (parseMethodDescriptor yX1_partner.desc).map (fun d => d.parameters.length) = some 3 := by decide +kernel
set_option maxHeartbeats 4000000 in
theorem m_X1_partner {l : Launch} {κ : Kx} {y : Ly} {X : XR} {post : Int32 → Wd → Prop} {px : String → Wd → Prop} {w : Wd} {p1 : Int32} {p2 : Int32} {p3 : Int32}  (hfl : l.stackTraces = false) (hW : WFc κ y) (l0 : live y 0 0) (h : sp_X1_partner κ y post px w p1 p2 p3) : vx_Met l yX1_partner (ws_ yX1_partner cX1_partner 5 (Option.some Jvm.ClassFile.FieldType.int)) rm_X1_partner (va_Pc [.ref (y.2 0 0), .int (p1), .int (p2), .int (p3)] (RC κ w y X)) (va_Qi post (fun w t => Rp κ w y X [] t.heap) (Af κ)) (XCk κ y X px) 2 12 (Af κ) := by
  unfold sp_X1_partner at h
  refine vx_ofW (cc := cX1_partner) (maxL := 5) (ret := (Option.some Jvm.ClassFile.FieldType.int)) (by decide) rfl ?_
  intro p e s m args below meth c s₁ B hml ht hv
  obtain ⟨rfl, hR, hK⟩ := hv
  have hx := B.exec
  have hb := B.bytes
  have hr := B.returns
  have hts := atoms_spec (ws := ws_ yX1_partner cX1_partner 5 (Option.some Jvm.ClassFile.FieldType.int)) B.pre
  have hts : ∀ w ∈ lw_all, w.before _ s = true := fun w h => hts w (List.mem_cons_of_mem _ h)
  have hown : s.vm.findClass RX1 = some m.cls := findClass_of_methodNamed B.named
  have hlocks := B.notSynchronized
  have hR0 := hR
  have hS : va_S (Af κ) s.heap s.heap [] := va_S.rf
  have hl := lv_entry ([.ref (y.2 0 0), .int (p1), .int (p2), .int (p3)]) (n := 5) (Nat.le_of_ble_eq_true rfl)
  rw [lg_entry_eq]
  generalize (lg_sl ([.ref (y.2 0 0), .int (p1), .int (p2), .int (p3)]) ++ List.replicate (5 - (lg_sl ([.ref (y.2 0 0), .int (p1), .int (p2), .int (p3)])).length) Slot.unset).toArray = ls at hl ⊢
  have hl : lv_has ls 5 [(0, .ref (y.2 0 0)), (1, .int (p1)), (2, .int (p2)), (3, .int (p3))] := hl
  refine lv_aload_n hx hb dX1_partner_0 rfl (lv_at hl 0 rfl) ?_
  refine lv_iload_n hx hb dX1_partner_1 rfl (lv_at hl 1 rfl) ?_
  refine cex_qr (fw := fun u : Nat × Wd => u.2) (fy := fun _ => y) (P := (fun (u : Nat × Wd) ra => ra = y.2 9 u.1 ∧ live y 9 u.1)) (crx_V (n := 1) (As := [.int (p1)]) (rest := []) ⟨hx, hb, hml, hown, hts⟩ hK hR (m_X1_companyOf hfl hW l0 h) q1176 q1178 qs22 q74 q1179 rfl rfl hd_X1_companyOf ⟨Nat.le_of_ble_eq_true rfl, Nat.le_of_ble_eq_true rfl⟩ (rv hK hR l0 (ci := 0) rfl rfl) rfl rfl hl.1 rfl (lv_room (Nat.le_of_ble_eq_true rfl)) dX1_partner_2 ⟨(Nat.le_of_ble_eq_true rfl), (Nat.le_of_ble_eq_true rfl)⟩) hR hS ht hlocks (Nat.le_of_ble_eq_true rfl) (Nat.le_of_ble_eq_true rfl) (fun u9 a_2 H locs h p9 hR _ hS => ?_)
  obtain ⟨i_2, w_2⟩ := u9
  obtain ⟨e9, lv_2⟩ := p9
  dsimp only at e9 lv_2
  subst e9
  refine lv_astore (lv' := [(4, .ref (y.2 9 i_2)), (0, .ref (y.2 0 0)), (1, .int (p1)), (2, .int (p2)), (3, .int (p3))]) hx hb dX1_partner_5 hl (by decide) rfl (fun ls hl => ?_)
  refine lv_iload_n hx hb dX1_partner_7 rfl (lv_at hl 3 rfl) ?_
  refine lv_aload hx hb dX1_partner_8 (lv_at hl 0 rfl) ?_
  refine g9_2 hx hb hts hown hK hR lv_2 q1126 dX1_partner_10 ?_
  refine jr_size ⟨hx, hb, hml, hown, hts⟩ hK hR ⟨fun _ _ _ _ _ => rfl, fun _ _ _ _ _ => rfl⟩ (hW.cpa lv_2) q536 ⟨Nat.le_of_ble_eq_true rfl, Nat.le_of_ble_eq_true rfl⟩ hl.1 (Nat.le_of_ble_eq_true rfl) dX1_partner_13 ⟨(Nat.le_of_ble_eq_true rfl), (Nat.le_of_ble_eq_true rfl)⟩ ?_
  refine jr_ldcwS (own := "Publicanry") (k := 606) (tx := "partner") (n := 1606) hx hb hown hK (List.mem_of_getElem? (i := 23) rfl) dX1_partner_16 ?_
  refine cex_qi (fw := fun u => u) (fy := fun _ => y) (crx_S (n := 3) (As := [.int (p2), .int (nI (nP y i_2)), .ref (kA κ 1606)]) (rest := []) ⟨hx, hb, hml, hown, hts⟩ hK hR (m_X1_index hfl hW h) q1033 q1034 q74 q1035 rfl rfl hds_X1_index ⟨Nat.le_of_ble_eq_true rfl, Nat.le_of_ble_eq_true rfl⟩ rfl rfl hl.1 rfl (lv_room (Nat.le_of_ble_eq_true rfl)) dX1_partner_19 ⟨(Nat.le_of_ble_eq_true rfl), (Nat.le_of_ble_eq_true rfl)⟩) hR hS ht hlocks (Nat.le_of_ble_eq_true rfl) (Nat.le_of_ble_eq_true rfl) (fun r_19 w_19 H locs h hR _ hS => ?_)
  refine lv_pop hx hb dX1_partner_22 rfl ?_
  refine lv_iload_n hx hb dX1_partner_23 rfl (lv_at hl 4 rfl) ?_
  refine lv_if_eq (tgt := 45) hx hb dX1_partner_24 (by decide) (fun c_24 => ?_) (fun c_24 => ?_)
  · have h := h.1 c_24
    refine lv_aload hx hb dX1_partner_45 (lv_at hl 0 rfl) ?_
    refine g9_2 hx hb hts hown hK hR lv_2 q1126 dX1_partner_47 ?_
    refine lv_iload_n hx hb dX1_partner_50 rfl (lv_at hl 3 rfl) ?_
    have o_51 := h.1
    have h := h.2
    refine jr_get (a := y.2 10 (5 * i_2 + ((p2).toNatClampNeg))) ⟨hx, hb, hml, hown, hts⟩ hK hR ⟨fun _ _ _ _ _ => rfl, fun _ _ _ _ _ => rfl⟩ (hW.cpa lv_2) ⟨hW.arP (Nat.lt_of_le_of_lt (Nat.zero_le _) (vp_lt o_51)), (Nat.le_trans (hW.nP5 lv_2) (by decide))⟩ o_51 (hW.elP lv_2 (vp_lt o_51)) q685 ⟨Nat.le_of_ble_eq_true rfl, Nat.le_of_ble_eq_true rfl⟩ hl.1 (Nat.le_of_ble_eq_true rfl) dX1_partner_51 ⟨(Nat.le_of_ble_eq_true rfl), (Nat.le_of_ble_eq_true rfl)⟩ ?_
    refine jr_castS (ci := 8) hx hb hown hK hts (hR.role (hW.par lv_2 (vp_lt o_51))) rfl q740 dX1_partner_54 ?_
    refine g10_0 hx hb hts hown hK hR (hW.par lv_2 (vp_lt o_51)) q1188 dX1_partner_57 ?_
    refine W.widen (k := 2) (n := 12) (Nat.le_of_ble_eq_true rfl) (Nat.le_of_ble_eq_true rfl) ?_
    refine vx_ret ?_; exact W.iret (v := gv w_19 10 ((5 * i_2 + ((p2).toNatClampNeg))) 0) hx hb hr (fun t ht hW9 => ⟨⟨gv w_19 10 ((5 * i_2 + ((p2).toNatClampNeg))) 0, w_19, rfl, h, rpt ht hR⟩, hS.F ht⟩) hS.2.2 dX1_partner_60
  · have h := h.2 c_24
    refine lv_aload hx hb dX1_partner_27 (lv_at hl 0 rfl) ?_
    refine g9_2 hx hb hts hown hK hR lv_2 q1126 dX1_partner_29 ?_
    refine lv_iload_n hx hb dX1_partner_32 rfl (lv_at hl 3 rfl) ?_
    have o_33 := h.1
    have h := h.2
    refine jr_get (a := y.2 10 (5 * i_2 + ((p2).toNatClampNeg))) ⟨hx, hb, hml, hown, hts⟩ hK hR ⟨fun _ _ _ _ _ => rfl, fun _ _ _ _ _ => rfl⟩ (hW.cpa lv_2) ⟨hW.arP (Nat.lt_of_le_of_lt (Nat.zero_le _) (vp_lt o_33)), (Nat.le_trans (hW.nP5 lv_2) (by decide))⟩ o_33 (hW.elP lv_2 (vp_lt o_33)) q685 ⟨Nat.le_of_ble_eq_true rfl, Nat.le_of_ble_eq_true rfl⟩ hl.1 (Nat.le_of_ble_eq_true rfl) dX1_partner_33 ⟨(Nat.le_of_ble_eq_true rfl), (Nat.le_of_ble_eq_true rfl)⟩ ?_
    refine jr_castS (ci := 8) hx hb hown hK hts (hR.role (hW.par lv_2 (vp_lt o_33))) rfl q740 dX1_partner_36 ?_
    refine g10_1 hx hb hts hown hK hR (hW.par lv_2 (vp_lt o_33)) q1190 dX1_partner_39 ?_
    refine lv_goto (tgt := 60) hx hb dX1_partner_42 (by decide) ?_
    refine W.widen (k := 2) (n := 12) (Nat.le_of_ble_eq_true rfl) (Nat.le_of_ble_eq_true rfl) ?_
    refine vx_ret ?_; exact W.iret (v := gv w_19 10 ((5 * i_2 + ((p2).toNatClampNeg))) 1) hx hb hr (fun t ht hW9 => ⟨⟨gv w_19 10 ((5 * i_2 + ((p2).toNatClampNeg))) 1, w_19, rfl, h, rpt ht hR⟩, hS.F ht⟩) hS.2.2 dX1_partner_60
abbrev rm_X10_shown : Room := { frames := 2, cells := 0, slots := 0, locals := 46 }
def sp_X10_shown (κ : Kx) (y : Ly) (post : Int32 → Wd → Prop) (w : Wd) (a0 : Nat) (p1 : Int32) (p2 : Int32) : Prop := sp_X1_hold κ y (fun r_18 w_18 => post (p1 - ((p1 * r_18) / (16 : Int32))) w_18) w (((6 : Int32) + ((gv w 6 a0 11) / (4 : Int32))) - ((2 : Int32) * p2)) (0 : Int32) (12 : Int32)
theorem hd_X10_shown : yX10_shown.cls = RX10 ∧ yX10_shown.cls ≠ "java/lang/invoke/MethodHandle" ∧ yX10_shown.cls ≠ "java/lang/invoke/VarHandle" ∧ (parseMethodDescriptor yX10_shown.desc).map (fun d => d.parameters.length) = some 2 := by decide +kernel
set_option maxHeartbeats 4000000 in
theorem m_X10_shown {l : Launch} {κ : Kx} {y : Ly} {X : XR} {post : Int32 → Wd → Prop} {w : Wd} {a0 : Nat} {p1 : Int32} {p2 : Int32}  (hW : WFc κ y) (l0 : live y 6 a0) (h : sp_X10_shown κ y post w a0 p1 p2) : Met l yX10_shown (ws_ yX10_shown cX10_shown 3 (Option.some Jvm.ClassFile.FieldType.int)) rm_X10_shown (va_Pc [.ref (y.2 6 a0), .int (p1), .int (p2)] (RC κ w y X)) (va_Qi post (fun w t => Rp κ w y X [] t.heap) (Af κ)) 0 0 (Af κ) := by
  unfold sp_X10_shown at h
  refine Met.ofW (cc := cX10_shown) (maxL := 3) (ret := (Option.some Jvm.ClassFile.FieldType.int)) (by decide) rfl ?_
  intro p e s m args below meth c s₁ B hml hv
  obtain ⟨rfl, hR, hK⟩ := hv
  have hx := B.exec
  have hb := B.bytes
  have hr := B.returns
  have hts := atoms_spec (ws := ws_ yX10_shown cX10_shown 3 (Option.some Jvm.ClassFile.FieldType.int)) B.pre
  have hts : ∀ w ∈ lw_all, w.before _ s = true := fun w h => hts w (List.mem_cons_of_mem _ h)
  have hown : s.vm.findClass RX10 = some m.cls := findClass_of_methodNamed B.named
  have hlocks := B.notSynchronized
  have hS : va_S (Af κ) s.heap s.heap [] := va_S.rf
  have hl := lv_entry ([.ref (y.2 6 a0), .int (p1), .int (p2)]) (n := 3) (Nat.le_of_ble_eq_true rfl)
  rw [lg_entry_eq]
  generalize (lg_sl ([.ref (y.2 6 a0), .int (p1), .int (p2)]) ++ List.replicate (3 - (lg_sl ([.ref (y.2 6 a0), .int (p1), .int (p2)])).length) Slot.unset).toArray = ls at hl ⊢
  have hl : lv_has ls 3 [(0, .ref (y.2 6 a0)), (1, .int (p1)), (2, .int (p2))] := hl
  refine lv_iload_n hx hb dX10_shown_0 rfl (lv_at hl 1 rfl) ?_
  refine lv_iload_n hx hb dX10_shown_1 rfl (lv_at hl 1 rfl) ?_
  refine lv_bipush (v := (6 : Int32)) hx hb dX10_shown_2 (by decide) ?_
  refine lv_aload_n hx hb dX10_shown_4 rfl (lv_at hl 0 rfl) ?_
  refine g6_11 hx hb hts hown hK hR l0 q943 dX10_shown_5 ?_
  refine lv_iconst (v := (4 : Int32)) hx hb dX10_shown_8 (by decide) ?_
  refine lv_idiv hx hb dX10_shown_9 (by decide) ?_
  refine lv_iadd hx hb dX10_shown_10 ?_
  refine lv_iconst (v := (2 : Int32)) hx hb dX10_shown_11 (by decide) ?_
  refine lv_iload_n hx hb dX10_shown_12 rfl (lv_at hl 2 rfl) ?_
  refine lv_imul hx hb dX10_shown_13 ?_
  refine lv_isub hx hb dX10_shown_14 ?_
  refine lv_iconst (v := (0 : Int32)) hx hb dX10_shown_15 (by decide) ?_
  refine lv_bipush (v := (12 : Int32)) hx hb dX10_shown_16 (by decide) ?_
  refine ce_qi (fw := fun u => u) (fy := fun _ => y) (cr_SN (n := 3) (As := [.int (((6 : Int32) + ((gv w 6 a0 11) / (4 : Int32))) - ((2 : Int32) * p2)), .int ((0 : Int32)), .int ((12 : Int32))]) (rest := [.int (p1), .int (p1)]) ⟨hx, hb, hml, hown, hts⟩ hK hR (m_X1_hold hW h) (List.mem_of_getElem? (i := 5) rfl) q638 q74 q639 rfl rfl hds_X1_hold ⟨Nat.le_of_ble_eq_true rfl, Nat.le_of_ble_eq_true rfl⟩ rfl rfl hl.1 rfl (lv_room (Nat.le_of_ble_eq_true rfl)) dX10_shown_18 ⟨(Nat.le_of_ble_eq_true rfl), (Nat.le_of_ble_eq_true rfl)⟩) hR hS (fun r_18 w_18 H locs h hR _ hS => ?_)
  refine lv_imul hx hb dX10_shown_21 ?_
  refine lv_bipush (v := (16 : Int32)) hx hb dX10_shown_22 (by decide) ?_
  refine lv_idiv hx hb dX10_shown_24 (by decide) ?_
  refine lv_isub hx hb dX10_shown_25 ?_
  refine W.widen (k := 0) (n := 0) (Nat.le_of_ble_eq_true rfl) (Nat.le_of_ble_eq_true rfl) ?_
  exact W.iret (v := p1 - ((p1 * r_18) / (16 : Int32))) hx hb hr (fun t ht hW9 => ⟨⟨p1 - ((p1 * r_18) / (16 : Int32)), w_18, rfl, h, rpt ht hR⟩, hS.F ht⟩) hS.2.2 dX10_shown_26
abbrev rm_X10_cut : Room := { frames := 1, cells := 0, slots := 0, locals := 21 }
def st_X10_cut_2 (κ : Kx) (y : Ly) (post : Wd → Prop) (ex : Wd → Prop) (rec : Wd → Int32 → Prop) (i0 : Nat) (v2 : Int32) (w : Wd) (v3 : Int32) : Prop := (((3 : Int32) ≤ v3) → (ex w )) ∧ ((¬ ((3 : Int32) ≤ v3)) → ((vp_in (v3) 3) ∧ ((vp_in (v3) 3) ∧ (∀ w_18 : Wd, w_18 = sv w 7 i0 (v3).toNatClampNeg (gv w 4 (((v3).toNatClampNeg)) 0) → (vp_in (v3) 3) ∧ (sp_X1_has κ y (fun r_34 w_34 => (vp_in (v3) 3) ∧ ((nbo (r_34)) ∧ (∀ w_37 : Wd, w_37 = sv w_34 8 i0 (v3).toNatClampNeg (r_34) → ∀ x_38 : Int32, x_38 = v3 + (1 : Int32) → rec w_37 x_38))) w_18 (gv w_18 4 (((v3).toNatClampNeg)) 1) (nI i0))))))
def sp_X10_cut_2 (κ : Kx) (y : Ly) (post : Wd → Prop) (ex : Wd → Prop) (i0 : Nat) (v2 : Int32) : Nat → Wd → Int32 → Prop
  | 0 => fun _ _ => False
  | n + 1 => fun w v3 => st_X10_cut_2 κ y post ex (sp_X10_cut_2 κ y post ex i0 v2 n) i0 v2 w v3
set_option maxHeartbeats 4000000 in
theorem lp_X10_cut_2 {p : Program} {l : Launch} {e : Env} {s : State} {m : MethodId} {args : Array Value} {below : List Frame} {meth : Method} {c : Code} {κ : Kx} {y : Ly} {X : XR} {post : Wd → Prop} {i0 : Nat} {v2 : Int32} (hx : p.tables.exec = Jvm.exec) (hb : c.code = cX10_cut) (hr : meth.sig.returnType = (Option.none : Option Jvm.ClassFile.FieldType)) (hml : c.maxLocals = 4) (hown : s.vm.findClass RX10 = some m.cls) (hts : ∀ w ∈ lw_all, w.before args s = true) (hlocks : meth.locks = false) (hK : KK κ s) (hW : WFc κ y) (l0 : live y 6 i0) (l1 : live y 5 0) {C1 S1 : Nat} (hC : C1 ≤ 0) (hSl : S1 ≤ 0) {ex : Wd → Prop}
    (kx : ∀ (w : Wd)  (H : Heap) (locs : List Loc) (ls : Array Slot) (cells slots : Nat) , ex w  → Rp κ w y X [] H → va_S (Af κ) s.heap H locs → lv_has ls 4 [(0, .ref (y.2 6 i0)), (2, .int (v2))] → cells ≤ C1 → slots ≤ S1 → W p l e (headSpec (ws_ yX10_cut cX10_cut 4 (Option.none : Option Jvm.ClassFile.FieldType)) rm_X10_cut).room s m args below meth c H locs cells slots (MQ below (va_Qv post (fun w t => Rp κ w y X [] t.heap) (Af κ)) args s 0 0 (Af κ)) (F0 m 44 ls [])) :
    ∀ (f : Nat) (w : Wd) (v3 : Int32) (H : Heap) (locs : List Loc) (ls : Array Slot) (cells slots : Nat)  , sp_X10_cut_2 κ y post ex i0 v2 f w v3 → Rp κ w y X [] H → va_S (Af κ) s.heap H locs → lv_has ls 4 [(0, .ref (y.2 6 i0)), (1, .ref (y.2 5 0)), (2, .int (v2)), (3, .int (v3))] → cells + f * 0 ≤ C1 → slots + f * 0 ≤ S1 → W p l e (headSpec (ws_ yX10_cut cX10_cut 4 (Option.none : Option Jvm.ClassFile.FieldType)) rm_X10_cut).room s m args below meth c H locs cells slots (MQ below (va_Qv post (fun w t => Rp κ w y X [] t.heap) (Af κ)) args s 0 0 (Af κ)) (F0 m 2 ls []) := by
  intro f
  induction f with
  | zero =>
    intro w v3 H locs ls cells slots  h
    exact False.elim h
  | succ f ih =>
    intro w v3 H locs ls cells slots  h hR hS hl hc hs
    have h : st_X10_cut_2 κ y post ex (sp_X10_cut_2 κ y post ex i0 v2 f) i0 v2 w v3 := h
    unfold st_X10_cut_2 at h
    refine lv_iload_n hx hb dX10_cut_2 rfl (lv_at hl 3 rfl) ?_
    refine lv_iconst (v := (3 : Int32)) hx hb dX10_cut_3 (by decide) ?_
    refine lv_icmp_ge (tgt := 44) hx hb dX10_cut_4 (by decide) (fun c_4 => ?_) (fun c_4 => ?_)
    · have h := h.1 c_4
      exact kx w  _ _ _ _ _ h hR hS (lv_sub hl [0, 2] rfl) (by omega) (by omega)
    · have h := h.2 c_4
      refine lv_aload_n hx hb dX10_cut_7 rfl (lv_at hl 0 rfl) ?_
      refine g6_3 hx hb hts hown hK hR l0 q926 dX10_cut_8 ?_
      refine lv_iload_n hx hb dX10_cut_11 rfl (lv_at hl 3 rfl) ?_
      refine lv_aload_n hx hb dX10_cut_12 rfl (lv_at hl 1 rfl) ?_
      refine lv_iload_n hx hb dX10_cut_13 rfl (lv_at hl 3 rfl) ?_
      have o_14 := h.1
      have h := h.2
      refine a5 hx hb hK hR l1 o_14 dX10_cut_14 ?_
      refine g4_0 hx hb hts hown hK hR (hW.rul (vp_lt o_14)) q224 dX10_cut_15 ?_
      have o_18 := h.1
      have h := h.2
      refine b7 hx hb hK hR hS (hW.vra l0) o_18 dX10_cut_18 (fun H locs w_18 ew_18 hR hS => ?_)
      have h := h w_18 ew_18
      refine lv_aload_n hx hb dX10_cut_19 rfl (lv_at hl 0 rfl) ?_
      refine g6_4 hx hb hts hown hK hR l0 q927 dX10_cut_20 ?_
      refine lv_iload_n hx hb dX10_cut_23 rfl (lv_at hl 3 rfl) ?_
      refine lv_aload_n hx hb dX10_cut_24 rfl (lv_at hl 1 rfl) ?_
      refine lv_iload_n hx hb dX10_cut_25 rfl (lv_at hl 3 rfl) ?_
      have o_26 := h.1
      have h := h.2
      refine a5 hx hb hK hR l1 o_26 dX10_cut_26 ?_
      refine g4_1 hx hb hts hown hK hR (hW.rul (vp_lt o_26)) q226 dX10_cut_27 ?_
      refine lv_aload_n hx hb dX10_cut_30 rfl (lv_at hl 0 rfl) ?_
      refine g6_0 hx hb hts hown hK hR l0 q919 dX10_cut_31 ?_
      refine ce_qi (fw := fun u => u) (fy := fun _ => y) (cr_SN (n := 2) (As := [.int (gv w_18 4 (((v3).toNatClampNeg)) 1), .int (nI i0)]) (rest := [.int (v3), .ref (y.2 8 i0)]) ⟨hx, hb, hml, hown, hts⟩ hK hR (m_X1_has hW h) (List.mem_of_getElem? (i := 7) rfl) q615 q74 q616 rfl rfl hds_X1_has ⟨Nat.le_of_ble_eq_true rfl, Nat.le_of_ble_eq_true rfl⟩ rfl rfl hl.1 rfl (lv_room (Nat.le_of_ble_eq_true rfl)) dX10_cut_34 ⟨(Nat.le_trans (show cells + 0 ≤ C1 from by omega) hC), (Nat.le_trans (show slots + 0 ≤ S1 from by omega) hSl)⟩) hR hS (fun r_34 w_34 H locs h hR _ hS => ?_)
      have o_37 := h.1
      have h := h.2
      have o_37_a := h.1
      have h := h.2
      refine b8 hx hb hK hR hS (hW.vex l0) o_37 o_37_a dX10_cut_37 (fun H locs w_37 ew_37 hR hS => ?_)
      have h := h w_37 ew_37
      obtain ⟨x_38, ex_38⟩ : ∃ z : Int32, z = v3 + (1 : Int32) := ⟨_, rfl⟩
      have h := h x_38 ex_38
      refine lv_iinc (v := x_38) (lv' := [(3, .int (x_38)), (0, .ref (y.2 6 i0)), (1, .ref (y.2 5 0)), (2, .int (v2))]) hx hb dX10_cut_38 hl (k := 3) rfl (by rw [ex_38]; rfl) (by decide) rfl (fun ls hl => ?_)
      refine lv_goto (tgt := 2) hx hb dX10_cut_41 (by decide) ?_
      exact ih w_37 x_38 _ _ _ _ _  h hR hS (lv_sub hl [1, 2, 3, 0] rfl) (by omega) (by omega)
def sp_X10_cut (κ : Kx) (y : Ly) (post : Wd → Prop) (w : Wd) (a0 : Nat) (p2 : Int32) : Prop := sp_X10_cut_2 κ y post (fun w_2  => ∀ w_46 : Wd, w_46 = sv w_2 6 a0 15 (p2) → post w_46) a0 p2 4 w (0 : Int32)
theorem hd_X10_cut : yX10_cut.cls = RX10 ∧ yX10_cut.cls ≠ "java/lang/invoke/MethodHandle" ∧ yX10_cut.cls ≠ "java/lang/invoke/VarHandle" ∧ (parseMethodDescriptor yX10_cut.desc).map (fun d => d.parameters.length) = some 2 := by decide +kernel
set_option maxHeartbeats 4000000 in
theorem m_X10_cut {l : Launch} {κ : Kx} {y : Ly} {X : XR} {post : Wd → Prop} {w : Wd} {a0 : Nat} {p2 : Int32}  (hW : WFc κ y) (l0 : live y 6 a0) (l1 : live y 5 0) (h : sp_X10_cut κ y post w a0 p2) : Met l yX10_cut (ws_ yX10_cut cX10_cut 4 (Option.none : Option Jvm.ClassFile.FieldType)) rm_X10_cut (va_Pc [.ref (y.2 6 a0), .ref (y.2 5 0), .int (p2)] (RC κ w y X)) (va_Qv post (fun w t => Rp κ w y X [] t.heap) (Af κ)) 0 0 (Af κ) := by
  unfold sp_X10_cut at h
  refine Met.ofW (cc := cX10_cut) (maxL := 4) (ret := (Option.none : Option Jvm.ClassFile.FieldType)) (by decide) rfl ?_
  intro p e s m args below meth c s₁ B hml hv
  obtain ⟨rfl, hR, hK⟩ := hv
  have hx := B.exec
  have hb := B.bytes
  have hr := B.returns
  have hts := atoms_spec (ws := ws_ yX10_cut cX10_cut 4 (Option.none : Option Jvm.ClassFile.FieldType)) B.pre
  have hts : ∀ w ∈ lw_all, w.before _ s = true := fun w h => hts w (List.mem_cons_of_mem _ h)
  have hown : s.vm.findClass RX10 = some m.cls := findClass_of_methodNamed B.named
  have hlocks := B.notSynchronized
  have hS : va_S (Af κ) s.heap s.heap [] := va_S.rf
  have hl := lv_entry ([.ref (y.2 6 a0), .ref (y.2 5 0), .int (p2)]) (n := 4) (Nat.le_of_ble_eq_true rfl)
  rw [lg_entry_eq]
  generalize (lg_sl ([.ref (y.2 6 a0), .ref (y.2 5 0), .int (p2)]) ++ List.replicate (4 - (lg_sl ([.ref (y.2 6 a0), .ref (y.2 5 0), .int (p2)])).length) Slot.unset).toArray = ls at hl ⊢
  have hl : lv_has ls 4 [(0, .ref (y.2 6 a0)), (1, .ref (y.2 5 0)), (2, .int (p2))] := hl
  refine lv_iconst (v := (0 : Int32)) hx hb dX10_cut_0 (by decide) ?_
  refine lv_istore_n (lv' := [(3, .int ((0 : Int32))), (0, .ref (y.2 6 a0)), (1, .ref (y.2 5 0)), (2, .int (p2))]) hx hb dX10_cut_1 rfl hl (by decide) rfl (fun ls hl => ?_)
  refine lp_X10_cut_2 (C1 := 0) (S1 := 0) hx hb hr hml hown hts hlocks hK hW l0 l1 (Nat.le_of_ble_eq_true rfl) (Nat.le_of_ble_eq_true rfl) (fun w_2  H locs ls cells9 slots9 h hR hS hl hc9 hs9 => ?_) 4 w (0 : Int32) _ _ _ _ _  h hR hS (lv_sub hl [1, 2, 3, 0] rfl) (by omega) (by omega)
  refine W.widen (k := 0) (n := 0) hc9 hs9 ?_
  refine lv_aload_n hx hb dX10_cut_44 rfl (lv_at hl 0 rfl) ?_
  refine lv_iload_n hx hb dX10_cut_45 rfl (lv_at hl 1 rfl) ?_
  refine p6_15 hx hb hts hown hK hR hS l0 q952 dX10_cut_46 (fun H locs w_46 ew_46 hR hS => ?_)
  have h := h w_46 ew_46
  refine W.widen (k := 0) (n := 0) (Nat.le_of_ble_eq_true rfl) (Nat.le_of_ble_eq_true rfl) ?_
  exact W.vret hx hb hr (fun t ht hW9 => ⟨⟨w_46, rfl, h, rpt ht hR⟩, hS.F ht⟩) hS.2.2 dX10_cut_49
abbrev rm_X10_stir : Room := { frames := 2, cells := 0, slots := 0, locals := 46 }
def sp_X10_stir (κ : Kx) (y : Ly) (post : Wd → Prop) (w : Wd) (a0 : Nat) (p1 : Int32) : Prop := sp_X1_hold κ y (fun r_10 w_10 => ∀ w_13 : Wd, w_13 = sv w_10 6 a0 11 (r_10) → post w_13) w ((gv w 6 a0 11) + p1) (0 : Int32) (20 : Int32)
theorem hd_X10_stir : yX10_stir.cls = RX10 ∧ yX10_stir.cls ≠ "java/lang/invoke/MethodHandle" ∧ yX10_stir.cls ≠ "java/lang/invoke/VarHandle" ∧ (parseMethodDescriptor yX10_stir.desc).map (fun d => d.parameters.length) = some 1 := by decide +kernel
set_option maxHeartbeats 4000000 in
theorem m_X10_stir {l : Launch} {κ : Kx} {y : Ly} {X : XR} {post : Wd → Prop} {w : Wd} {a0 : Nat} {p1 : Int32}  (hW : WFc κ y) (l0 : live y 6 a0) (h : sp_X10_stir κ y post w a0 p1) : Met l yX10_stir (ws_ yX10_stir cX10_stir 2 (Option.none : Option Jvm.ClassFile.FieldType)) rm_X10_stir (va_Pc [.ref (y.2 6 a0), .int (p1)] (RC κ w y X)) (va_Qv post (fun w t => Rp κ w y X [] t.heap) (Af κ)) 0 0 (Af κ) := by
  unfold sp_X10_stir at h
  refine Met.ofW (cc := cX10_stir) (maxL := 2) (ret := (Option.none : Option Jvm.ClassFile.FieldType)) (by decide) rfl ?_
  intro p e s m args below meth c s₁ B hml hv
  obtain ⟨rfl, hR, hK⟩ := hv
  have hx := B.exec
  have hb := B.bytes
  have hr := B.returns
  have hts := atoms_spec (ws := ws_ yX10_stir cX10_stir 2 (Option.none : Option Jvm.ClassFile.FieldType)) B.pre
  have hts : ∀ w ∈ lw_all, w.before _ s = true := fun w h => hts w (List.mem_cons_of_mem _ h)
  have hown : s.vm.findClass RX10 = some m.cls := findClass_of_methodNamed B.named
  have hlocks := B.notSynchronized
  have hS : va_S (Af κ) s.heap s.heap [] := va_S.rf
  have hl := lv_entry ([.ref (y.2 6 a0), .int (p1)]) (n := 2) (Nat.le_of_ble_eq_true rfl)
  rw [lg_entry_eq]
  generalize (lg_sl ([.ref (y.2 6 a0), .int (p1)]) ++ List.replicate (2 - (lg_sl ([.ref (y.2 6 a0), .int (p1)])).length) Slot.unset).toArray = ls at hl ⊢
  have hl : lv_has ls 2 [(0, .ref (y.2 6 a0)), (1, .int (p1))] := hl
  refine lv_aload_n hx hb dX10_stir_0 rfl (lv_at hl 0 rfl) ?_
  refine lv_aload_n hx hb dX10_stir_1 rfl (lv_at hl 0 rfl) ?_
  refine g6_11 hx hb hts hown hK hR l0 q943 dX10_stir_2 ?_
  refine lv_iload_n hx hb dX10_stir_5 rfl (lv_at hl 1 rfl) ?_
  refine lv_iadd hx hb dX10_stir_6 ?_
  refine lv_iconst (v := (0 : Int32)) hx hb dX10_stir_7 (by decide) ?_
  refine lv_bipush (v := (20 : Int32)) hx hb dX10_stir_8 (by decide) ?_
  refine ce_qi (fw := fun u => u) (fy := fun _ => y) (cr_SN (n := 3) (As := [.int ((gv w 6 a0 11) + p1), .int ((0 : Int32)), .int ((20 : Int32))]) (rest := [.ref (y.2 6 a0)]) ⟨hx, hb, hml, hown, hts⟩ hK hR (m_X1_hold hW h) (List.mem_of_getElem? (i := 5) rfl) q638 q74 q639 rfl rfl hds_X1_hold ⟨Nat.le_of_ble_eq_true rfl, Nat.le_of_ble_eq_true rfl⟩ rfl rfl hl.1 rfl (lv_room (Nat.le_of_ble_eq_true rfl)) dX10_stir_10 ⟨(Nat.le_of_ble_eq_true rfl), (Nat.le_of_ble_eq_true rfl)⟩) hR hS (fun r_10 w_10 H locs h hR _ hS => ?_)
  refine p6_11 hx hb hts hown hK hR hS l0 q943 dX10_stir_13 (fun H locs w_13 ew_13 hR hS => ?_)
  have h := h w_13 ew_13
  refine W.widen (k := 0) (n := 0) (Nat.le_of_ble_eq_true rfl) (Nat.le_of_ble_eq_true rfl) ?_
  exact W.vret hx hb hr (fun t ht hW9 => ⟨⟨w_13, rfl, h, rpt ht hR⟩, hS.F ht⟩) hS.2.2 dX10_stir_16
abbrev rm_X10_harvest : Room := { frames := 0, cells := 0, slots := 0, locals := 0 }
def sp_X10_harvest (κ : Kx) (y : Ly) (post : Int32 → Wd → Prop) (w : Wd) (a0 : Nat) (p1 : Int32) : Prop := ∀ x_16 : Int32, x_16 = (((gv w 6 a0 7) * (gv w 6 a0 1)) * (p1 + (2 : Int32))) / (60 : Int32) → ((gv w 6 a0 17 = 0) → (post (x_16) w)) ∧ ((¬ (gv w 6 a0 17 = 0)) → (post (x_16 / (2 : Int32)) w))
theorem hd_X10_harvest : yX10_harvest.cls = RX10 ∧ yX10_harvest.cls ≠ "java/lang/invoke/MethodHandle" ∧ yX10_harvest.cls ≠ "java/lang/invoke/VarHandle" ∧ (parseMethodDescriptor yX10_harvest.desc).map (fun d => d.parameters.length) = some 1 := by decide +kernel
set_option maxHeartbeats 4000000 in
theorem m_X10_harvest {l : Launch} {κ : Kx} {y : Ly} {X : XR} {post : Int32 → Wd → Prop} {w : Wd} {a0 : Nat} {p1 : Int32}  (hW : WFc κ y) (l0 : live y 6 a0) (h : sp_X10_harvest κ y post w a0 p1) : Met l yX10_harvest (ws_ yX10_harvest cX10_harvest 3 (Option.some Jvm.ClassFile.FieldType.int)) rm_X10_harvest (va_Pc [.ref (y.2 6 a0), .int (p1)] (RC κ w y X)) (va_Qi post (fun w t => Rp κ w y X [] t.heap) (Af κ)) 0 0 (Af κ) := by
  unfold sp_X10_harvest at h
  refine Met.ofW (cc := cX10_harvest) (maxL := 3) (ret := (Option.some Jvm.ClassFile.FieldType.int)) (by decide) rfl ?_
  intro p e s m args below meth c s₁ B hml hv
  obtain ⟨rfl, hR, hK⟩ := hv
  have hx := B.exec
  have hb := B.bytes
  have hr := B.returns
  have hts := atoms_spec (ws := ws_ yX10_harvest cX10_harvest 3 (Option.some Jvm.ClassFile.FieldType.int)) B.pre
  have hts : ∀ w ∈ lw_all, w.before _ s = true := fun w h => hts w (List.mem_cons_of_mem _ h)
  have hown : s.vm.findClass RX10 = some m.cls := findClass_of_methodNamed B.named
  have hlocks := B.notSynchronized
  have hS : va_S (Af κ) s.heap s.heap [] := va_S.rf
  have hl := lv_entry ([.ref (y.2 6 a0), .int (p1)]) (n := 3) (Nat.le_of_ble_eq_true rfl)
  rw [lg_entry_eq]
  generalize (lg_sl ([.ref (y.2 6 a0), .int (p1)]) ++ List.replicate (3 - (lg_sl ([.ref (y.2 6 a0), .int (p1)])).length) Slot.unset).toArray = ls at hl ⊢
  have hl : lv_has ls 3 [(0, .ref (y.2 6 a0)), (1, .int (p1))] := hl
  refine lv_aload_n hx hb dX10_harvest_0 rfl (lv_at hl 0 rfl) ?_
  refine g6_7 hx hb hts hown hK hR l0 q933 dX10_harvest_1 ?_
  refine lv_aload_n hx hb dX10_harvest_4 rfl (lv_at hl 0 rfl) ?_
  refine g6_1 hx hb hts hown hK hR l0 q921 dX10_harvest_5 ?_
  refine lv_imul hx hb dX10_harvest_8 ?_
  refine lv_iload_n hx hb dX10_harvest_9 rfl (lv_at hl 1 rfl) ?_
  refine lv_iconst (v := (2 : Int32)) hx hb dX10_harvest_10 (by decide) ?_
  refine lv_iadd hx hb dX10_harvest_11 ?_
  refine lv_imul hx hb dX10_harvest_12 ?_
  refine lv_bipush (v := (60 : Int32)) hx hb dX10_harvest_13 (by decide) ?_
  refine lv_idiv hx hb dX10_harvest_15 (by decide) ?_
  refine lv_topi (fun x_16 ex_16 => ?_)
  have h := h x_16 ex_16
  refine lv_istore_n (lv' := [(2, .int (x_16)), (0, .ref (y.2 6 a0)), (1, .int (p1))]) hx hb dX10_harvest_16 rfl hl (by decide) rfl (fun ls hl => ?_)
  refine lv_aload_n hx hb dX10_harvest_17 rfl (lv_at hl 1 rfl) ?_
  refine g6_17 hx hb hts hown hK hR l0 q956 dX10_harvest_18 ?_
  refine lv_if_eq (tgt := 30) hx hb dX10_harvest_21 (by decide) (fun c_21 => ?_) (fun c_21 => ?_)
  · have h := h.1 c_21
    refine lv_iload_n hx hb dX10_harvest_30 rfl (lv_at hl 0 rfl) ?_
    refine W.widen (k := 0) (n := 0) (Nat.le_of_ble_eq_true rfl) (Nat.le_of_ble_eq_true rfl) ?_
    exact W.iret (v := x_16) hx hb hr (fun t ht hW9 => ⟨⟨x_16, w, rfl, h, rpt ht hR⟩, hS.F ht⟩) hS.2.2 dX10_harvest_31
  · have h := h.2 c_21
    refine lv_iload_n hx hb dX10_harvest_24 rfl (lv_at hl 0 rfl) ?_
    refine lv_iconst (v := (2 : Int32)) hx hb dX10_harvest_25 (by decide) ?_
    refine lv_idiv hx hb dX10_harvest_26 (by decide) ?_
    refine lv_goto (tgt := 31) hx hb dX10_harvest_27 (by decide) ?_
    refine W.widen (k := 0) (n := 0) (Nat.le_of_ble_eq_true rfl) (Nat.le_of_ble_eq_true rfl) ?_
    exact W.iret (v := x_16 / (2 : Int32)) hx hb hr (fun t ht hW9 => ⟨⟨x_16 / (2 : Int32), w, rfl, h, rpt ht hR⟩, hS.F ht⟩) hS.2.2 dX10_harvest_31
abbrev rm_X10_flee : Room := { frames := 3, cells := 0, slots := 0, locals := 67 }
def sp_X10_flee (κ : Kx) (y : Ly) (post : Wd → Prop) (w : Wd) (a0 : Nat) : Prop := ∀ x_19 : Int32, x_19 = jmin ((gv w 6 a0 6) - (1 : Int32)) (jmax (1 : Int32) ((gv w 6 a0 6) / (5 : Int32))) → ∀ w_27 : Wd, w_27 = sv w 6 a0 6 ((gv w 6 a0 6) - x_19) → ∀ w_37 : Wd, w_37 = sv w_27 6 a0 14 ((gv w_27 6 a0 14) + x_19) → ∀ w_47 : Wd, w_47 = sv w_37 6 a0 10 ((gv w_37 6 a0 10) / (2 : Int32)) → sp_X10_stir κ y (fun w_52 => post w_52) w_47 a0 (2 : Int32)
theorem hd_X10_flee : yX10_flee.cls = RX10 ∧ yX10_flee.cls ≠ "java/lang/invoke/MethodHandle" ∧ yX10_flee.cls ≠ "java/lang/invoke/VarHandle" ∧ (parseMethodDescriptor yX10_flee.desc).map (fun d => d.parameters.length) = some 0 := by decide +kernel
set_option maxHeartbeats 4000000 in
theorem m_X10_flee {l : Launch} {κ : Kx} {y : Ly} {X : XR} {post : Wd → Prop} {w : Wd} {a0 : Nat}  (hW : WFc κ y) (l0 : live y 6 a0) (h : sp_X10_flee κ y post w a0) : Met l yX10_flee (ws_ yX10_flee cX10_flee 2 (Option.none : Option Jvm.ClassFile.FieldType)) rm_X10_flee (va_Pc [.ref (y.2 6 a0)] (RC κ w y X)) (va_Qv post (fun w t => Rp κ w y X [] t.heap) (Af κ)) 0 0 (Af κ) := by
  unfold sp_X10_flee at h
  refine Met.ofW (cc := cX10_flee) (maxL := 2) (ret := (Option.none : Option Jvm.ClassFile.FieldType)) (by decide) rfl ?_
  intro p e s m args below meth c s₁ B hml hv
  obtain ⟨rfl, hR, hK⟩ := hv
  have hx := B.exec
  have hb := B.bytes
  have hr := B.returns
  have hts := atoms_spec (ws := ws_ yX10_flee cX10_flee 2 (Option.none : Option Jvm.ClassFile.FieldType)) B.pre
  have hts : ∀ w ∈ lw_all, w.before _ s = true := fun w h => hts w (List.mem_cons_of_mem _ h)
  have hown : s.vm.findClass RX10 = some m.cls := findClass_of_methodNamed B.named
  have hlocks := B.notSynchronized
  have hS : va_S (Af κ) s.heap s.heap [] := va_S.rf
  have hl := lv_entry ([.ref (y.2 6 a0)]) (n := 2) (Nat.le_of_ble_eq_true rfl)
  rw [lg_entry_eq]
  generalize (lg_sl ([.ref (y.2 6 a0)]) ++ List.replicate (2 - (lg_sl ([.ref (y.2 6 a0)])).length) Slot.unset).toArray = ls at hl ⊢
  have hl : lv_has ls 2 [(0, .ref (y.2 6 a0))] := hl
  refine lv_aload_n hx hb dX10_flee_0 rfl (lv_at hl 0 rfl) ?_
  refine g6_6 hx hb hts hown hK hR l0 q930 dX10_flee_1 ?_
  refine lv_iconst (v := (1 : Int32)) hx hb dX10_flee_4 (by decide) ?_
  refine lv_isub hx hb dX10_flee_5 ?_
  refine lv_iconst (v := (1 : Int32)) hx hb dX10_flee_6 (by decide) ?_
  refine lv_aload_n hx hb dX10_flee_7 rfl (lv_at hl 0 rfl) ?_
  refine g6_6 hx hb hts hown hK hR l0 q930 dX10_flee_8 ?_
  refine lv_iconst (v := (5 : Int32)) hx hb dX10_flee_11 (by decide) ?_
  refine lv_idiv hx hb dX10_flee_12 (by decide) ?_
  refine va_mmax hx hb (hml.trans hl.1.symm) hown (hts _ q1578) (hts _ q642) (hts _ q95) (hts _ q643) (Nat.le_of_ble_eq_true rfl) (Nat.le_of_ble_eq_true rfl) (Nat.le_of_ble_eq_true rfl) (Nat.le_of_ble_eq_true rfl) dX10_flee_13 ?_
  refine va_mmin hx hb (hml.trans hl.1.symm) hown (hts _ q1529) (hts _ q322) (hts _ q95) (hts _ q323) (Nat.le_of_ble_eq_true rfl) (Nat.le_of_ble_eq_true rfl) (Nat.le_of_ble_eq_true rfl) (Nat.le_of_ble_eq_true rfl) dX10_flee_16 ?_
  refine lv_topi (fun x_19 ex_19 => ?_)
  have h := h x_19 ex_19
  refine lv_istore_n (lv' := [(1, .int (x_19)), (0, .ref (y.2 6 a0))]) hx hb dX10_flee_19 rfl hl (by decide) rfl (fun ls hl => ?_)
  refine lv_aload_n hx hb dX10_flee_20 rfl (lv_at hl 1 rfl) ?_
  refine lv_dup hx hb dX10_flee_21 rfl ?_
  refine g6_6 hx hb hts hown hK hR l0 q930 dX10_flee_22 ?_
  refine lv_iload_n hx hb dX10_flee_25 rfl (lv_at hl 0 rfl) ?_
  refine lv_isub hx hb dX10_flee_26 ?_
  refine p6_6 hx hb hts hown hK hR hS l0 q930 dX10_flee_27 (fun H locs w_27 ew_27 hR hS => ?_)
  have h := h w_27 ew_27
  refine lv_aload_n hx hb dX10_flee_30 rfl (lv_at hl 1 rfl) ?_
  refine lv_dup hx hb dX10_flee_31 rfl ?_
  refine g6_14 hx hb hts hown hK hR l0 q950 dX10_flee_32 ?_
  refine lv_iload_n hx hb dX10_flee_35 rfl (lv_at hl 0 rfl) ?_
  refine lv_iadd hx hb dX10_flee_36 ?_
  refine p6_14 hx hb hts hown hK hR hS l0 q950 dX10_flee_37 (fun H locs w_37 ew_37 hR hS => ?_)
  have h := h w_37 ew_37
  refine lv_aload_n hx hb dX10_flee_40 rfl (lv_at hl 1 rfl) ?_
  refine lv_dup hx hb dX10_flee_41 rfl ?_
  refine g6_10 hx hb hts hown hK hR l0 q941 dX10_flee_42 ?_
  refine lv_iconst (v := (2 : Int32)) hx hb dX10_flee_45 (by decide) ?_
  refine lv_idiv hx hb dX10_flee_46 (by decide) ?_
  refine p6_10 hx hb hts hown hK hR hS l0 q941 dX10_flee_47 (fun H locs w_47 ew_47 hR hS => ?_)
  have h := h w_47 ew_47
  refine lv_aload_n hx hb dX10_flee_50 rfl (lv_at hl 1 rfl) ?_
  refine lv_iconst (v := (2 : Int32)) hx hb dX10_flee_51 (by decide) ?_
  refine ce_qv (fw := fun u => u) (fy := fun _ => y) (cr_V (n := 1) (As := [.int ((2 : Int32))]) (rest := []) ⟨hx, hb, hml, hown, hts⟩ hK hR (m_X10_stir hW l0 h) q1584 q1443 q1444 q92 q1445 rfl rfl hd_X10_stir ⟨Nat.le_of_ble_eq_true rfl, Nat.le_of_ble_eq_true rfl⟩ (rv hK hR l0 (ci := 6) rfl rfl) rfl rfl hl.1 rfl (lv_room (Nat.le_of_ble_eq_true rfl)) dX10_flee_52 ⟨(Nat.le_of_ble_eq_true rfl), (Nat.le_of_ble_eq_true rfl)⟩) hR hS (fun w_52 H locs h hR _ hS => ?_)
  refine W.widen (k := 0) (n := 0) (Nat.le_of_ble_eq_true rfl) (Nat.le_of_ble_eq_true rfl) ?_
  exact W.vret hx hb hr (fun t ht hW9 => ⟨⟨w_52, rfl, h, rpt ht hR⟩, hS.F ht⟩) hS.2.2 dX10_flee_55
abbrev rm_X12_shares : Room := { frames := 3, cells := 1, slots := 4, locals := 68 }
def st_X12_shares_10 (κ : Kx) (y : Ly) (post : Int32 → Wd → Prop) (ex : Wd → (Int32) → Prop) (rec : Wd → Int32 → Nat → Int32 → Prop) (i2 : Nat) (w : Wd) (v1 : Int32) (c2 : Nat) (z2 : Int32) : Prop := ((¬ (¬ c2 = nP y i2)) → (ex w v1)) ∧ (((¬ c2 = nP y i2)) → (∀ x_35 : Int32, x_35 = v1 + (gv w 10 ((5 * i2 + c2)) 0) → rec w x_35 (c2 + 1) (nI c2)))
def sp_X12_shares_10 (κ : Kx) (y : Ly) (post : Int32 → Wd → Prop) (ex : Wd → (Int32) → Prop) (i2 : Nat) : Nat → Wd → Int32 → Nat → Int32 → Prop
  | 0 => fun _ _ _ _ => False
  | n + 1 => fun w v1 c2 z2 => st_X12_shares_10 κ y post ex (sp_X12_shares_10 κ y post ex i2 n) i2 w v1 c2 z2
set_option maxHeartbeats 4000000 in
theorem lp_X12_shares_10 {p : Program} {l : Launch} {e : Env} {s : State} {m : MethodId} {args : Array Value} {below : List Frame} {meth : Method} {c : Code} {κ : Kx} {y : Ly} {X : XR} {post : Int32 → Wd → Prop} {q2 : Nat} {i2 : Nat} (hx : p.tables.exec = Jvm.exec) (hb : c.code = cX12_shares) (hr : meth.sig.returnType = (Option.some Jvm.ClassFile.FieldType.int)) (hml : c.maxLocals = 4) (hown : s.vm.findClass RX12 = some m.cls) (hts : ∀ w ∈ lw_all, w.before args s = true) (hlocks : meth.locks = false) (hK : KK κ s) (hW : WFc κ y) (l2 : live y 9 i2) {C1 S1 : Nat} (hC : C1 ≤ 1) (hSl : S1 ≤ 4) {ex : Wd → (Int32) → Prop}
    (kx : ∀ (w : Wd) (v1 : Int32) (H : Heap) (locs : List Loc) (ls : Array Slot) (cells slots : Nat) , ex w v1 → Rp κ w y X [] H → va_S (Af κ) s.heap H locs → lv_has ls 4 [(1, .int (v1))] → cells ≤ C1 → slots ≤ S1 → W p l e (headSpec (ws_ yX12_shares cX12_shares 4 (Option.some Jvm.ClassFile.FieldType.int)) rm_X12_shares).room s m args below meth c H locs cells slots (MQ below (va_Qi post (fun w t => Rp κ w y X [] t.heap) (Af κ)) args s 1 4 (Af κ)) (F0 m 39 ls [])) :
    ∀ (f : Nat) (w : Wd) (v1 : Int32) (c2 : Nat) (z2 : Int32) (H : Heap) (locs : List Loc) (ls : Array Slot) (cells slots : Nat)  (hc2 : c2 ≤ nP y i2), sp_X12_shares_10 κ y post ex i2 f w v1 c2 z2 → Rp κ w y X [(q2, itC y 48 i2 c2 z2)] H → va_S (Af κ) s.heap H locs → lv_has ls 4 [(1, .int (v1)), (2, .ref (q2))] → cells + f * 0 ≤ C1 → slots + f * 0 ≤ S1 → W p l e (headSpec (ws_ yX12_shares cX12_shares 4 (Option.some Jvm.ClassFile.FieldType.int)) rm_X12_shares).room s m args below meth c H locs cells slots (MQ below (va_Qi post (fun w t => Rp κ w y X [] t.heap) (Af κ)) args s 1 4 (Af κ)) (F0 m 10 ls []) := by
  intro f
  induction f with
  | zero =>
    intro w v1 c2 z2 H locs ls cells slots hc2 h
    exact False.elim h
  | succ f ih =>
    intro w v1 c2 z2 H locs ls cells slots hc2 h hR hS hl hc hs
    have h : st_X12_shares_10 κ y post ex (sp_X12_shares_10 κ y post ex i2 f) i2 w v1 c2 z2 := h
    unfold st_X12_shares_10 at h
    refine lv_aload_n hx hb dX12_shares_10 rfl (lv_at hl 1 rfl) ?_
    refine jr_hasNext (t := 0) ⟨hx, hb, hml, hown, hts⟩ hK hR rfl ⟨fun _ _ _ _ _ => rfl, fun _ _ _ _ _ => rfl⟩ (hW.cpa l2) (by omega) (Nat.le_trans (hW.nP5 l2) (by decide)) q727 ⟨Nat.le_of_ble_eq_true rfl, Nat.le_of_ble_eq_true rfl⟩ hl.1 (Nat.le_of_ble_eq_true rfl) dX12_shares_11 ⟨(Nat.le_trans (show cells + 0 ≤ C1 from by omega) hC), (Nat.le_trans (show slots + 0 ≤ S1 from by omega) hSl)⟩ ?_
    refine lv_if_eq (tgt := 39) hx hb dX12_shares_16 (by decide) (fun c_16 => ?_) (fun c_16 => ?_)
    · replace c_16 : ¬ (¬ c2 = nP y i2) := bi_0.mp c_16
      have h := h.1 c_16
      have hR := hR.sub (L' := []) [] rfl rfl
      exact kx w v1 _ _ _ _ _ h hR hS (lv_sub hl [0] rfl) (by omega) (by omega)
    · replace c_16 : (¬ c2 = nP y i2) := bi_n0.mp c_16
      have h := h.2 c_16
      refine lv_aload_n hx hb dX12_shares_19 rfl (lv_at hl 1 rfl) ?_
      have hn_20 : c2 < nP y i2 := by omega
      refine jr_next (t := 0) (a := y.2 10 (5 * i2 + c2)) ⟨hx, hb, hml, hown, hts⟩ hK hR hS rfl ⟨fun _ _ _ _ _ => rfl, fun _ _ _ _ _ => rfl⟩ (hW.cpa l2) ⟨hW.arP (Nat.lt_of_le_of_lt (Nat.zero_le _) hn_20), (Nat.le_trans (hW.nP5 l2) (by decide))⟩ hn_20 (hW.elP l2 hn_20) q729 ⟨Nat.le_of_ble_eq_true rfl, Nat.le_of_ble_eq_true rfl⟩ hl.1 (Nat.le_of_ble_eq_true rfl) dX12_shares_20 ⟨(Nat.le_trans (show cells + 0 ≤ C1 from by omega) hC), (Nat.le_trans (show slots + 0 ≤ S1 from by omega) hSl)⟩ (fun H locs hR hS => ?_)
      have hR : Rp κ w y X [(q2, itC y 48 i2 (c2 + 1) (nI c2))] H := hR
      refine jr_castS (ci := 8) hx hb hown hK hts (hR.role (hW.par l2 hn_20)) rfl q730 dX12_shares_25 ?_
      refine lv_astore_n (lv' := [(3, .ref (y.2 10 (5 * i2 + c2))), (1, .int (v1)), (2, .ref (q2))]) hx hb dX12_shares_28 rfl hl (by decide) rfl (fun ls hl => ?_)
      refine lv_iload_n hx hb dX12_shares_29 rfl (lv_at hl 1 rfl) ?_
      refine lv_aload_n hx hb dX12_shares_30 rfl (lv_at hl 0 rfl) ?_
      refine g10_0 hx hb hts hown hK hR (hW.par l2 hn_20) q1187 dX12_shares_31 ?_
      refine lv_iadd hx hb dX12_shares_34 ?_
      refine lv_topi (fun x_35 ex_35 => ?_)
      have h := h x_35 ex_35
      refine lv_istore_n (lv' := [(1, .int (x_35)), (3, .ref (y.2 10 (5 * i2 + c2))), (2, .ref (q2))]) hx hb dX12_shares_35 rfl hl (by decide) rfl (fun ls hl => ?_)
      refine lv_goto (tgt := 10) hx hb dX12_shares_36 (by decide) ?_
      exact ih w x_35 (c2 + 1) (nI c2) _ _ _ _ _ (by omega) h hR hS (lv_sub hl [0, 2] rfl) (by omega) (by omega)
def sp_X12_shares (κ : Kx) (y : Ly) (post : Int32 → Wd → Prop) (w : Wd) (a0 : Nat) : Prop := sp_X12_shares_10 κ y post (fun w_10 y1_10 => post (y1_10) w_10) a0 6 w (0 : Int32) 0 (-1)
theorem hd_X12_shares : yX12_shares.cls = RX12 ∧ yX12_shares.cls ≠ "java/lang/invoke/MethodHandle" ∧ yX12_shares.cls ≠ "java/lang/invoke/VarHandle" ∧ (parseMethodDescriptor yX12_shares.desc).map (fun d => d.parameters.length) = some 0 := by decide +kernel
set_option maxHeartbeats 4000000 in
theorem m_X12_shares {l : Launch} {κ : Kx} {y : Ly} {X : XR} {post : Int32 → Wd → Prop} {w : Wd} {a0 : Nat}  (hW : WFc κ y) (l0 : live y 9 a0) (h : sp_X12_shares κ y post w a0) : Met l yX12_shares (ws_ yX12_shares cX12_shares 4 (Option.some Jvm.ClassFile.FieldType.int)) rm_X12_shares (va_Pc [.ref (y.2 9 a0)] (RC κ w y X)) (va_Qi post (fun w t => Rp κ w y X [] t.heap) (Af κ)) 1 4 (Af κ) := by
  unfold sp_X12_shares at h
  refine Met.ofW (cc := cX12_shares) (maxL := 4) (ret := (Option.some Jvm.ClassFile.FieldType.int)) (by decide) rfl ?_
  intro p e s m args below meth c s₁ B hml hv
  obtain ⟨rfl, hR, hK⟩ := hv
  have hx := B.exec
  have hb := B.bytes
  have hr := B.returns
  have hts := atoms_spec (ws := ws_ yX12_shares cX12_shares 4 (Option.some Jvm.ClassFile.FieldType.int)) B.pre
  have hts : ∀ w ∈ lw_all, w.before _ s = true := fun w h => hts w (List.mem_cons_of_mem _ h)
  have hown : s.vm.findClass RX12 = some m.cls := findClass_of_methodNamed B.named
  have hlocks := B.notSynchronized
  have hS : va_S (Af κ) s.heap s.heap [] := va_S.rf
  have hl := lv_entry ([.ref (y.2 9 a0)]) (n := 4) (Nat.le_of_ble_eq_true rfl)
  rw [lg_entry_eq]
  generalize (lg_sl ([.ref (y.2 9 a0)]) ++ List.replicate (4 - (lg_sl ([.ref (y.2 9 a0)])).length) Slot.unset).toArray = ls at hl ⊢
  have hl : lv_has ls 4 [(0, .ref (y.2 9 a0))] := hl
  refine lv_iconst (v := (0 : Int32)) hx hb dX12_shares_0 (by decide) ?_
  refine lv_istore_n (lv' := [(1, .int ((0 : Int32))), (0, .ref (y.2 9 a0))]) hx hb dX12_shares_1 rfl hl (by decide) rfl (fun ls hl => ?_)
  refine lv_aload_n hx hb dX12_shares_2 rfl (lv_at hl 1 rfl) ?_
  refine g9_2 hx hb hts hown hK hR l0 q1125 dX12_shares_3 ?_
  refine jr_iter ⟨hx, hb, hml, hown, hts⟩ hK hR hS ⟨fun _ _ _ _ _ => rfl, fun _ _ _ _ _ => rfl⟩ (hW.cpa l0) q725 ⟨Nat.le_of_ble_eq_true rfl, Nat.le_of_ble_eq_true rfl⟩ hl.1 (Nat.le_of_ble_eq_true rfl) dX12_shares_6 ⟨(Nat.le_of_ble_eq_true rfl), (Nat.le_of_ble_eq_true rfl)⟩ (fun q_6 H locs hR hS => ?_)
  have hR : Rp κ w y X [(q_6, itC y 48 a0 0 (-1))] H := hR
  refine lv_astore_n (lv' := [(2, .ref (q_6)), (1, .int ((0 : Int32))), (0, .ref (y.2 9 a0))]) hx hb dX12_shares_9 rfl hl (by decide) rfl (fun ls hl => ?_)
  refine lp_X12_shares_10 (C1 := 1) (S1 := 4) hx hb hr hml hown hts hlocks hK hW l0 (Nat.le_of_ble_eq_true rfl) (Nat.le_of_ble_eq_true rfl) (fun w_10 y1_10 H locs ls cells9 slots9 h hR hS hl hc9 hs9 => ?_) 6 w (0 : Int32) 0 (-1) _ _ _ _ _ (by omega) h hR hS (lv_sub hl [1, 0] rfl) (by omega) (by omega)
  refine W.widen (k := 1) (n := 4) hc9 hs9 ?_
  refine lv_iload_n hx hb dX12_shares_39 rfl (lv_at hl 0 rfl) ?_
  refine W.widen (k := 1) (n := 4) (Nat.le_of_ble_eq_true rfl) (Nat.le_of_ble_eq_true rfl) ?_
  exact W.iret (v := y1_10) hx hb hr (fun t ht hW9 => ⟨⟨y1_10, w_10, rfl, h, rpt ht hR⟩, hS.F ht⟩) hS.2.2 dX12_shares_40
abbrev rm_X12_gain : Room := { frames := 0, cells := 0, slots := 0, locals := 0 }
def sp_X12_gain (κ : Kx) (y : Ly) (post : UInt64 → Wd → Prop) (w : Wd) (a0 : Nat) : Prop := ∀ x_5 : UInt64, x_5 = FP.i2d (gv w 9 a0 9) → ((¬ gv w 9 a0 10 = 0) → ((vf_n64 (FP.ddiv x_5 (FP.i2d (gv w 9 a0 10)))) ∧ (post (FP.ddiv x_5 (FP.i2d (gv w 9 a0 10))) w))) ∧ ((gv w 9 a0 10 = 0) → (post (FP.dconst0) w))
theorem hd_X12_gain : yX12_gain.cls = RX12 ∧ yX12_gain.cls ≠ "java/lang/invoke/MethodHandle" ∧ yX12_gain.cls ≠ "java/lang/invoke/VarHandle" ∧ (parseMethodDescriptor yX12_gain.desc).map (fun d => d.parameters.length) = some 0 := by decide +kernel
set_option maxHeartbeats 4000000 in
theorem m_X12_gain {l : Launch} {κ : Kx} {y : Ly} {X : XR} {post : UInt64 → Wd → Prop} {w : Wd} {a0 : Nat}  (hW : WFc κ y) (l0 : live y 9 a0) (h : sp_X12_gain κ y post w a0) : Met l yX12_gain (ws_ yX12_gain cX12_gain 3 (Option.some Jvm.ClassFile.FieldType.double)) rm_X12_gain (va_Pc [.ref (y.2 9 a0)] (RC κ w y X)) (va_Qd post (fun w t => Rp κ w y X [] t.heap) (Af κ)) 0 0 (Af κ) := by
  unfold sp_X12_gain at h
  refine Met.ofW (cc := cX12_gain) (maxL := 3) (ret := (Option.some Jvm.ClassFile.FieldType.double)) (by decide) rfl ?_
  intro p e s m args below meth c s₁ B hml hv
  obtain ⟨rfl, hR, hK⟩ := hv
  have hx := B.exec
  have hb := B.bytes
  have hr := B.returns
  have hts := atoms_spec (ws := ws_ yX12_gain cX12_gain 3 (Option.some Jvm.ClassFile.FieldType.double)) B.pre
  have hts : ∀ w ∈ lw_all, w.before _ s = true := fun w h => hts w (List.mem_cons_of_mem _ h)
  have hown : s.vm.findClass RX12 = some m.cls := findClass_of_methodNamed B.named
  have hlocks := B.notSynchronized
  have hS : va_S (Af κ) s.heap s.heap [] := va_S.rf
  have hl := lv_entry ([.ref (y.2 9 a0)]) (n := 3) (Nat.le_of_ble_eq_true rfl)
  rw [lg_entry_eq]
  generalize (lg_sl ([.ref (y.2 9 a0)]) ++ List.replicate (3 - (lg_sl ([.ref (y.2 9 a0)])).length) Slot.unset).toArray = ls at hl ⊢
  have hl : lv_has ls 3 [(0, .ref (y.2 9 a0))] := hl
  refine lv_aload_n hx hb dX12_gain_0 rfl (lv_at hl 0 rfl) ?_
  refine g9_9 hx hb hts hown hK hR l0 q1138 dX12_gain_1 ?_
  refine lv_i2d hx hb dX12_gain_4 ?_
  refine lv_topd (fun x_5 ex_5 => ?_)
  have h := h x_5 ex_5
  refine lv_dstore_n (lv' := [(1, .double (x_5)), (0, .ref (y.2 9 a0))]) hx hb dX12_gain_5 rfl hl (by decide) rfl (fun ls hl => ?_)
  refine lv_aload_n hx hb dX12_gain_6 rfl (lv_at hl 1 rfl) ?_
  refine g9_10 hx hb hts hown hK hR l0 q1140 dX12_gain_7 ?_
  refine lv_if_ne (tgt := 17) hx hb dX12_gain_10 (by decide) (fun c_10 => ?_) (fun c_10 => ?_)
  · have h := h.1 c_10
    refine lv_dload_n hx hb dX12_gain_17 rfl (lv_at hl 0 rfl) ?_
    refine lv_aload_n hx hb dX12_gain_18 rfl (lv_at hl 1 rfl) ?_
    refine g9_10 hx hb hts hown hK hR l0 q1140 dX12_gain_19 ?_
    refine lv_i2d hx hb dX12_gain_22 ?_
    have o_23 := h.1
    have h := h.2
    refine lv_ddiv hx hb dX12_gain_23 o_23 ?_
    refine W.widen (k := 0) (n := 0) (Nat.le_of_ble_eq_true rfl) (Nat.le_of_ble_eq_true rfl) ?_
    exact W.dret (v := FP.ddiv x_5 (FP.i2d (gv w 9 a0 10))) hx hb hr (fun t ht hW9 => ⟨⟨FP.ddiv x_5 (FP.i2d (gv w 9 a0 10)), w, rfl, h, rpt ht hR⟩, hS.F ht⟩) hS.2.2 dX12_gain_24
  · have h := h.2 c_10
    refine lv_dconst0 hx hb dX12_gain_13 ?_
    refine lv_goto (tgt := 24) hx hb dX12_gain_14 (by decide) ?_
    refine W.widen (k := 0) (n := 0) (Nat.le_of_ble_eq_true rfl) (Nat.le_of_ble_eq_true rfl) ?_
    exact W.dret (v := FP.dconst0) hx hb hr (fun t ht hW9 => ⟨⟨FP.dconst0, w, rfl, h, rpt ht hR⟩, hS.F ht⟩) hS.2.2 dX12_gain_24
