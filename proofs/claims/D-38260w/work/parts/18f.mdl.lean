/-! printed by wip gen: X8_ofLot, X8_land, X8_gain, X8_wouldBringNow, X8_bestForceNow, X8_votes, X8_harvest, X8_directNow, X8_isSoundNow, X8_village -/
set_option maxRecDepth 100000
abbrev rm_X8_ofLot : Room := { frames := 3, cells := 1, slots := 12, locals := 93 }
def sp_X8_ofLot (κ : Kx) (y : Ly) (post : Int32 → Wd → Prop) (w : Wd) (p1 : Int32) (p2 : Int32) : Prop := sp_X8_isNoLot κ y (fun r_3 w_3 => sp_X8_start κ y (fun r_7 w_7 => ((¬ r_7 = 0) → (post ((0 : Int32)) w_7)) ∧ ((r_7 = 0) → (sp_X8_isIn κ y (fun r_18 w_18 => ((¬ r_18 = 0) → (sp_X8_refuse κ y (fun r_30 w_30 => ((r_30 = 0) → ((vp_in (p1) (mL y)) ∧ (sp_X8_ofLotNow κ y (fun r_53 w_53 => post (r_53) w_53) w_30 (((p1).toNatClampNeg)) p2))) ∧ ((¬ (r_30 = 0)) → (post ((0 : Int32)) w_30))) w_18 (0 : Int32) (2 : Int32))) ∧ ((r_18 = 0) → (sp_X8_refuse κ y (fun r_30_a w_30_a => ((r_30_a = 0) → ((vp_in (p1) (mL y)) ∧ (sp_X8_ofLotNow κ y (fun r_53_a w_53_a => post (r_53_a) w_53_a) w_30_a (((p1).toNatClampNeg)) p2))) ∧ ((¬ (r_30_a = 0)) → (post ((0 : Int32)) w_30_a))) w_18 (1 : Int32) (2 : Int32)))) w_7 p2 (0 : Int32) (11 : Int32)))) w_3 r_3 (1 : Int32)) w p1
theorem hd_X8_ofLot : yX8_ofLot.cls = RX8 ∧ yX8_ofLot.cls ≠ "java/lang/invoke/MethodHandle" ∧ yX8_ofLot.cls ≠ "java/lang/invoke/VarHandle" ∧ (parseMethodDescriptor yX8_ofLot.desc).map (fun d => d.parameters.length) = some 2 := by decide +kernel
set_option maxHeartbeats 4000000 in
theorem m_X8_ofLot {l : Launch} {κ : Kx} {y : Ly} {X : XR} {post : Int32 → Wd → Prop} {w : Wd} {p1 : Int32} {p2 : Int32}  (hM : WFm κ y) (l0 : live y 20 0) (h : sp_X8_ofLot κ y post w p1 p2) : Met l yX8_ofLot (ws_ yX8_ofLot cX8_ofLot 3 (Option.some Jvm.ClassFile.FieldType.int)) rm_X8_ofLot (va_Pc [.ref (y.2 20 0), .int (p1), .int (p2)] (RC κ w y X)) (va_Qi post (fun w t => Rp κ w y X [] t.heap) (Af κ)) 1 12 (Af κ) := by
  unfold sp_X8_ofLot at h
  refine Met.ofW (cc := cX8_ofLot) (maxL := 3) (ret := (Option.some Jvm.ClassFile.FieldType.int)) (by decide) rfl ?_
  intro p e s m args below meth c s₁ B hml hv
  obtain ⟨rfl, hR, hK⟩ := hv
  have hx := B.exec
  have hb := B.bytes
  have hr := B.returns
  have hts := atoms_spec (ws := ws_ yX8_ofLot cX8_ofLot 3 (Option.some Jvm.ClassFile.FieldType.int)) B.pre
  have hts : ∀ w ∈ lw_all, w.before _ s = true := fun w h => hts w (List.mem_cons_of_mem _ h)
  have hown : s.vm.findClass RX8 = some m.cls := findClass_of_methodNamed B.named
  have hlocks := B.notSynchronized
  have hS : va_S (Af κ) s.heap s.heap [] := va_S.rf
  have hl := lv_entry ([.ref (y.2 20 0), .int (p1), .int (p2)]) (n := 3) (Nat.le_of_ble_eq_true rfl)
  rw [lg_entry_eq]
  generalize (lg_sl ([.ref (y.2 20 0), .int (p1), .int (p2)]) ++ List.replicate (3 - (lg_sl ([.ref (y.2 20 0), .int (p1), .int (p2)])).length) Slot.unset).toArray = ls at hl ⊢
  have hl : lv_has ls 3 [(0, .ref (y.2 20 0)), (1, .int (p1)), (2, .int (p2))] := hl
  refine lv_aload_n hx hb dX8_ofLot_0 rfl (lv_at hl 0 rfl) ?_
  refine lv_aload_n hx hb dX8_ofLot_1 rfl (lv_at hl 0 rfl) ?_
  refine lv_iload_n hx hb dX8_ofLot_2 rfl (lv_at hl 1 rfl) ?_
  refine ce_qi (fw := fun u => u) (fy := fun _ => y) (cr_V (n := 1) (As := [.int (p1)]) (rest := [.ref (y.2 20 0)]) ⟨hx, hb, hml, hown, hts⟩ hK hR (m_X8_isNoLot hM l0 h) q2308 q2310 qs44 q85 q2311 rfl rfl hd_X8_isNoLot ⟨Nat.le_of_ble_eq_true rfl, Nat.le_of_ble_eq_true rfl⟩ (rv hK hR l0 (ci := 11) rfl rfl) rfl rfl hl.1 rfl (lv_room (Nat.le_of_ble_eq_true rfl)) dX8_ofLot_3 ⟨(Nat.le_of_ble_eq_true rfl), (Nat.le_of_ble_eq_true rfl)⟩) hR hS (fun r_3 w_3 H locs h hR _ hS => ?_)
  refine lv_iconst (v := (1 : Int32)) hx hb dX8_ofLot_6 (by decide) ?_
  refine ce_qi (fw := fun u => u) (fy := fun _ => y) (cr_V (n := 2) (As := [.int (r_3), .int ((1 : Int32))]) (rest := []) ⟨hx, hb, hml, hown, hts⟩ hK hR (m_X8_start hM l0 h) q2023 q2025 qs37 q85 q2026 rfl rfl hd_X8_start ⟨Nat.le_of_ble_eq_true rfl, Nat.le_of_ble_eq_true rfl⟩ (rv hK hR l0 (ci := 11) rfl rfl) rfl rfl hl.1 rfl (lv_room (Nat.le_of_ble_eq_true rfl)) dX8_ofLot_7 ⟨(Nat.le_of_ble_eq_true rfl), (Nat.le_of_ble_eq_true rfl)⟩) hR hS (fun r_7 w_7 H locs h hR _ hS => ?_)
  refine lv_if_ne (tgt := 36) hx hb dX8_ofLot_10 (by decide) (fun c_10 => ?_) (fun c_10 => ?_)
  · have h := h.1 c_10
    refine lv_iconst (v := (0 : Int32)) hx hb dX8_ofLot_36 (by decide) ?_
    refine lv_goto (tgt := 56) hx hb dX8_ofLot_37 (by decide) ?_
    refine W.widen (k := 1) (n := 12) (Nat.le_of_ble_eq_true rfl) (Nat.le_of_ble_eq_true rfl) ?_
    exact W.iret (v := (0 : Int32)) hx hb hr (fun t ht hW9 => ⟨⟨(0 : Int32), w_7, rfl, h, rpt ht hR⟩, hS.F ht⟩) hS.2.2 dX8_ofLot_56
  · have h := h.2 c_10
    refine lv_aload_n hx hb dX8_ofLot_13 rfl (lv_at hl 0 rfl) ?_
    refine lv_iload_n hx hb dX8_ofLot_14 rfl (lv_at hl 2 rfl) ?_
    refine lv_iconst (v := (0 : Int32)) hx hb dX8_ofLot_15 (by decide) ?_
    refine lv_bipush (v := (11 : Int32)) hx hb dX8_ofLot_16 (by decide) ?_
    refine ce_qi (fw := fun u => u) (fy := fun _ => y) (cr_S (n := 3) (As := [.int (p2), .int ((0 : Int32)), .int ((11 : Int32))]) (rest := [.ref (y.2 20 0)]) ⟨hx, hb, hml, hown, hts⟩ hK hR (m_X8_isIn hM h) q2020 q2021 q85 q2022 rfl rfl hds_X8_isIn ⟨Nat.le_of_ble_eq_true rfl, Nat.le_of_ble_eq_true rfl⟩ rfl rfl hl.1 rfl (lv_room (Nat.le_of_ble_eq_true rfl)) dX8_ofLot_18 ⟨(Nat.le_of_ble_eq_true rfl), (Nat.le_of_ble_eq_true rfl)⟩) hR hS (fun r_18 w_18 H locs h hR _ hS => ?_)
    refine lv_if_ne (tgt := 28) hx hb dX8_ofLot_21 (by decide) (fun c_21 => ?_) (fun c_21 => ?_)
    · have h := h.1 c_21
      refine lv_iconst (v := (0 : Int32)) hx hb dX8_ofLot_28 (by decide) ?_
      refine lv_iconst (v := (2 : Int32)) hx hb dX8_ofLot_29 (by decide) ?_
      refine ce_qi (fw := fun u => u) (fy := fun _ => y) (cr_V (n := 2) (As := [.int ((0 : Int32)), .int ((2 : Int32))]) (rest := []) ⟨hx, hb, hml, hown, hts⟩ hK hR (m_X8_refuse hM l0 h) q2027 q2029 qs38 q85 q2030 rfl rfl hd_X8_refuse ⟨Nat.le_of_ble_eq_true rfl, Nat.le_of_ble_eq_true rfl⟩ (rv hK hR l0 (ci := 11) rfl rfl) rfl rfl hl.1 rfl (lv_room (Nat.le_of_ble_eq_true rfl)) dX8_ofLot_30 ⟨(Nat.le_of_ble_eq_true rfl), (Nat.le_of_ble_eq_true rfl)⟩) hR hS (fun r_30 w_30 H locs h hR _ hS => ?_)
      refine lv_if_eq (tgt := 40) hx hb dX8_ofLot_33 (by decide) (fun c_33 => ?_) (fun c_33 => ?_)
      · have h := h.1 c_33
        refine lv_aload_n hx hb dX8_ofLot_40 rfl (lv_at hl 0 rfl) ?_
        refine lv_aload_n hx hb dX8_ofLot_41 rfl (lv_at hl 0 rfl) ?_
        refine g20_5 hx hb hts hown hK hR l0 q1950 dX8_ofLot_42 ?_
        refine lv_iload_n hx hb dX8_ofLot_45 rfl (lv_at hl 1 rfl) ?_
        have o_46 := h.1
        have h := h.2
        refine jr_get (a := y.2 27 ((p1).toNatClampNeg)) ⟨hx, hb, hml, hown, hts⟩ hK hR ⟨fun _ _ _ _ _ => rfl, fun _ _ _ _ _ => rfl⟩ hM.lsL ⟨hM.arL (Nat.lt_of_le_of_lt (Nat.zero_le _) (vp_lt o_46)), (Nat.le_trans hM.mL8 (by decide))⟩ o_46 (hM.elL (vp_lt o_46)) q2101 ⟨Nat.le_of_ble_eq_true rfl, Nat.le_of_ble_eq_true rfl⟩ hl.1 (Nat.le_of_ble_eq_true rfl) dX8_ofLot_46 ⟨(Nat.le_of_ble_eq_true rfl), (Nat.le_of_ble_eq_true rfl)⟩ ?_
        refine jr_castS (ci := 14) hx hb hown hK hts (hR.role (hM.lot (vp_lt o_46))) rfl q2253 dX8_ofLot_49 ?_
        refine lv_iload_n hx hb dX8_ofLot_52 rfl (lv_at hl 2 rfl) ?_
        refine ce_qi (fw := fun u => u) (fy := fun _ => y) (cr_V (n := 2) (As := [.ref (y.2 27 ((p1).toNatClampNeg)), .int (p2)]) (rest := []) ⟨hx, hb, hml, hown, hts⟩ hK hR (m_X8_ofLotNow hM l0 (hM.lot (vp_lt o_46)) h) q2550 q2552 qs66 q85 q2553 rfl rfl hd_X8_ofLotNow ⟨Nat.le_of_ble_eq_true rfl, Nat.le_of_ble_eq_true rfl⟩ (rv hK hR l0 (ci := 11) rfl rfl) rfl rfl hl.1 rfl (lv_room (Nat.le_of_ble_eq_true rfl)) dX8_ofLot_53 ⟨(Nat.le_of_ble_eq_true rfl), (Nat.le_of_ble_eq_true rfl)⟩) hR hS (fun r_53 w_53 H locs h hR _ hS => ?_)
        refine W.widen (k := 1) (n := 12) (Nat.le_of_ble_eq_true rfl) (Nat.le_of_ble_eq_true rfl) ?_
        exact W.iret (v := r_53) hx hb hr (fun t ht hW9 => ⟨⟨r_53, w_53, rfl, h, rpt ht hR⟩, hS.F ht⟩) hS.2.2 dX8_ofLot_56
      · have h := h.2 c_33
        refine lv_iconst (v := (0 : Int32)) hx hb dX8_ofLot_36 (by decide) ?_
        refine lv_goto (tgt := 56) hx hb dX8_ofLot_37 (by decide) ?_
        refine W.widen (k := 1) (n := 12) (Nat.le_of_ble_eq_true rfl) (Nat.le_of_ble_eq_true rfl) ?_
        exact W.iret (v := (0 : Int32)) hx hb hr (fun t ht hW9 => ⟨⟨(0 : Int32), w_30, rfl, h, rpt ht hR⟩, hS.F ht⟩) hS.2.2 dX8_ofLot_56
    · have h := h.2 c_21
      refine lv_iconst (v := (1 : Int32)) hx hb dX8_ofLot_24 (by decide) ?_
      refine lv_goto (tgt := 29) hx hb dX8_ofLot_25 (by decide) ?_
      refine lv_iconst (v := (2 : Int32)) hx hb dX8_ofLot_29 (by decide) ?_
      refine ce_qi (fw := fun u => u) (fy := fun _ => y) (cr_V (n := 2) (As := [.int ((1 : Int32)), .int ((2 : Int32))]) (rest := []) ⟨hx, hb, hml, hown, hts⟩ hK hR (m_X8_refuse hM l0 h) q2027 q2029 qs38 q85 q2030 rfl rfl hd_X8_refuse ⟨Nat.le_of_ble_eq_true rfl, Nat.le_of_ble_eq_true rfl⟩ (rv hK hR l0 (ci := 11) rfl rfl) rfl rfl hl.1 rfl (lv_room (Nat.le_of_ble_eq_true rfl)) dX8_ofLot_30 ⟨(Nat.le_of_ble_eq_true rfl), (Nat.le_of_ble_eq_true rfl)⟩) hR hS (fun r_30_a w_30_a H locs h hR _ hS => ?_)
      refine lv_if_eq (tgt := 40) hx hb dX8_ofLot_33 (by decide) (fun c_33_a => ?_) (fun c_33_a => ?_)
      · have h := h.1 c_33_a
        refine lv_aload_n hx hb dX8_ofLot_40 rfl (lv_at hl 0 rfl) ?_
        refine lv_aload_n hx hb dX8_ofLot_41 rfl (lv_at hl 0 rfl) ?_
        refine g20_5 hx hb hts hown hK hR l0 q1950 dX8_ofLot_42 ?_
        refine lv_iload_n hx hb dX8_ofLot_45 rfl (lv_at hl 1 rfl) ?_
        have o_46_a := h.1
        have h := h.2
        refine jr_get (a := y.2 27 ((p1).toNatClampNeg)) ⟨hx, hb, hml, hown, hts⟩ hK hR ⟨fun _ _ _ _ _ => rfl, fun _ _ _ _ _ => rfl⟩ hM.lsL ⟨hM.arL (Nat.lt_of_le_of_lt (Nat.zero_le _) (vp_lt o_46_a)), (Nat.le_trans hM.mL8 (by decide))⟩ o_46_a (hM.elL (vp_lt o_46_a)) q2101 ⟨Nat.le_of_ble_eq_true rfl, Nat.le_of_ble_eq_true rfl⟩ hl.1 (Nat.le_of_ble_eq_true rfl) dX8_ofLot_46 ⟨(Nat.le_of_ble_eq_true rfl), (Nat.le_of_ble_eq_true rfl)⟩ ?_
        refine jr_castS (ci := 14) hx hb hown hK hts (hR.role (hM.lot (vp_lt o_46_a))) rfl q2253 dX8_ofLot_49 ?_
        refine lv_iload_n hx hb dX8_ofLot_52 rfl (lv_at hl 2 rfl) ?_
        refine ce_qi (fw := fun u => u) (fy := fun _ => y) (cr_V (n := 2) (As := [.ref (y.2 27 ((p1).toNatClampNeg)), .int (p2)]) (rest := []) ⟨hx, hb, hml, hown, hts⟩ hK hR (m_X8_ofLotNow hM l0 (hM.lot (vp_lt o_46_a)) h) q2550 q2552 qs66 q85 q2553 rfl rfl hd_X8_ofLotNow ⟨Nat.le_of_ble_eq_true rfl, Nat.le_of_ble_eq_true rfl⟩ (rv hK hR l0 (ci := 11) rfl rfl) rfl rfl hl.1 rfl (lv_room (Nat.le_of_ble_eq_true rfl)) dX8_ofLot_53 ⟨(Nat.le_of_ble_eq_true rfl), (Nat.le_of_ble_eq_true rfl)⟩) hR hS (fun r_53_a w_53_a H locs h hR _ hS => ?_)
        refine W.widen (k := 1) (n := 12) (Nat.le_of_ble_eq_true rfl) (Nat.le_of_ble_eq_true rfl) ?_
        exact W.iret (v := r_53_a) hx hb hr (fun t ht hW9 => ⟨⟨r_53_a, w_53_a, rfl, h, rpt ht hR⟩, hS.F ht⟩) hS.2.2 dX8_ofLot_56
      · have h := h.2 c_33_a
        refine lv_iconst (v := (0 : Int32)) hx hb dX8_ofLot_36 (by decide) ?_
        refine lv_goto (tgt := 56) hx hb dX8_ofLot_37 (by decide) ?_
        refine W.widen (k := 1) (n := 12) (Nat.le_of_ble_eq_true rfl) (Nat.le_of_ble_eq_true rfl) ?_
        exact W.iret (v := (0 : Int32)) hx hb hr (fun t ht hW9 => ⟨⟨(0 : Int32), w_30_a, rfl, h, rpt ht hR⟩, hS.F ht⟩) hS.2.2 dX8_ofLot_56
abbrev rm_X8_land : Room := { frames := 4, cells := 2, slots := 21, locals := 93 }
def sp_X8_land (κ : Kx) (y : Ly) (post : Int32 → Wd → Prop) (w : Wd) (p1 : Int32) : Prop := sp_X8_isIn κ y (fun r_5 w_5 => ((¬ r_5 = 0) → (sp_X8_start κ y (fun r_17 w_17 => ((r_17 = 0) → (sp_X8_landNow κ y (fun r_29 w_29 => post (r_29) w_29) w_17 p1)) ∧ ((¬ (r_17 = 0)) → (post ((0 : Int32)) w_17))) w_5 (0 : Int32) (1 : Int32))) ∧ ((r_5 = 0) → (sp_X8_start κ y (fun r_17_a w_17_a => ((r_17_a = 0) → (sp_X8_landNow κ y (fun r_29_a w_29_a => post (r_29_a) w_29_a) w_17_a p1)) ∧ ((¬ (r_17_a = 0)) → (post ((0 : Int32)) w_17_a))) w_5 (1 : Int32) (1 : Int32)))) w p1 (0 : Int32) (16 : Int32)
theorem hd_X8_land : yX8_land.cls = RX8 ∧ yX8_land.cls ≠ "java/lang/invoke/MethodHandle" ∧ yX8_land.cls ≠ "java/lang/invoke/VarHandle" ∧ (parseMethodDescriptor yX8_land.desc).map (fun d => d.parameters.length) = some 1 := by decide +kernel
set_option maxHeartbeats 4000000 in
theorem m_X8_land {l : Launch} {κ : Kx} {y : Ly} {X : XR} {post : Int32 → Wd → Prop} {w : Wd} {p1 : Int32}  (hM : WFm κ y) (l0 : live y 20 0) (h : sp_X8_land κ y post w p1) : Met l yX8_land (ws_ yX8_land cX8_land 2 (Option.some Jvm.ClassFile.FieldType.int)) rm_X8_land (va_Pc [.ref (y.2 20 0), .int (p1)] (RC κ w y X)) (va_Qi post (fun w t => Rp κ w y X [] t.heap) (Af κ)) 2 21 (Af κ) := by
  unfold sp_X8_land at h
  refine Met.ofW (cc := cX8_land) (maxL := 2) (ret := (Option.some Jvm.ClassFile.FieldType.int)) (by decide) rfl ?_
  intro p e s m args below meth c s₁ B hml hv
  obtain ⟨rfl, hR, hK⟩ := hv
  have hx := B.exec
  have hb := B.bytes
  have hr := B.returns
  have hts := atoms_spec (ws := ws_ yX8_land cX8_land 2 (Option.some Jvm.ClassFile.FieldType.int)) B.pre
  have hts : ∀ w ∈ lw_all, w.before _ s = true := fun w h => hts w (List.mem_cons_of_mem _ h)
  have hown : s.vm.findClass RX8 = some m.cls := findClass_of_methodNamed B.named
  have hlocks := B.notSynchronized
  have hS : va_S (Af κ) s.heap s.heap [] := va_S.rf
  have hl := lv_entry ([.ref (y.2 20 0), .int (p1)]) (n := 2) (Nat.le_of_ble_eq_true rfl)
  rw [lg_entry_eq]
  generalize (lg_sl ([.ref (y.2 20 0), .int (p1)]) ++ List.replicate (2 - (lg_sl ([.ref (y.2 20 0), .int (p1)])).length) Slot.unset).toArray = ls at hl ⊢
  have hl : lv_has ls 2 [(0, .ref (y.2 20 0)), (1, .int (p1))] := hl
  refine lv_aload_n hx hb dX8_land_0 rfl (lv_at hl 0 rfl) ?_
  refine lv_iload_n hx hb dX8_land_1 rfl (lv_at hl 1 rfl) ?_
  refine lv_iconst (v := (0 : Int32)) hx hb dX8_land_2 (by decide) ?_
  refine lv_bipush (v := (16 : Int32)) hx hb dX8_land_3 (by decide) ?_
  refine ce_qi (fw := fun u => u) (fy := fun _ => y) (cr_S (n := 3) (As := [.int (p1), .int ((0 : Int32)), .int ((16 : Int32))]) (rest := [.ref (y.2 20 0)]) ⟨hx, hb, hml, hown, hts⟩ hK hR (m_X8_isIn hM h) q2020 q2021 q85 q2022 rfl rfl hds_X8_isIn ⟨Nat.le_of_ble_eq_true rfl, Nat.le_of_ble_eq_true rfl⟩ rfl rfl hl.1 rfl (lv_room (Nat.le_of_ble_eq_true rfl)) dX8_land_5 ⟨(Nat.le_of_ble_eq_true rfl), (Nat.le_of_ble_eq_true rfl)⟩) hR hS (fun r_5 w_5 H locs h hR _ hS => ?_)
  refine lv_if_ne (tgt := 15) hx hb dX8_land_8 (by decide) (fun c_8 => ?_) (fun c_8 => ?_)
  · have h := h.1 c_8
    refine lv_iconst (v := (0 : Int32)) hx hb dX8_land_15 (by decide) ?_
    refine lv_iconst (v := (1 : Int32)) hx hb dX8_land_16 (by decide) ?_
    refine ce_qi (fw := fun u => u) (fy := fun _ => y) (cr_V (n := 2) (As := [.int ((0 : Int32)), .int ((1 : Int32))]) (rest := []) ⟨hx, hb, hml, hown, hts⟩ hK hR (m_X8_start hM l0 h) q2023 q2025 qs37 q85 q2026 rfl rfl hd_X8_start ⟨Nat.le_of_ble_eq_true rfl, Nat.le_of_ble_eq_true rfl⟩ (rv hK hR l0 (ci := 11) rfl rfl) rfl rfl hl.1 rfl (lv_room (Nat.le_of_ble_eq_true rfl)) dX8_land_17 ⟨(Nat.le_of_ble_eq_true rfl), (Nat.le_of_ble_eq_true rfl)⟩) hR hS (fun r_17 w_17 H locs h hR _ hS => ?_)
    refine lv_if_eq (tgt := 27) hx hb dX8_land_20 (by decide) (fun c_20 => ?_) (fun c_20 => ?_)
    · have h := h.1 c_20
      refine lv_aload_n hx hb dX8_land_27 rfl (lv_at hl 0 rfl) ?_
      refine lv_iload_n hx hb dX8_land_28 rfl (lv_at hl 1 rfl) ?_
      refine ce_qi (fw := fun u => u) (fy := fun _ => y) (cr_V (n := 1) (As := [.int (p1)]) (rest := []) ⟨hx, hb, hml, hown, hts⟩ hK hR (m_X8_landNow hM l0 h) q2558 q2560 qs67 q85 q2561 rfl rfl hd_X8_landNow ⟨Nat.le_of_ble_eq_true rfl, Nat.le_of_ble_eq_true rfl⟩ (rv hK hR l0 (ci := 11) rfl rfl) rfl rfl hl.1 rfl (lv_room (Nat.le_of_ble_eq_true rfl)) dX8_land_29 ⟨(Nat.le_of_ble_eq_true rfl), (Nat.le_of_ble_eq_true rfl)⟩) hR hS (fun r_29 w_29 H locs h hR _ hS => ?_)
      refine W.widen (k := 2) (n := 21) (Nat.le_of_ble_eq_true rfl) (Nat.le_of_ble_eq_true rfl) ?_
      exact W.iret (v := r_29) hx hb hr (fun t ht hW9 => ⟨⟨r_29, w_29, rfl, h, rpt ht hR⟩, hS.F ht⟩) hS.2.2 dX8_land_32
    · have h := h.2 c_20
      refine lv_iconst (v := (0 : Int32)) hx hb dX8_land_23 (by decide) ?_
      refine lv_goto (tgt := 32) hx hb dX8_land_24 (by decide) ?_
      refine W.widen (k := 2) (n := 21) (Nat.le_of_ble_eq_true rfl) (Nat.le_of_ble_eq_true rfl) ?_
      exact W.iret (v := (0 : Int32)) hx hb hr (fun t ht hW9 => ⟨⟨(0 : Int32), w_17, rfl, h, rpt ht hR⟩, hS.F ht⟩) hS.2.2 dX8_land_32
  · have h := h.2 c_8
    refine lv_iconst (v := (1 : Int32)) hx hb dX8_land_11 (by decide) ?_
    refine lv_goto (tgt := 16) hx hb dX8_land_12 (by decide) ?_
    refine lv_iconst (v := (1 : Int32)) hx hb dX8_land_16 (by decide) ?_
    refine ce_qi (fw := fun u => u) (fy := fun _ => y) (cr_V (n := 2) (As := [.int ((1 : Int32)), .int ((1 : Int32))]) (rest := []) ⟨hx, hb, hml, hown, hts⟩ hK hR (m_X8_start hM l0 h) q2023 q2025 qs37 q85 q2026 rfl rfl hd_X8_start ⟨Nat.le_of_ble_eq_true rfl, Nat.le_of_ble_eq_true rfl⟩ (rv hK hR l0 (ci := 11) rfl rfl) rfl rfl hl.1 rfl (lv_room (Nat.le_of_ble_eq_true rfl)) dX8_land_17 ⟨(Nat.le_of_ble_eq_true rfl), (Nat.le_of_ble_eq_true rfl)⟩) hR hS (fun r_17_a w_17_a H locs h hR _ hS => ?_)
    refine lv_if_eq (tgt := 27) hx hb dX8_land_20 (by decide) (fun c_20_a => ?_) (fun c_20_a => ?_)
    · have h := h.1 c_20_a
      refine lv_aload_n hx hb dX8_land_27 rfl (lv_at hl 0 rfl) ?_
      refine lv_iload_n hx hb dX8_land_28 rfl (lv_at hl 1 rfl) ?_
      refine ce_qi (fw := fun u => u) (fy := fun _ => y) (cr_V (n := 1) (As := [.int (p1)]) (rest := []) ⟨hx, hb, hml, hown, hts⟩ hK hR (m_X8_landNow hM l0 h) q2558 q2560 qs67 q85 q2561 rfl rfl hd_X8_landNow ⟨Nat.le_of_ble_eq_true rfl, Nat.le_of_ble_eq_true rfl⟩ (rv hK hR l0 (ci := 11) rfl rfl) rfl rfl hl.1 rfl (lv_room (Nat.le_of_ble_eq_true rfl)) dX8_land_29 ⟨(Nat.le_of_ble_eq_true rfl), (Nat.le_of_ble_eq_true rfl)⟩) hR hS (fun r_29_a w_29_a H locs h hR _ hS => ?_)
      refine W.widen (k := 2) (n := 21) (Nat.le_of_ble_eq_true rfl) (Nat.le_of_ble_eq_true rfl) ?_
      exact W.iret (v := r_29_a) hx hb hr (fun t ht hW9 => ⟨⟨r_29_a, w_29_a, rfl, h, rpt ht hR⟩, hS.F ht⟩) hS.2.2 dX8_land_32
    · have h := h.2 c_20_a
      refine lv_iconst (v := (0 : Int32)) hx hb dX8_land_23 (by decide) ?_
      refine lv_goto (tgt := 32) hx hb dX8_land_24 (by decide) ?_
      refine W.widen (k := 2) (n := 21) (Nat.le_of_ble_eq_true rfl) (Nat.le_of_ble_eq_true rfl) ?_
      exact W.iret (v := (0 : Int32)) hx hb hr (fun t ht hW9 => ⟨⟨(0 : Int32), w_17_a, rfl, h, rpt ht hR⟩, hS.F ht⟩) hS.2.2 dX8_land_32
abbrev rm_X8_gain : Room := { frames := 4, cells := 0, slots := 0, locals := 115 }
def sp_X8_gain (κ : Kx) (y : Ly) (post : UInt64 → Wd → Prop) (w : Wd) (p1 : Int32) : Prop := sp_X8_isNoCompany κ y (fun r_3 w_3 => sp_X8_start κ y (fun r_7 w_7 => ((r_7 = 0) → (sp_X8_gainNow κ y (fun r_19 w_19 => post (r_19) w_19) w_7 p1)) ∧ ((¬ (r_7 = 0)) → (post (FP.dconst0) w_7))) w_3 r_3 (1 : Int32)) w p1
theorem hd_X8_gain : yX8_gain.cls = RX8 ∧ yX8_gain.cls ≠ "java/lang/invoke/MethodHandle" ∧ yX8_gain.cls ≠ "java/lang/invoke/VarHandle" ∧ (parseMethodDescriptor yX8_gain.desc).map (fun d => d.parameters.length) = some 1 := by decide +kernel
set_option maxHeartbeats 4000000 in
theorem m_X8_gain {l : Launch} {κ : Kx} {y : Ly} {X : XR} {post : UInt64 → Wd → Prop} {w : Wd} {p1 : Int32}  (hM : WFm κ y) (l0 : live y 20 0) (h : sp_X8_gain κ y post w p1) : Met l yX8_gain (ws_ yX8_gain cX8_gain 2 (Option.some Jvm.ClassFile.FieldType.double)) rm_X8_gain (va_Pc [.ref (y.2 20 0), .int (p1)] (RC κ w y X)) (va_Qd post (fun w t => Rp κ w y X [] t.heap) (Af κ)) 0 0 (Af κ) := by
  unfold sp_X8_gain at h
  refine Met.ofW (cc := cX8_gain) (maxL := 2) (ret := (Option.some Jvm.ClassFile.FieldType.double)) (by decide) rfl ?_
  intro p e s m args below meth c s₁ B hml hv
  obtain ⟨rfl, hR, hK⟩ := hv
  have hx := B.exec
  have hb := B.bytes
  have hr := B.returns
  have hts := atoms_spec (ws := ws_ yX8_gain cX8_gain 2 (Option.some Jvm.ClassFile.FieldType.double)) B.pre
  have hts : ∀ w ∈ lw_all, w.before _ s = true := fun w h => hts w (List.mem_cons_of_mem _ h)
  have hown : s.vm.findClass RX8 = some m.cls := findClass_of_methodNamed B.named
  have hlocks := B.notSynchronized
  have hS : va_S (Af κ) s.heap s.heap [] := va_S.rf
  have hl := lv_entry ([.ref (y.2 20 0), .int (p1)]) (n := 2) (Nat.le_of_ble_eq_true rfl)
  rw [lg_entry_eq]
  generalize (lg_sl ([.ref (y.2 20 0), .int (p1)]) ++ List.replicate (2 - (lg_sl ([.ref (y.2 20 0), .int (p1)])).length) Slot.unset).toArray = ls at hl ⊢
  have hl : lv_has ls 2 [(0, .ref (y.2 20 0)), (1, .int (p1))] := hl
  refine lv_aload_n hx hb dX8_gain_0 rfl (lv_at hl 0 rfl) ?_
  refine lv_aload_n hx hb dX8_gain_1 rfl (lv_at hl 0 rfl) ?_
  refine lv_iload_n hx hb dX8_gain_2 rfl (lv_at hl 1 rfl) ?_
  refine ce_qi (fw := fun u => u) (fy := fun _ => y) (cr_V (n := 1) (As := [.int (p1)]) (rest := [.ref (y.2 20 0)]) ⟨hx, hb, hml, hown, hts⟩ hK hR (m_X8_isNoCompany hM l0 h) q2189 q2191 qs42 q85 q2192 rfl rfl hd_X8_isNoCompany ⟨Nat.le_of_ble_eq_true rfl, Nat.le_of_ble_eq_true rfl⟩ (rv hK hR l0 (ci := 11) rfl rfl) rfl rfl hl.1 rfl (lv_room (Nat.le_of_ble_eq_true rfl)) dX8_gain_3 ⟨(Nat.le_of_ble_eq_true rfl), (Nat.le_of_ble_eq_true rfl)⟩) hR hS (fun r_3 w_3 H locs h hR _ hS => ?_)
  refine lv_iconst (v := (1 : Int32)) hx hb dX8_gain_6 (by decide) ?_
  refine ce_qi (fw := fun u => u) (fy := fun _ => y) (cr_V (n := 2) (As := [.int (r_3), .int ((1 : Int32))]) (rest := []) ⟨hx, hb, hml, hown, hts⟩ hK hR (m_X8_start hM l0 h) q2023 q2025 qs37 q85 q2026 rfl rfl hd_X8_start ⟨Nat.le_of_ble_eq_true rfl, Nat.le_of_ble_eq_true rfl⟩ (rv hK hR l0 (ci := 11) rfl rfl) rfl rfl hl.1 rfl (lv_room (Nat.le_of_ble_eq_true rfl)) dX8_gain_7 ⟨(Nat.le_of_ble_eq_true rfl), (Nat.le_of_ble_eq_true rfl)⟩) hR hS (fun r_7 w_7 H locs h hR _ hS => ?_)
  refine lv_if_eq (tgt := 17) hx hb dX8_gain_10 (by decide) (fun c_10 => ?_) (fun c_10 => ?_)
  · have h := h.1 c_10
    refine lv_aload_n hx hb dX8_gain_17 rfl (lv_at hl 0 rfl) ?_
    refine lv_iload_n hx hb dX8_gain_18 rfl (lv_at hl 1 rfl) ?_
    refine ce_qd (fw := fun u => u) (fy := fun _ => y) (cr_V (n := 1) (As := [.int (p1)]) (rest := []) ⟨hx, hb, hml, hown, hts⟩ hK hR (m_X8_gainNow hM l0 h) q2581 q2583 qs68 q85 q2584 rfl rfl hd_X8_gainNow ⟨Nat.le_of_ble_eq_true rfl, Nat.le_of_ble_eq_true rfl⟩ (rv hK hR l0 (ci := 11) rfl rfl) rfl rfl hl.1 rfl (lv_room (Nat.le_of_ble_eq_true rfl)) dX8_gain_19 ⟨(Nat.le_of_ble_eq_true rfl), (Nat.le_of_ble_eq_true rfl)⟩) hR hS (fun r_19 w_19 H locs h hR _ hS => ?_)
    refine W.widen (k := 0) (n := 0) (Nat.le_of_ble_eq_true rfl) (Nat.le_of_ble_eq_true rfl) ?_
    exact W.dret (v := r_19) hx hb hr (fun t ht hW9 => ⟨⟨r_19, w_19, rfl, h, rpt ht hR⟩, hS.F ht⟩) hS.2.2 dX8_gain_22
  · have h := h.2 c_10
    refine lv_dconst0 hx hb dX8_gain_13 ?_
    refine lv_goto (tgt := 22) hx hb dX8_gain_14 (by decide) ?_
    refine W.widen (k := 0) (n := 0) (Nat.le_of_ble_eq_true rfl) (Nat.le_of_ble_eq_true rfl) ?_
    exact W.dret (v := FP.dconst0) hx hb hr (fun t ht hW9 => ⟨⟨FP.dconst0, w_7, rfl, h, rpt ht hR⟩, hS.F ht⟩) hS.2.2 dX8_gain_22
abbrev rm_X8_wouldBringNow : Room := { frames := 4, cells := 0, slots := 0, locals := 117 }
def st_X8_wouldBringNow_5 (κ : Kx) (y : Ly) (post : Int32 → Wd → Prop) (ex : Wd → (Int32) → Prop) (rec : Wd → Int32 → Int32 → Prop) (i1 : Nat) (v2 : Int32) (w : Wd) (v3 : Int32) (v4 : Int32) : Prop := ((nI (mV y) ≤ v4) → (ex w v3)) ∧ ((¬ (nI (mV y) ≤ v4)) → ((vp_in (v4) (mV y)) ∧ (sp_X8_has κ y (fun r_37 w_37 => ((r_37 = 0) → (∀ x_140 : Int32, x_140 = v4 + (1 : Int32) → rec w_37 v3 x_140)) ∧ ((¬ (r_37 = 0)) → (((gv w_37 21 (((v4).toNatClampNeg)) 10 = 0) → (sp_X8_dueNow κ y (fun r_62 w_62 => ∀ x_77 : Int32, x_77 = r_62 + ((r_62 * v2) / (8 : Int32)) → sp_X8_hidden κ y (fun r_89 w_89 => ∀ x_93 : Int32, x_93 = x_77 - r_89 → ((¬ gv w_89 27 i1 0 = 0) → (((v2 ≤ (1 : Int32)) → (∀ x_139 : Int32, x_139 = v3 + (jmin x_93 (gv w_89 21 (((v4).toNatClampNeg)) 5)) → ∀ x_140_a : Int32, x_140_a = v4 + (1 : Int32) → rec w_89 x_139 x_140_a)) ∧ ((¬ (v2 ≤ (1 : Int32))) → (∀ x_139_a : Int32, x_139_a = v3 + x_93 → ∀ x_140_b : Int32, x_140_b = v4 + (1 : Int32) → rec w_89 x_139_a x_140_b)))) ∧ ((gv w_89 27 i1 0 = 0) → (∀ x_139_b : Int32, x_139_b = v3 + ((2 : Int32) * (jmin x_93 (gv w_89 21 (((v4).toNatClampNeg)) 4))) → ∀ x_140_c : Int32, x_140_c = v4 + (1 : Int32) → rec w_89 x_139_b x_140_c))) w_62 x_77 (gv w_62 21 (((v4).toNatClampNeg)) 7) v2) w_37 v4 (gv w_37 27 i1 0) (0 : Int32))) ∧ ((¬ (gv w_37 21 (((v4).toNatClampNeg)) 10 = 0)) → (∀ x_140_d : Int32, x_140_d = v4 + (1 : Int32) → rec w_37 v3 x_140_d))))) w (gv w 27 i1 1) v4)))
def sp_X8_wouldBringNow_5 (κ : Kx) (y : Ly) (post : Int32 → Wd → Prop) (ex : Wd → (Int32) → Prop) (i1 : Nat) (v2 : Int32) : Nat → Wd → Int32 → Int32 → Prop
  | 0 => fun _ _ _ => False
  | n + 1 => fun w v3 v4 => st_X8_wouldBringNow_5 κ y post ex (sp_X8_wouldBringNow_5 κ y post ex i1 v2 n) i1 v2 w v3 v4
set_option maxHeartbeats 4000000 in
theorem lp_X8_wouldBringNow_5 {p : Program} {l : Launch} {e : Env} {s : State} {m : MethodId} {args : Array Value} {below : List Frame} {meth : Method} {c : Code} {κ : Kx} {y : Ly} {X : XR} {post : Int32 → Wd → Prop} {i1 : Nat} {v2 : Int32} (hx : p.tables.exec = Jvm.exec) (hb : c.code = cX8_wouldBringNow) (hr : meth.sig.returnType = (Option.some Jvm.ClassFile.FieldType.int)) (hml : c.maxLocals = 9) (hown : s.vm.findClass RX8 = some m.cls) (hts : ∀ w ∈ lw_all, w.before args s = true) (hlocks : meth.locks = false) (hK : KK κ s) (hM : WFm κ y) (l0 : live y 20 0) (l1 : live y 27 i1) {C1 S1 : Nat} (hC : C1 ≤ 0) (hSl : S1 ≤ 0) {ex : Wd → (Int32) → Prop}
    (kx : ∀ (w : Wd) (v3 : Int32) (H : Heap) (locs : List Loc) (ls : Array Slot) (cells slots : Nat) , ex w v3 → Rp κ w y X [] H → va_S (Af κ) s.heap H locs → lv_has ls 9 [(3, .int (v3))] → cells ≤ C1 → slots ≤ S1 → W p l e (headSpec (ws_ yX8_wouldBringNow cX8_wouldBringNow 9 (Option.some Jvm.ClassFile.FieldType.int)) rm_X8_wouldBringNow).room s m args below meth c H locs cells slots (MQ below (va_Qi post (fun w t => Rp κ w y X [] t.heap) (Af κ)) args s 0 0 (Af κ)) (F0 m 146 ls [])) :
    ∀ (f : Nat) (w : Wd) (v3 : Int32) (v4 : Int32) (H : Heap) (locs : List Loc) (ls : Array Slot) (cells slots : Nat)  , sp_X8_wouldBringNow_5 κ y post ex i1 v2 f w v3 v4 → Rp κ w y X [] H → va_S (Af κ) s.heap H locs → lv_has ls 9 [(0, .ref (y.2 20 0)), (1, .ref (y.2 27 i1)), (2, .int (v2)), (3, .int (v3)), (4, .int (v4))] → cells + f * 0 ≤ C1 → slots + f * 0 ≤ S1 → W p l e (headSpec (ws_ yX8_wouldBringNow cX8_wouldBringNow 9 (Option.some Jvm.ClassFile.FieldType.int)) rm_X8_wouldBringNow).room s m args below meth c H locs cells slots (MQ below (va_Qi post (fun w t => Rp κ w y X [] t.heap) (Af κ)) args s 0 0 (Af κ)) (F0 m 5 ls []) := by
  intro f
  induction f with
  | zero =>
    intro w v3 v4 H locs ls cells slots  h
    exact False.elim h
  | succ f ih =>
    intro w v3 v4 H locs ls cells slots  h hR hS hl hc hs
    have h : st_X8_wouldBringNow_5 κ y post ex (sp_X8_wouldBringNow_5 κ y post ex i1 v2 f) i1 v2 w v3 v4 := h
    unfold st_X8_wouldBringNow_5 at h
    refine lv_iload hx hb dX8_wouldBringNow_5 (lv_at hl 4 rfl) ?_
    refine lv_aload_n hx hb dX8_wouldBringNow_7 rfl (lv_at hl 0 rfl) ?_
    refine g20_3 hx hb hts hown hK hR l0 q1948 dX8_wouldBringNow_8 ?_
    refine jr_size ⟨hx, hb, hml, hown, hts⟩ hK hR ⟨fun _ _ _ _ _ => rfl, fun _ _ _ _ _ => rfl⟩ hM.lsV q2031 ⟨Nat.le_of_ble_eq_true rfl, Nat.le_of_ble_eq_true rfl⟩ hl.1 (Nat.le_of_ble_eq_true rfl) dX8_wouldBringNow_11 ⟨(Nat.le_trans (show cells + 0 ≤ C1 from by omega) hC), (Nat.le_trans (show slots + 0 ≤ S1 from by omega) hSl)⟩ ?_
    refine lv_icmp_ge (tgt := 146) hx hb dX8_wouldBringNow_14 (by decide) (fun c_14 => ?_) (fun c_14 => ?_)
    · have h := h.1 c_14
      exact kx w v3 _ _ _ _ _ h hR hS (lv_sub hl [3] rfl) (by omega) (by omega)
    · have h := h.2 c_14
      refine lv_aload_n hx hb dX8_wouldBringNow_17 rfl (lv_at hl 0 rfl) ?_
      refine g20_3 hx hb hts hown hK hR l0 q1948 dX8_wouldBringNow_18 ?_
      refine lv_iload hx hb dX8_wouldBringNow_21 (lv_at hl 4 rfl) ?_
      have o_23 := h.1
      have h := h.2
      refine jr_get (a := y.2 21 ((v4).toNatClampNeg)) ⟨hx, hb, hml, hown, hts⟩ hK hR ⟨fun _ _ _ _ _ => rfl, fun _ _ _ _ _ => rfl⟩ hM.lsV ⟨hM.arV (Nat.lt_of_le_of_lt (Nat.zero_le _) (vp_lt o_23)), (Nat.le_trans hM.mV8 (by decide))⟩ o_23 (hM.elV (vp_lt o_23)) q2101 ⟨Nat.le_of_ble_eq_true rfl, Nat.le_of_ble_eq_true rfl⟩ hl.1 (Nat.le_of_ble_eq_true rfl) dX8_wouldBringNow_23 ⟨(Nat.le_trans (show cells + 0 ≤ C1 from by omega) hC), (Nat.le_trans (show slots + 0 ≤ S1 from by omega) hSl)⟩ ?_
      refine jr_castS (ci := 12) hx hb hown hK hts (hR.role (hM.vil (vp_lt o_23))) rfl q2032 dX8_wouldBringNow_26 ?_
      refine lv_astore (lv' := [(5, .ref (y.2 21 ((v4).toNatClampNeg))), (0, .ref (y.2 20 0)), (1, .ref (y.2 27 i1)), (2, .int (v2)), (3, .int (v3)), (4, .int (v4))]) hx hb dX8_wouldBringNow_29 hl (by decide) rfl (fun ls hl => ?_)
      refine lv_aload_n hx hb dX8_wouldBringNow_31 rfl (lv_at hl 2 rfl) ?_
      refine g27_1 hx hb hts hown hK hR l1 q2260 dX8_wouldBringNow_32 ?_
      refine lv_iload hx hb dX8_wouldBringNow_35 (lv_at hl 5 rfl) ?_
      refine ce_qi (fw := fun u => u) (fy := fun _ => y) (cr_S (n := 2) (As := [.int (gv w 27 i1 1), .int (v4)]) (rest := []) ⟨hx, hb, hml, hown, hts⟩ hK hR (m_X8_has hM h) q2102 q2103 q85 q2104 rfl rfl hds_X8_has ⟨Nat.le_of_ble_eq_true rfl, Nat.le_of_ble_eq_true rfl⟩ rfl rfl hl.1 rfl (lv_room (Nat.le_of_ble_eq_true rfl)) dX8_wouldBringNow_37 ⟨(Nat.le_trans (show cells + 0 ≤ C1 from by omega) hC), (Nat.le_trans (show slots + 0 ≤ S1 from by omega) hSl)⟩) hR hS (fun r_37 w_37 H locs h hR _ hS => ?_)
      refine lv_if_eq (tgt := 140) hx hb dX8_wouldBringNow_40 (by decide) (fun c_40 => ?_) (fun c_40 => ?_)
      · have h := h.1 c_40
        obtain ⟨x_140, ex_140⟩ : ∃ z : Int32, z = v4 + (1 : Int32) := ⟨_, rfl⟩
        have h := h x_140 ex_140
        refine lv_iinc (v := x_140) (lv' := [(4, .int (x_140)), (5, .ref (y.2 21 ((v4).toNatClampNeg))), (0, .ref (y.2 20 0)), (1, .ref (y.2 27 i1)), (2, .int (v2)), (3, .int (v3))]) hx hb dX8_wouldBringNow_140 hl (k := 5) rfl (by rw [ex_140]; rfl) (by decide) rfl (fun ls hl => ?_)
        refine lv_goto (tgt := 5) hx hb dX8_wouldBringNow_143 (by decide) ?_
        exact ih w_37 v3 x_140 _ _ _ _ _  h hR hS (lv_sub hl [2, 3, 4, 5, 0] rfl) (by omega) (by omega)
      · have h := h.2 c_40
        refine lv_aload hx hb dX8_wouldBringNow_43 (lv_at hl 0 rfl) ?_
        refine g21_10 hx hb hts hown hK hR (hM.vil (vp_lt o_23)) q2051 dX8_wouldBringNow_45 ?_
        refine lv_if_eq (tgt := 54) hx hb dX8_wouldBringNow_48 (by decide) (fun c_48 => ?_) (fun c_48 => ?_)
        · have h := h.1 c_48
          refine lv_aload_n hx hb dX8_wouldBringNow_54 rfl (lv_at hl 1 rfl) ?_
          refine lv_iload hx hb dX8_wouldBringNow_55 (lv_at hl 5 rfl) ?_
          refine lv_aload_n hx hb dX8_wouldBringNow_57 rfl (lv_at hl 2 rfl) ?_
          refine g27_0 hx hb hts hown hK hR l1 q2259 dX8_wouldBringNow_58 ?_
          refine lv_iconst (v := (0 : Int32)) hx hb dX8_wouldBringNow_61 (by decide) ?_
          refine ce_qi (fw := fun u => u) (fy := fun _ => y) (cr_V (n := 3) (As := [.int (v4), .int (gv w_37 27 i1 0), .int ((0 : Int32))]) (rest := []) ⟨hx, hb, hml, hown, hts⟩ hK hR (m_X8_dueNow hM l0 h) q2472 q2474 qs56 q85 q2475 rfl rfl hd_X8_dueNow ⟨Nat.le_of_ble_eq_true rfl, Nat.le_of_ble_eq_true rfl⟩ (rv hK hR l0 (ci := 11) rfl rfl) rfl rfl hl.1 rfl (lv_room (Nat.le_of_ble_eq_true rfl)) dX8_wouldBringNow_62 ⟨(Nat.le_trans (show cells + 0 ≤ C1 from by omega) hC), (Nat.le_trans (show slots + 0 ≤ S1 from by omega) hSl)⟩) hR hS (fun r_62 w_62 H locs h hR _ hS => ?_)
          refine lv_istore (lv' := [(6, .int (r_62)), (5, .ref (y.2 21 ((v4).toNatClampNeg))), (0, .ref (y.2 20 0)), (1, .ref (y.2 27 i1)), (2, .int (v2)), (3, .int (v3)), (4, .int (v4))]) hx hb dX8_wouldBringNow_65 hl (by decide) rfl (fun ls hl => ?_)
          refine lv_iload hx hb dX8_wouldBringNow_67 (lv_at hl 0 rfl) ?_
          refine lv_iload hx hb dX8_wouldBringNow_69 (lv_at hl 0 rfl) ?_
          refine lv_iload_n hx hb dX8_wouldBringNow_71 rfl (lv_at hl 4 rfl) ?_
          refine lv_imul hx hb dX8_wouldBringNow_72 ?_
          refine lv_bipush (v := (8 : Int32)) hx hb dX8_wouldBringNow_73 (by decide) ?_
          refine lv_idiv hx hb dX8_wouldBringNow_75 (by decide) ?_
          refine lv_iadd hx hb dX8_wouldBringNow_76 ?_
          refine lv_topi (fun x_77 ex_77 => ?_)
          have h := h x_77 ex_77
          refine lv_istore (lv' := [(7, .int (x_77)), (6, .int (r_62)), (5, .ref (y.2 21 ((v4).toNatClampNeg))), (0, .ref (y.2 20 0)), (1, .ref (y.2 27 i1)), (2, .int (v2)), (3, .int (v3)), (4, .int (v4))]) hx hb dX8_wouldBringNow_77 hl (by decide) rfl (fun ls hl => ?_)
          refine lv_iload hx hb dX8_wouldBringNow_79 (lv_at hl 0 rfl) ?_
          refine lv_iload hx hb dX8_wouldBringNow_81 (lv_at hl 0 rfl) ?_
          refine lv_aload hx hb dX8_wouldBringNow_83 (lv_at hl 2 rfl) ?_
          refine g21_7 hx hb hts hown hK hR (hM.vil (vp_lt o_23)) q2048 dX8_wouldBringNow_85 ?_
          refine lv_iload_n hx hb dX8_wouldBringNow_88 rfl (lv_at hl 5 rfl) ?_
          refine ce_qi (fw := fun u => u) (fy := fun _ => y) (cr_S (n := 3) (As := [.int (x_77), .int (gv w_62 21 (((v4).toNatClampNeg)) 7), .int (v2)]) (rest := [.int (x_77)]) ⟨hx, hb, hml, hown, hts⟩ hK hR (m_X8_hidden hM h) q2479 q2480 q85 q2481 rfl rfl hds_X8_hidden ⟨Nat.le_of_ble_eq_true rfl, Nat.le_of_ble_eq_true rfl⟩ rfl rfl hl.1 rfl (lv_room (Nat.le_of_ble_eq_true rfl)) dX8_wouldBringNow_89 ⟨(Nat.le_trans (show cells + 0 ≤ C1 from by omega) hC), (Nat.le_trans (show slots + 0 ≤ S1 from by omega) hSl)⟩) hR hS (fun r_89 w_89 H locs h hR _ hS => ?_)
          refine lv_isub hx hb dX8_wouldBringNow_92 ?_
          refine lv_topi (fun x_93 ex_93 => ?_)
          have h := h x_93 ex_93
          refine lv_istore (lv' := [(8, .int (x_93)), (7, .int (x_77)), (6, .int (r_62)), (5, .ref (y.2 21 ((v4).toNatClampNeg))), (0, .ref (y.2 20 0)), (1, .ref (y.2 27 i1)), (2, .int (v2)), (3, .int (v3)), (4, .int (v4))]) hx hb dX8_wouldBringNow_93 hl (by decide) rfl (fun ls hl => ?_)
          refine lv_iload_n hx hb dX8_wouldBringNow_95 rfl (lv_at hl 7 rfl) ?_
          refine lv_aload_n hx hb dX8_wouldBringNow_96 rfl (lv_at hl 5 rfl) ?_
          refine g27_0 hx hb hts hown hK hR l1 q2259 dX8_wouldBringNow_97 ?_
          refine lv_if_ne (tgt := 118) hx hb dX8_wouldBringNow_100 (by decide) (fun c_100 => ?_) (fun c_100 => ?_)
          · have h := h.1 c_100
            refine lv_iload_n hx hb dX8_wouldBringNow_118 rfl (lv_at hl 6 rfl) ?_
            refine lv_iconst (v := (1 : Int32)) hx hb dX8_wouldBringNow_119 (by decide) ?_
            refine lv_icmp_le (tgt := 128) hx hb dX8_wouldBringNow_120 (by decide) (fun c_120 => ?_) (fun c_120 => ?_)
            · have h := h.1 c_120
              refine lv_iload hx hb dX8_wouldBringNow_128 (lv_at hl 0 rfl) ?_
              refine lv_aload hx hb dX8_wouldBringNow_130 (lv_at hl 3 rfl) ?_
              refine g21_5 hx hb hts hown hK hR (hM.vil (vp_lt o_23)) q2045 dX8_wouldBringNow_132 ?_
              refine va_mmin hx hb (hml.trans hl.1.symm) hown (hts _ q2113) (hts _ q322) (hts _ q95) (hts _ q323) (Nat.le_of_ble_eq_true rfl) (Nat.le_of_ble_eq_true rfl) (Nat.le_trans (show cells + 0 ≤ C1 from by omega) hC) (Nat.le_trans (show slots + 0 ≤ S1 from by omega) hSl) dX8_wouldBringNow_135 ?_
              refine lv_iadd hx hb dX8_wouldBringNow_138 ?_
              refine lv_topi (fun x_139 ex_139 => ?_)
              have h := h x_139 ex_139
              refine lv_istore_n (lv' := [(3, .int (x_139)), (8, .int (x_93)), (7, .int (x_77)), (6, .int (r_62)), (5, .ref (y.2 21 ((v4).toNatClampNeg))), (0, .ref (y.2 20 0)), (1, .ref (y.2 27 i1)), (2, .int (v2)), (4, .int (v4))]) hx hb dX8_wouldBringNow_139 rfl hl (by decide) rfl (fun ls hl => ?_)
              obtain ⟨x_140_a, ex_140_a⟩ : ∃ z : Int32, z = v4 + (1 : Int32) := ⟨_, rfl⟩
              have h := h x_140_a ex_140_a
              refine lv_iinc (v := x_140_a) (lv' := [(4, .int (x_140_a)), (3, .int (x_139)), (8, .int (x_93)), (7, .int (x_77)), (6, .int (r_62)), (5, .ref (y.2 21 ((v4).toNatClampNeg))), (0, .ref (y.2 20 0)), (1, .ref (y.2 27 i1)), (2, .int (v2))]) hx hb dX8_wouldBringNow_140 hl (k := 8) rfl (by rw [ex_140_a]; rfl) (by decide) rfl (fun ls hl => ?_)
              refine lv_goto (tgt := 5) hx hb dX8_wouldBringNow_143 (by decide) ?_
              exact ih w_89 x_139 x_140_a _ _ _ _ _  h hR hS (lv_sub hl [6, 7, 8, 1, 0] rfl) (by omega) (by omega)
            · have h := h.2 c_120
              refine lv_iload hx hb dX8_wouldBringNow_123 (lv_at hl 0 rfl) ?_
              refine lv_goto (tgt := 138) hx hb dX8_wouldBringNow_125 (by decide) ?_
              refine lv_iadd hx hb dX8_wouldBringNow_138 ?_
              refine lv_topi (fun x_139_a ex_139_a => ?_)
              have h := h x_139_a ex_139_a
              refine lv_istore_n (lv' := [(3, .int (x_139_a)), (8, .int (x_93)), (7, .int (x_77)), (6, .int (r_62)), (5, .ref (y.2 21 ((v4).toNatClampNeg))), (0, .ref (y.2 20 0)), (1, .ref (y.2 27 i1)), (2, .int (v2)), (4, .int (v4))]) hx hb dX8_wouldBringNow_139 rfl hl (by decide) rfl (fun ls hl => ?_)
              obtain ⟨x_140_b, ex_140_b⟩ : ∃ z : Int32, z = v4 + (1 : Int32) := ⟨_, rfl⟩
              have h := h x_140_b ex_140_b
              refine lv_iinc (v := x_140_b) (lv' := [(4, .int (x_140_b)), (3, .int (x_139_a)), (8, .int (x_93)), (7, .int (x_77)), (6, .int (r_62)), (5, .ref (y.2 21 ((v4).toNatClampNeg))), (0, .ref (y.2 20 0)), (1, .ref (y.2 27 i1)), (2, .int (v2))]) hx hb dX8_wouldBringNow_140 hl (k := 8) rfl (by rw [ex_140_b]; rfl) (by decide) rfl (fun ls hl => ?_)
              refine lv_goto (tgt := 5) hx hb dX8_wouldBringNow_143 (by decide) ?_
              exact ih w_89 x_139_a x_140_b _ _ _ _ _  h hR hS (lv_sub hl [6, 7, 8, 1, 0] rfl) (by omega) (by omega)
          · have h := h.2 c_100
            refine lv_iconst (v := (2 : Int32)) hx hb dX8_wouldBringNow_103 (by decide) ?_
            refine lv_iload hx hb dX8_wouldBringNow_104 (lv_at hl 0 rfl) ?_
            refine lv_aload hx hb dX8_wouldBringNow_106 (lv_at hl 3 rfl) ?_
            refine g21_4 hx hb hts hown hK hR (hM.vil (vp_lt o_23)) q2044 dX8_wouldBringNow_108 ?_
            refine va_mmin hx hb (hml.trans hl.1.symm) hown (hts _ q2113) (hts _ q322) (hts _ q95) (hts _ q323) (Nat.le_of_ble_eq_true rfl) (Nat.le_of_ble_eq_true rfl) (Nat.le_trans (show cells + 0 ≤ C1 from by omega) hC) (Nat.le_trans (show slots + 0 ≤ S1 from by omega) hSl) dX8_wouldBringNow_111 ?_
            refine lv_imul hx hb dX8_wouldBringNow_114 ?_
            refine lv_goto (tgt := 138) hx hb dX8_wouldBringNow_115 (by decide) ?_
            refine lv_iadd hx hb dX8_wouldBringNow_138 ?_
            refine lv_topi (fun x_139_b ex_139_b => ?_)
            have h := h x_139_b ex_139_b
            refine lv_istore_n (lv' := [(3, .int (x_139_b)), (8, .int (x_93)), (7, .int (x_77)), (6, .int (r_62)), (5, .ref (y.2 21 ((v4).toNatClampNeg))), (0, .ref (y.2 20 0)), (1, .ref (y.2 27 i1)), (2, .int (v2)), (4, .int (v4))]) hx hb dX8_wouldBringNow_139 rfl hl (by decide) rfl (fun ls hl => ?_)
            obtain ⟨x_140_c, ex_140_c⟩ : ∃ z : Int32, z = v4 + (1 : Int32) := ⟨_, rfl⟩
            have h := h x_140_c ex_140_c
            refine lv_iinc (v := x_140_c) (lv' := [(4, .int (x_140_c)), (3, .int (x_139_b)), (8, .int (x_93)), (7, .int (x_77)), (6, .int (r_62)), (5, .ref (y.2 21 ((v4).toNatClampNeg))), (0, .ref (y.2 20 0)), (1, .ref (y.2 27 i1)), (2, .int (v2))]) hx hb dX8_wouldBringNow_140 hl (k := 8) rfl (by rw [ex_140_c]; rfl) (by decide) rfl (fun ls hl => ?_)
            refine lv_goto (tgt := 5) hx hb dX8_wouldBringNow_143 (by decide) ?_
            exact ih w_89 x_139_b x_140_c _ _ _ _ _  h hR hS (lv_sub hl [6, 7, 8, 1, 0] rfl) (by omega) (by omega)
        · have h := h.2 c_48
          refine lv_goto (tgt := 140) hx hb dX8_wouldBringNow_51 (by decide) ?_
          obtain ⟨x_140_d, ex_140_d⟩ : ∃ z : Int32, z = v4 + (1 : Int32) := ⟨_, rfl⟩
          have h := h x_140_d ex_140_d
          refine lv_iinc (v := x_140_d) (lv' := [(4, .int (x_140_d)), (5, .ref (y.2 21 ((v4).toNatClampNeg))), (0, .ref (y.2 20 0)), (1, .ref (y.2 27 i1)), (2, .int (v2)), (3, .int (v3))]) hx hb dX8_wouldBringNow_140 hl (k := 5) rfl (by rw [ex_140_d]; rfl) (by decide) rfl (fun ls hl => ?_)
          refine lv_goto (tgt := 5) hx hb dX8_wouldBringNow_143 (by decide) ?_
          exact ih w_37 v3 x_140_d _ _ _ _ _  h hR hS (lv_sub hl [2, 3, 4, 5, 0] rfl) (by omega) (by omega)
def sp_X8_wouldBringNow (κ : Kx) (y : Ly) (post : Int32 → Wd → Prop) (w : Wd) (a1 : Nat) (p2 : Int32) : Prop := sp_X8_wouldBringNow_5 κ y post (fun w_5 y3_5 => post (y3_5) w_5) a1 p2 9 w (0 : Int32) (0 : Int32)
theorem hd_X8_wouldBringNow : yX8_wouldBringNow.cls = RX8 ∧ yX8_wouldBringNow.cls ≠ "java/lang/invoke/MethodHandle" ∧ yX8_wouldBringNow.cls ≠ "java/lang/invoke/VarHandle" ∧ (parseMethodDescriptor yX8_wouldBringNow.desc).map (fun d => d.parameters.length) = some 2 := by decide +kernel
set_option maxHeartbeats 4000000 in
theorem m_X8_wouldBringNow {l : Launch} {κ : Kx} {y : Ly} {X : XR} {post : Int32 → Wd → Prop} {w : Wd} {a1 : Nat} {p2 : Int32}  (hM : WFm κ y) (l0 : live y 20 0) (l1 : live y 27 a1) (h : sp_X8_wouldBringNow κ y post w a1 p2) : Met l yX8_wouldBringNow (ws_ yX8_wouldBringNow cX8_wouldBringNow 9 (Option.some Jvm.ClassFile.FieldType.int)) rm_X8_wouldBringNow (va_Pc [.ref (y.2 20 0), .ref (y.2 27 a1), .int (p2)] (RC κ w y X)) (va_Qi post (fun w t => Rp κ w y X [] t.heap) (Af κ)) 0 0 (Af κ) := by
  unfold sp_X8_wouldBringNow at h
  refine Met.ofW (cc := cX8_wouldBringNow) (maxL := 9) (ret := (Option.some Jvm.ClassFile.FieldType.int)) (by decide) rfl ?_
  intro p e s m args below meth c s₁ B hml hv
  obtain ⟨rfl, hR, hK⟩ := hv
  have hx := B.exec
  have hb := B.bytes
  have hr := B.returns
  have hts := atoms_spec (ws := ws_ yX8_wouldBringNow cX8_wouldBringNow 9 (Option.some Jvm.ClassFile.FieldType.int)) B.pre
  have hts : ∀ w ∈ lw_all, w.before _ s = true := fun w h => hts w (List.mem_cons_of_mem _ h)
  have hown : s.vm.findClass RX8 = some m.cls := findClass_of_methodNamed B.named
  have hlocks := B.notSynchronized
  have hS : va_S (Af κ) s.heap s.heap [] := va_S.rf
  have hl := lv_entry ([.ref (y.2 20 0), .ref (y.2 27 a1), .int (p2)]) (n := 9) (Nat.le_of_ble_eq_true rfl)
  rw [lg_entry_eq]
  generalize (lg_sl ([.ref (y.2 20 0), .ref (y.2 27 a1), .int (p2)]) ++ List.replicate (9 - (lg_sl ([.ref (y.2 20 0), .ref (y.2 27 a1), .int (p2)])).length) Slot.unset).toArray = ls at hl ⊢
  have hl : lv_has ls 9 [(0, .ref (y.2 20 0)), (1, .ref (y.2 27 a1)), (2, .int (p2))] := hl
  refine lv_iconst (v := (0 : Int32)) hx hb dX8_wouldBringNow_0 (by decide) ?_
  refine lv_istore_n (lv' := [(3, .int ((0 : Int32))), (0, .ref (y.2 20 0)), (1, .ref (y.2 27 a1)), (2, .int (p2))]) hx hb dX8_wouldBringNow_1 rfl hl (by decide) rfl (fun ls hl => ?_)
  refine lv_iconst (v := (0 : Int32)) hx hb dX8_wouldBringNow_2 (by decide) ?_
  refine lv_istore (lv' := [(4, .int ((0 : Int32))), (3, .int ((0 : Int32))), (0, .ref (y.2 20 0)), (1, .ref (y.2 27 a1)), (2, .int (p2))]) hx hb dX8_wouldBringNow_3 hl (by decide) rfl (fun ls hl => ?_)
  refine lp_X8_wouldBringNow_5 (C1 := 0) (S1 := 0) hx hb hr hml hown hts hlocks hK hM l0 l1 (Nat.le_of_ble_eq_true rfl) (Nat.le_of_ble_eq_true rfl) (fun w_5 y3_5 H locs ls cells9 slots9 h hR hS hl hc9 hs9 => ?_) 9 w (0 : Int32) (0 : Int32) _ _ _ _ _  h hR hS (lv_sub hl [2, 3, 4, 1, 0] rfl) (by omega) (by omega)
  refine W.widen (k := 0) (n := 0) hc9 hs9 ?_
  refine lv_iload_n hx hb dX8_wouldBringNow_146 rfl (lv_at hl 0 rfl) ?_
  refine W.widen (k := 0) (n := 0) (Nat.le_of_ble_eq_true rfl) (Nat.le_of_ble_eq_true rfl) ?_
  exact W.iret (v := y3_5) hx hb hr (fun t ht hW9 => ⟨⟨y3_5, w_5, rfl, h, rpt ht hR⟩, hS.F ht⟩) hS.2.2 dX8_wouldBringNow_147
abbrev rm_X8_bestForceNow : Room := { frames := 5, cells := 0, slots := 0, locals := 145 }
def st_X8_bestForceNow_4 (κ : Kx) (y : Ly) (post : Int32 → Wd → Prop) (ex : Wd → (Int32) → Prop) (rec : Wd → Int32 → Int32 → Prop) (i1 : Nat) (w : Wd) (v2 : Int32) (v3 : Int32) : Prop := (((4 : Int32) ≤ v3) → (ex w v2)) ∧ ((¬ ((4 : Int32) ≤ v3)) → (sp_X8_wouldBringNow κ y (fun r_12 w_12 => sp_X8_wouldBringNow κ y (fun r_18 w_18 => ((r_12 ≤ r_18) → (∀ x_26 : Int32, x_26 = v3 + (1 : Int32) → rec w_18 v2 x_26)) ∧ ((¬ (r_12 ≤ r_18)) → (∀ x_26_a : Int32, x_26_a = v3 + (1 : Int32) → rec w_18 v3 x_26_a))) w_12 i1 v2) w i1 v3))
def sp_X8_bestForceNow_4 (κ : Kx) (y : Ly) (post : Int32 → Wd → Prop) (ex : Wd → (Int32) → Prop) (i1 : Nat) : Nat → Wd → Int32 → Int32 → Prop
  | 0 => fun _ _ _ => False
  | n + 1 => fun w v2 v3 => st_X8_bestForceNow_4 κ y post ex (sp_X8_bestForceNow_4 κ y post ex i1 n) i1 w v2 v3
set_option maxHeartbeats 4000000 in
theorem lp_X8_bestForceNow_4 {p : Program} {l : Launch} {e : Env} {s : State} {m : MethodId} {args : Array Value} {below : List Frame} {meth : Method} {c : Code} {κ : Kx} {y : Ly} {X : XR} {post : Int32 → Wd → Prop} {i1 : Nat} (hx : p.tables.exec = Jvm.exec) (hb : c.code = cX8_bestForceNow) (hr : meth.sig.returnType = (Option.some Jvm.ClassFile.FieldType.int)) (hml : c.maxLocals = 4) (hown : s.vm.findClass RX8 = some m.cls) (hts : ∀ w ∈ lw_all, w.before args s = true) (hlocks : meth.locks = false) (hK : KK κ s) (hM : WFm κ y) (l0 : live y 20 0) (l1 : live y 27 i1) {C1 S1 : Nat} (hC : C1 ≤ 0) (hSl : S1 ≤ 0) {ex : Wd → (Int32) → Prop}
    (kx : ∀ (w : Wd) (v2 : Int32) (H : Heap) (locs : List Loc) (ls : Array Slot) (cells slots : Nat) , ex w v2 → Rp κ w y X [] H → va_S (Af κ) s.heap H locs → lv_has ls 4 [(2, .int (v2))] → cells ≤ C1 → slots ≤ S1 → W p l e (headSpec (ws_ yX8_bestForceNow cX8_bestForceNow 4 (Option.some Jvm.ClassFile.FieldType.int)) rm_X8_bestForceNow).room s m args below meth c H locs cells slots (MQ below (va_Qi post (fun w t => Rp κ w y X [] t.heap) (Af κ)) args s 0 0 (Af κ)) (F0 m 32 ls [])) :
    ∀ (f : Nat) (w : Wd) (v2 : Int32) (v3 : Int32) (H : Heap) (locs : List Loc) (ls : Array Slot) (cells slots : Nat)  , sp_X8_bestForceNow_4 κ y post ex i1 f w v2 v3 → Rp κ w y X [] H → va_S (Af κ) s.heap H locs → lv_has ls 4 [(0, .ref (y.2 20 0)), (1, .ref (y.2 27 i1)), (2, .int (v2)), (3, .int (v3))] → cells + f * 0 ≤ C1 → slots + f * 0 ≤ S1 → W p l e (headSpec (ws_ yX8_bestForceNow cX8_bestForceNow 4 (Option.some Jvm.ClassFile.FieldType.int)) rm_X8_bestForceNow).room s m args below meth c H locs cells slots (MQ below (va_Qi post (fun w t => Rp κ w y X [] t.heap) (Af κ)) args s 0 0 (Af κ)) (F0 m 4 ls []) := by
  intro f
  induction f with
  | zero =>
    intro w v2 v3 H locs ls cells slots  h
    exact False.elim h
  | succ f ih =>
    intro w v2 v3 H locs ls cells slots  h hR hS hl hc hs
    have h : st_X8_bestForceNow_4 κ y post ex (sp_X8_bestForceNow_4 κ y post ex i1 f) i1 w v2 v3 := h
    unfold st_X8_bestForceNow_4 at h
    refine lv_iload_n hx hb dX8_bestForceNow_4 rfl (lv_at hl 3 rfl) ?_
    refine lv_iconst (v := (4 : Int32)) hx hb dX8_bestForceNow_5 (by decide) ?_
    refine lv_icmp_ge (tgt := 32) hx hb dX8_bestForceNow_6 (by decide) (fun c_6 => ?_) (fun c_6 => ?_)
    · have h := h.1 c_6
      exact kx w v2 _ _ _ _ _ h hR hS (lv_sub hl [2] rfl) (by omega) (by omega)
    · have h := h.2 c_6
      refine lv_aload_n hx hb dX8_bestForceNow_9 rfl (lv_at hl 0 rfl) ?_
      refine lv_aload_n hx hb dX8_bestForceNow_10 rfl (lv_at hl 1 rfl) ?_
      refine lv_iload_n hx hb dX8_bestForceNow_11 rfl (lv_at hl 3 rfl) ?_
      refine ce_qi (fw := fun u => u) (fy := fun _ => y) (cr_V (n := 2) (As := [.ref (y.2 27 i1), .int (v3)]) (rest := []) ⟨hx, hb, hml, hown, hts⟩ hK hR (m_X8_wouldBringNow hM l0 l1 h) q2589 q2591 qs69 q85 q2592 rfl rfl hd_X8_wouldBringNow ⟨Nat.le_of_ble_eq_true rfl, Nat.le_of_ble_eq_true rfl⟩ (rv hK hR l0 (ci := 11) rfl rfl) rfl rfl hl.1 rfl (lv_room (Nat.le_of_ble_eq_true rfl)) dX8_bestForceNow_12 ⟨(Nat.le_trans (show cells + 0 ≤ C1 from by omega) hC), (Nat.le_trans (show slots + 0 ≤ S1 from by omega) hSl)⟩) hR hS (fun r_12 w_12 H locs h hR _ hS => ?_)
      refine lv_aload_n hx hb dX8_bestForceNow_15 rfl (lv_at hl 0 rfl) ?_
      refine lv_aload_n hx hb dX8_bestForceNow_16 rfl (lv_at hl 1 rfl) ?_
      refine lv_iload_n hx hb dX8_bestForceNow_17 rfl (lv_at hl 2 rfl) ?_
      refine ce_qi (fw := fun u => u) (fy := fun _ => y) (cr_V (n := 2) (As := [.ref (y.2 27 i1), .int (v2)]) (rest := [.int (r_12)]) ⟨hx, hb, hml, hown, hts⟩ hK hR (m_X8_wouldBringNow hM l0 l1 h) q2589 q2591 qs69 q85 q2592 rfl rfl hd_X8_wouldBringNow ⟨Nat.le_of_ble_eq_true rfl, Nat.le_of_ble_eq_true rfl⟩ (rv hK hR l0 (ci := 11) rfl rfl) rfl rfl hl.1 rfl (lv_room (Nat.le_of_ble_eq_true rfl)) dX8_bestForceNow_18 ⟨(Nat.le_trans (show cells + 0 ≤ C1 from by omega) hC), (Nat.le_trans (show slots + 0 ≤ S1 from by omega) hSl)⟩) hR hS (fun r_18 w_18 H locs h hR _ hS => ?_)
      refine lv_icmp_le (tgt := 26) hx hb dX8_bestForceNow_21 (by decide) (fun c_21 => ?_) (fun c_21 => ?_)
      · have h := h.1 c_21
        obtain ⟨x_26, ex_26⟩ : ∃ z : Int32, z = v3 + (1 : Int32) := ⟨_, rfl⟩
        have h := h x_26 ex_26
        refine lv_iinc (v := x_26) (lv' := [(3, .int (x_26)), (0, .ref (y.2 20 0)), (1, .ref (y.2 27 i1)), (2, .int (v2))]) hx hb dX8_bestForceNow_26 hl (k := 3) rfl (by rw [ex_26]; rfl) (by decide) rfl (fun ls hl => ?_)
        refine lv_goto (tgt := 4) hx hb dX8_bestForceNow_29 (by decide) ?_
        exact ih w_18 v2 x_26 _ _ _ _ _  h hR hS (lv_sub hl [1, 2, 3, 0] rfl) (by omega) (by omega)
      · have h := h.2 c_21
        refine lv_iload_n hx hb dX8_bestForceNow_24 rfl (lv_at hl 3 rfl) ?_
        refine lv_istore_n (lv' := [(2, .int (v3)), (0, .ref (y.2 20 0)), (1, .ref (y.2 27 i1)), (3, .int (v3))]) hx hb dX8_bestForceNow_25 rfl hl (by decide) rfl (fun ls hl => ?_)
        obtain ⟨x_26_a, ex_26_a⟩ : ∃ z : Int32, z = v3 + (1 : Int32) := ⟨_, rfl⟩
        have h := h x_26_a ex_26_a
        refine lv_iinc (v := x_26_a) (lv' := [(3, .int (x_26_a)), (2, .int (v3)), (0, .ref (y.2 20 0)), (1, .ref (y.2 27 i1))]) hx hb dX8_bestForceNow_26 hl (k := 3) rfl (by rw [ex_26_a]; rfl) (by decide) rfl (fun ls hl => ?_)
        refine lv_goto (tgt := 4) hx hb dX8_bestForceNow_29 (by decide) ?_
        exact ih w_18 v3 x_26_a _ _ _ _ _  h hR hS (lv_sub hl [2, 3, 1, 0] rfl) (by omega) (by omega)
def sp_X8_bestForceNow (κ : Kx) (y : Ly) (post : Int32 → Wd → Prop) (w : Wd) (a1 : Nat) : Prop := sp_X8_bestForceNow_4 κ y post (fun w_4 y2_4 => post (y2_4) w_4) a1 5 w (0 : Int32) (1 : Int32)
theorem hd_X8_bestForceNow : yX8_bestForceNow.cls = RX8 ∧ yX8_bestForceNow.cls ≠ "java/lang/invoke/MethodHandle" ∧ yX8_bestForceNow.cls ≠ "java/lang/invoke/VarHandle" ∧ (parseMethodDescriptor yX8_bestForceNow.desc).map (fun d => d.parameters.length) = some 1 := by decide +kernel
set_option maxHeartbeats 4000000 in
theorem m_X8_bestForceNow {l : Launch} {κ : Kx} {y : Ly} {X : XR} {post : Int32 → Wd → Prop} {w : Wd} {a1 : Nat}  (hM : WFm κ y) (l0 : live y 20 0) (l1 : live y 27 a1) (h : sp_X8_bestForceNow κ y post w a1) : Met l yX8_bestForceNow (ws_ yX8_bestForceNow cX8_bestForceNow 4 (Option.some Jvm.ClassFile.FieldType.int)) rm_X8_bestForceNow (va_Pc [.ref (y.2 20 0), .ref (y.2 27 a1)] (RC κ w y X)) (va_Qi post (fun w t => Rp κ w y X [] t.heap) (Af κ)) 0 0 (Af κ) := by
  unfold sp_X8_bestForceNow at h
  refine Met.ofW (cc := cX8_bestForceNow) (maxL := 4) (ret := (Option.some Jvm.ClassFile.FieldType.int)) (by decide) rfl ?_
  intro p e s m args below meth c s₁ B hml hv
  obtain ⟨rfl, hR, hK⟩ := hv
  have hx := B.exec
  have hb := B.bytes
  have hr := B.returns
  have hts := atoms_spec (ws := ws_ yX8_bestForceNow cX8_bestForceNow 4 (Option.some Jvm.ClassFile.FieldType.int)) B.pre
  have hts : ∀ w ∈ lw_all, w.before _ s = true := fun w h => hts w (List.mem_cons_of_mem _ h)
  have hown : s.vm.findClass RX8 = some m.cls := findClass_of_methodNamed B.named
  have hlocks := B.notSynchronized
  have hS : va_S (Af κ) s.heap s.heap [] := va_S.rf
  have hl := lv_entry ([.ref (y.2 20 0), .ref (y.2 27 a1)]) (n := 4) (Nat.le_of_ble_eq_true rfl)
  rw [lg_entry_eq]
  generalize (lg_sl ([.ref (y.2 20 0), .ref (y.2 27 a1)]) ++ List.replicate (4 - (lg_sl ([.ref (y.2 20 0), .ref (y.2 27 a1)])).length) Slot.unset).toArray = ls at hl ⊢
  have hl : lv_has ls 4 [(0, .ref (y.2 20 0)), (1, .ref (y.2 27 a1))] := hl
  refine lv_iconst (v := (0 : Int32)) hx hb dX8_bestForceNow_0 (by decide) ?_
  refine lv_istore_n (lv' := [(2, .int ((0 : Int32))), (0, .ref (y.2 20 0)), (1, .ref (y.2 27 a1))]) hx hb dX8_bestForceNow_1 rfl hl (by decide) rfl (fun ls hl => ?_)
  refine lv_iconst (v := (1 : Int32)) hx hb dX8_bestForceNow_2 (by decide) ?_
  refine lv_istore_n (lv' := [(3, .int ((1 : Int32))), (2, .int ((0 : Int32))), (0, .ref (y.2 20 0)), (1, .ref (y.2 27 a1))]) hx hb dX8_bestForceNow_3 rfl hl (by decide) rfl (fun ls hl => ?_)
  refine lp_X8_bestForceNow_4 (C1 := 0) (S1 := 0) hx hb hr hml hown hts hlocks hK hM l0 l1 (Nat.le_of_ble_eq_true rfl) (Nat.le_of_ble_eq_true rfl) (fun w_4 y2_4 H locs ls cells9 slots9 h hR hS hl hc9 hs9 => ?_) 5 w (0 : Int32) (1 : Int32) _ _ _ _ _  h hR hS (lv_sub hl [2, 3, 1, 0] rfl) (by omega) (by omega)
  refine W.widen (k := 0) (n := 0) hc9 hs9 ?_
  refine lv_iload_n hx hb dX8_bestForceNow_32 rfl (lv_at hl 0 rfl) ?_
  refine W.widen (k := 0) (n := 0) (Nat.le_of_ble_eq_true rfl) (Nat.le_of_ble_eq_true rfl) ?_
  exact W.iret (v := y2_4) hx hb hr (fun t ht hW9 => ⟨⟨y2_4, w_4, rfl, h, rpt ht hR⟩, hS.F ht⟩) hS.2.2 dX8_bestForceNow_33
abbrev rm_X8_votes : Room := { frames := 4, cells := 0, slots := 0, locals := 117 }
def sp_X8_votes (κ : Kx) (y : Ly) (post : Int32 → Wd → Prop) (w : Wd) (p1 : Int32) (p2 : Int32) (p3 : Int32) (p4 : Int32) : Prop := sp_X8_isNoVillage κ y (fun r_3 w_3 => ∀ j21 : Wd → Int32 → Prop, (j21 = fun (w21 : Wd) (s0_21 : Int32) => sp_X8_start κ y (fun r_22 w_22 => ((¬ r_22 = 0) → (post ((0 : Int32)) w_22)) ∧ ((r_22 = 0) → (sp_X8_isIn κ y (fun r_34 w_34 => ∀ j56 : Wd → Int32 → Prop, (j56 = fun (w56 : Wd) (s0_56 : Int32) => sp_X8_refuse κ y (fun r_57 w_57 => ((r_57 = 0) → (sp_X8_dueNow κ y (fun r_69 w_69 => sp_X8_votesNow κ y (fun r_83 w_83 => post (r_83) w_83) w_69 (p3 - r_69) r_69 p4) w_57 p1 p2 (1 : Int32))) ∧ ((¬ (r_57 = 0)) → (post ((0 : Int32)) w_57))) w56 s0_56 (2 : Int32)) → (((r_34 = 0) → (j56 w_34 (1 : Int32))) ∧ ((¬ (r_34 = 0)) → (sp_X8_isIn κ y (fun r_45 w_45 => ((¬ r_45 = 0) → (j56 w_45 (0 : Int32))) ∧ ((r_45 = 0) → (j56 w_45 (1 : Int32)))) w_34 p4 (0 : Int32) (7 : Int32))))) w_22 p3 (0 : Int32) (9999 : Int32)))) w21 s0_21 (1 : Int32)) → (((¬ r_3 = 0) → (j21 w_3 (1 : Int32))) ∧ ((r_3 = 0) → (sp_X8_isNoDuty κ y (fun r_10 w_10 => ((r_10 = 0) → (j21 w_10 (0 : Int32))) ∧ ((¬ (r_10 = 0)) → (j21 w_10 (1 : Int32)))) w_3 p2)))) w p1
theorem hd_X8_votes : yX8_votes.cls = RX8 ∧ yX8_votes.cls ≠ "java/lang/invoke/MethodHandle" ∧ yX8_votes.cls ≠ "java/lang/invoke/VarHandle" ∧ (parseMethodDescriptor yX8_votes.desc).map (fun d => d.parameters.length) = some 4 := by decide +kernel
set_option maxHeartbeats 4000000 in
theorem m_X8_votes {l : Launch} {κ : Kx} {y : Ly} {X : XR} {post : Int32 → Wd → Prop} {w : Wd} {p1 : Int32} {p2 : Int32} {p3 : Int32} {p4 : Int32}  (hM : WFm κ y) (l0 : live y 20 0) (h : sp_X8_votes κ y post w p1 p2 p3 p4) : Met l yX8_votes (ws_ yX8_votes cX8_votes 6 (Option.some Jvm.ClassFile.FieldType.int)) rm_X8_votes (va_Pc [.ref (y.2 20 0), .int (p1), .int (p2), .int (p3), .int (p4)] (RC κ w y X)) (va_Qi post (fun w t => Rp κ w y X [] t.heap) (Af κ)) 0 0 (Af κ) := by
  unfold sp_X8_votes at h
  refine Met.ofW (cc := cX8_votes) (maxL := 6) (ret := (Option.some Jvm.ClassFile.FieldType.int)) (by decide) rfl ?_
  intro p e s m args below meth c s₁ B hml hv
  obtain ⟨rfl, hR, hK⟩ := hv
  have hx := B.exec
  have hb := B.bytes
  have hr := B.returns
  have hts := atoms_spec (ws := ws_ yX8_votes cX8_votes 6 (Option.some Jvm.ClassFile.FieldType.int)) B.pre
  have hts : ∀ w ∈ lw_all, w.before _ s = true := fun w h => hts w (List.mem_cons_of_mem _ h)
  have hown : s.vm.findClass RX8 = some m.cls := findClass_of_methodNamed B.named
  have hlocks := B.notSynchronized
  have hS : va_S (Af κ) s.heap s.heap [] := va_S.rf
  have hl := lv_entry ([.ref (y.2 20 0), .int (p1), .int (p2), .int (p3), .int (p4)]) (n := 6) (Nat.le_of_ble_eq_true rfl)
  rw [lg_entry_eq]
  generalize (lg_sl ([.ref (y.2 20 0), .int (p1), .int (p2), .int (p3), .int (p4)]) ++ List.replicate (6 - (lg_sl ([.ref (y.2 20 0), .int (p1), .int (p2), .int (p3), .int (p4)])).length) Slot.unset).toArray = ls at hl ⊢
  have hl : lv_has ls 6 [(0, .ref (y.2 20 0)), (1, .int (p1)), (2, .int (p2)), (3, .int (p3)), (4, .int (p4))] := hl
  refine lv_aload_n hx hb dX8_votes_0 rfl (lv_at hl 0 rfl) ?_
  refine lv_aload_n hx hb dX8_votes_1 rfl (lv_at hl 0 rfl) ?_
  refine lv_iload_n hx hb dX8_votes_2 rfl (lv_at hl 1 rfl) ?_
  refine ce_qi (fw := fun u => u) (fy := fun _ => y) (cr_V (n := 1) (As := [.int (p1)]) (rest := [.ref (y.2 20 0)]) ⟨hx, hb, hml, hown, hts⟩ hK hR (m_X8_isNoVillage hM l0 h) q2109 q2111 qs40 q85 q2112 rfl rfl hd_X8_isNoVillage ⟨Nat.le_of_ble_eq_true rfl, Nat.le_of_ble_eq_true rfl⟩ (rv hK hR l0 (ci := 11) rfl rfl) rfl rfl hl.1 rfl (lv_room (Nat.le_of_ble_eq_true rfl)) dX8_votes_3 ⟨(Nat.le_of_ble_eq_true rfl), (Nat.le_of_ble_eq_true rfl)⟩) hR hS (fun r_3 w_3 H locs h hR _ hS => ?_)
  refine jn_elim h (fun j21 ej21 h => ?_)
  have Jj21 : ∀ (w21 : Wd) (s0_21 : Int32) (H : Heap) (locs : List Loc) (ls : Array Slot), j21 w21 s0_21 → Rp κ w21 y X [] H → va_S (Af κ) s.heap H locs → lv_has ls 6 [(0, .ref (y.2 20 0)), (1, .int (p1)), (2, .int (p2)), (3, .int (p3)), (4, .int (p4))] → W p l e (headSpec (ws_ yX8_votes cX8_votes 6 (Option.some Jvm.ClassFile.FieldType.int)) rm_X8_votes).room s m ([.ref (y.2 20 0), .int (p1), .int (p2), .int (p3), .int (p4)] : List Value).toArray below meth c H locs (0) (0) (MQ below (va_Qi post (fun w t => Rp κ w y X [] t.heap) (Af κ)) ([.ref (y.2 20 0), .int (p1), .int (p2), .int (p3), .int (p4)] : List Value).toArray s 0 0 (Af κ)) (F0 m 21 ls [.int (s0_21), .ref (y.2 20 0)]) := by
    clear h
    intro w21 s0_21 H locs ls h hR hS hl
    subst ej21
    refine lv_iconst (v := (1 : Int32)) hx hb dX8_votes_21 (by decide) ?_
    refine ce_qi (fw := fun u => u) (fy := fun _ => y) (cr_V (n := 2) (As := [.int (s0_21), .int ((1 : Int32))]) (rest := []) ⟨hx, hb, hml, hown, hts⟩ hK hR (m_X8_start hM l0 h) q2023 q2025 qs37 q85 q2026 rfl rfl hd_X8_start ⟨Nat.le_of_ble_eq_true rfl, Nat.le_of_ble_eq_true rfl⟩ (rv hK hR l0 (ci := 11) rfl rfl) rfl rfl hl.1 rfl (lv_room (Nat.le_of_ble_eq_true rfl)) dX8_votes_22 ⟨(Nat.le_of_ble_eq_true rfl), (Nat.le_of_ble_eq_true rfl)⟩) hR hS (fun r_22 w_22 H locs h hR _ hS => ?_)
    refine lv_if_ne (tgt := 63) hx hb dX8_votes_25 (by decide) (fun c_25 => ?_) (fun c_25 => ?_)
    · have h := h.1 c_25
      refine lv_iconst (v := (0 : Int32)) hx hb dX8_votes_63 (by decide) ?_
      refine W.widen (k := 0) (n := 0) (Nat.le_of_ble_eq_true rfl) (Nat.le_of_ble_eq_true rfl) ?_
      exact W.iret (v := (0 : Int32)) hx hb hr (fun t ht hW9 => ⟨⟨(0 : Int32), w_22, rfl, h, rpt ht hR⟩, hS.F ht⟩) hS.2.2 dX8_votes_64
    · have h := h.2 c_25
      refine lv_aload_n hx hb dX8_votes_28 rfl (lv_at hl 0 rfl) ?_
      refine lv_iload_n hx hb dX8_votes_29 rfl (lv_at hl 3 rfl) ?_
      refine lv_iconst (v := (0 : Int32)) hx hb dX8_votes_30 (by decide) ?_
      refine lv_sipush (v := (9999 : Int32)) hx hb dX8_votes_31 (by decide) ?_
      refine ce_qi (fw := fun u => u) (fy := fun _ => y) (cr_S (n := 3) (As := [.int (p3), .int ((0 : Int32)), .int ((9999 : Int32))]) (rest := [.ref (y.2 20 0)]) ⟨hx, hb, hml, hown, hts⟩ hK hR (m_X8_isIn hM h) q2020 q2021 q85 q2022 rfl rfl hds_X8_isIn ⟨Nat.le_of_ble_eq_true rfl, Nat.le_of_ble_eq_true rfl⟩ rfl rfl hl.1 rfl (lv_room (Nat.le_of_ble_eq_true rfl)) dX8_votes_34 ⟨(Nat.le_of_ble_eq_true rfl), (Nat.le_of_ble_eq_true rfl)⟩) hR hS (fun r_34 w_34 H locs h hR _ hS => ?_)
      refine jn_elim h (fun j56 ej56 h => ?_)
      have Jj56 : ∀ (w56 : Wd) (s0_56 : Int32) (H : Heap) (locs : List Loc) (ls : Array Slot), j56 w56 s0_56 → Rp κ w56 y X [] H → va_S (Af κ) s.heap H locs → lv_has ls 6 [(0, .ref (y.2 20 0)), (1, .int (p1)), (2, .int (p2)), (3, .int (p3)), (4, .int (p4))] → W p l e (headSpec (ws_ yX8_votes cX8_votes 6 (Option.some Jvm.ClassFile.FieldType.int)) rm_X8_votes).room s m ([.ref (y.2 20 0), .int (p1), .int (p2), .int (p3), .int (p4)] : List Value).toArray below meth c H locs (0) (0) (MQ below (va_Qi post (fun w t => Rp κ w y X [] t.heap) (Af κ)) ([.ref (y.2 20 0), .int (p1), .int (p2), .int (p3), .int (p4)] : List Value).toArray s 0 0 (Af κ)) (F0 m 56 ls [.int (s0_56), .ref (y.2 20 0)]) := by
        clear h
        intro w56 s0_56 H locs ls h hR hS hl
        subst ej56
        refine lv_iconst (v := (2 : Int32)) hx hb dX8_votes_56 (by decide) ?_
        refine ce_qi (fw := fun u => u) (fy := fun _ => y) (cr_V (n := 2) (As := [.int (s0_56), .int ((2 : Int32))]) (rest := []) ⟨hx, hb, hml, hown, hts⟩ hK hR (m_X8_refuse hM l0 h) q2027 q2029 qs38 q85 q2030 rfl rfl hd_X8_refuse ⟨Nat.le_of_ble_eq_true rfl, Nat.le_of_ble_eq_true rfl⟩ (rv hK hR l0 (ci := 11) rfl rfl) rfl rfl hl.1 rfl (lv_room (Nat.le_of_ble_eq_true rfl)) dX8_votes_57 ⟨(Nat.le_of_ble_eq_true rfl), (Nat.le_of_ble_eq_true rfl)⟩) hR hS (fun r_57 w_57 H locs h hR _ hS => ?_)
        refine lv_if_eq (tgt := 65) hx hb dX8_votes_60 (by decide) (fun c_60 => ?_) (fun c_60 => ?_)
        · have h := h.1 c_60
          refine lv_aload_n hx hb dX8_votes_65 rfl (lv_at hl 0 rfl) ?_
          refine lv_iload_n hx hb dX8_votes_66 rfl (lv_at hl 1 rfl) ?_
          refine lv_iload_n hx hb dX8_votes_67 rfl (lv_at hl 2 rfl) ?_
          refine lv_iconst (v := (1 : Int32)) hx hb dX8_votes_68 (by decide) ?_
          refine ce_qi (fw := fun u => u) (fy := fun _ => y) (cr_V (n := 3) (As := [.int (p1), .int (p2), .int ((1 : Int32))]) (rest := []) ⟨hx, hb, hml, hown, hts⟩ hK hR (m_X8_dueNow hM l0 h) q2472 q2474 qs56 q85 q2475 rfl rfl hd_X8_dueNow ⟨Nat.le_of_ble_eq_true rfl, Nat.le_of_ble_eq_true rfl⟩ (rv hK hR l0 (ci := 11) rfl rfl) rfl rfl hl.1 rfl (lv_room (Nat.le_of_ble_eq_true rfl)) dX8_votes_69 ⟨(Nat.le_of_ble_eq_true rfl), (Nat.le_of_ble_eq_true rfl)⟩) hR hS (fun r_69 w_69 H locs h hR _ hS => ?_)
          refine lv_istore (lv' := [(5, .int (r_69)), (0, .ref (y.2 20 0)), (1, .int (p1)), (2, .int (p2)), (3, .int (p3)), (4, .int (p4))]) hx hb dX8_votes_72 hl (by decide) rfl (fun ls hl => ?_)
          refine lv_aload_n hx hb dX8_votes_74 rfl (lv_at hl 1 rfl) ?_
          refine lv_iload_n hx hb dX8_votes_75 rfl (lv_at hl 4 rfl) ?_
          refine lv_iload hx hb dX8_votes_76 (lv_at hl 0 rfl) ?_
          refine lv_isub hx hb dX8_votes_78 ?_
          refine lv_iload hx hb dX8_votes_79 (lv_at hl 0 rfl) ?_
          refine lv_iload hx hb dX8_votes_81 (lv_at hl 5 rfl) ?_
          refine ce_qi (fw := fun u => u) (fy := fun _ => y) (cr_V (n := 3) (As := [.int (p3 - r_69), .int (r_69), .int (p4)]) (rest := []) ⟨hx, hb, hml, hown, hts⟩ hK hR (m_X8_votesNow hM l0 h) q2363 q2365 qs51 q85 q2366 rfl rfl hd_X8_votesNow ⟨Nat.le_of_ble_eq_true rfl, Nat.le_of_ble_eq_true rfl⟩ (rv hK hR l0 (ci := 11) rfl rfl) rfl rfl hl.1 rfl (lv_room (Nat.le_of_ble_eq_true rfl)) dX8_votes_83 ⟨(Nat.le_of_ble_eq_true rfl), (Nat.le_of_ble_eq_true rfl)⟩) hR hS (fun r_83 w_83 H locs h hR _ hS => ?_)
          refine W.widen (k := 0) (n := 0) (Nat.le_of_ble_eq_true rfl) (Nat.le_of_ble_eq_true rfl) ?_
          exact W.iret (v := r_83) hx hb hr (fun t ht hW9 => ⟨⟨r_83, w_83, rfl, h, rpt ht hR⟩, hS.F ht⟩) hS.2.2 dX8_votes_86
        · have h := h.2 c_60
          refine lv_iconst (v := (0 : Int32)) hx hb dX8_votes_63 (by decide) ?_
          refine W.widen (k := 0) (n := 0) (Nat.le_of_ble_eq_true rfl) (Nat.le_of_ble_eq_true rfl) ?_
          exact W.iret (v := (0 : Int32)) hx hb hr (fun t ht hW9 => ⟨⟨(0 : Int32), w_57, rfl, h, rpt ht hR⟩, hS.F ht⟩) hS.2.2 dX8_votes_64
      refine lv_if_eq (tgt := 51) hx hb dX8_votes_37 (by decide) (fun c_37 => ?_) (fun c_37 => ?_)
      · have h := h.1 c_37
        refine lv_iconst (v := (1 : Int32)) hx hb dX8_votes_51 (by decide) ?_
        refine lv_goto (tgt := 56) hx hb dX8_votes_52 (by decide) ?_
        refine W.widen (k := 0) (n := 0) (Nat.le_of_ble_eq_true rfl) (Nat.le_of_ble_eq_true rfl) ?_
        exact Jj56 w_34 (1 : Int32) _ _ _ h hR hS (lv_sub hl [0, 1, 2, 3, 4] rfl)
      · have h := h.2 c_37
        refine lv_iload hx hb dX8_votes_40 (lv_at hl 4 rfl) ?_
        refine lv_iconst (v := (0 : Int32)) hx hb dX8_votes_42 (by decide) ?_
        refine lv_bipush (v := (7 : Int32)) hx hb dX8_votes_43 (by decide) ?_
        refine ce_qi (fw := fun u => u) (fy := fun _ => y) (cr_S (n := 3) (As := [.int (p4), .int ((0 : Int32)), .int ((7 : Int32))]) (rest := [.ref (y.2 20 0)]) ⟨hx, hb, hml, hown, hts⟩ hK hR (m_X8_isIn hM h) q2020 q2021 q85 q2022 rfl rfl hds_X8_isIn ⟨Nat.le_of_ble_eq_true rfl, Nat.le_of_ble_eq_true rfl⟩ rfl rfl hl.1 rfl (lv_room (Nat.le_of_ble_eq_true rfl)) dX8_votes_45 ⟨(Nat.le_of_ble_eq_true rfl), (Nat.le_of_ble_eq_true rfl)⟩) hR hS (fun r_45 w_45 H locs h hR _ hS => ?_)
        refine lv_if_ne (tgt := 55) hx hb dX8_votes_48 (by decide) (fun c_48 => ?_) (fun c_48 => ?_)
        · have h := h.1 c_48
          refine lv_iconst (v := (0 : Int32)) hx hb dX8_votes_55 (by decide) ?_
          refine W.widen (k := 0) (n := 0) (Nat.le_of_ble_eq_true rfl) (Nat.le_of_ble_eq_true rfl) ?_
          exact Jj56 w_45 (0 : Int32) _ _ _ h hR hS (lv_sub hl [0, 1, 2, 3, 4] rfl)
        · have h := h.2 c_48
          refine lv_iconst (v := (1 : Int32)) hx hb dX8_votes_51 (by decide) ?_
          refine lv_goto (tgt := 56) hx hb dX8_votes_52 (by decide) ?_
          refine W.widen (k := 0) (n := 0) (Nat.le_of_ble_eq_true rfl) (Nat.le_of_ble_eq_true rfl) ?_
          exact Jj56 w_45 (1 : Int32) _ _ _ h hR hS (lv_sub hl [0, 1, 2, 3, 4] rfl)
  refine lv_if_ne (tgt := 16) hx hb dX8_votes_6 (by decide) (fun c_6 => ?_) (fun c_6 => ?_)
  · have h := h.1 c_6
    refine lv_iconst (v := (1 : Int32)) hx hb dX8_votes_16 (by decide) ?_
    refine lv_goto (tgt := 21) hx hb dX8_votes_17 (by decide) ?_
    refine W.widen (k := 0) (n := 0) (Nat.le_of_ble_eq_true rfl) (Nat.le_of_ble_eq_true rfl) ?_
    exact Jj21 w_3 (1 : Int32) _ _ _ h hR hS (lv_sub hl [0, 1, 2, 3, 4] rfl)
  · have h := h.2 c_6
    refine lv_iload_n hx hb dX8_votes_9 rfl (lv_at hl 2 rfl) ?_
    refine ce_qi (fw := fun u => u) (fy := fun _ => y) (cr_S (n := 1) (As := [.int (p2)]) (rest := [.ref (y.2 20 0)]) ⟨hx, hb, hml, hown, hts⟩ hK hR (m_X8_isNoDuty hM h) q2130 q2131 q85 q2132 rfl rfl hds_X8_isNoDuty ⟨Nat.le_of_ble_eq_true rfl, Nat.le_of_ble_eq_true rfl⟩ rfl rfl hl.1 rfl (lv_room (Nat.le_of_ble_eq_true rfl)) dX8_votes_10 ⟨(Nat.le_of_ble_eq_true rfl), (Nat.le_of_ble_eq_true rfl)⟩) hR hS (fun r_10 w_10 H locs h hR _ hS => ?_)
    refine lv_if_eq (tgt := 20) hx hb dX8_votes_13 (by decide) (fun c_13 => ?_) (fun c_13 => ?_)
    · have h := h.1 c_13
      refine lv_iconst (v := (0 : Int32)) hx hb dX8_votes_20 (by decide) ?_
      refine W.widen (k := 0) (n := 0) (Nat.le_of_ble_eq_true rfl) (Nat.le_of_ble_eq_true rfl) ?_
      exact Jj21 w_10 (0 : Int32) _ _ _ h hR hS (lv_sub hl [0, 1, 2, 3, 4] rfl)
    · have h := h.2 c_13
      refine lv_iconst (v := (1 : Int32)) hx hb dX8_votes_16 (by decide) ?_
      refine lv_goto (tgt := 21) hx hb dX8_votes_17 (by decide) ?_
      refine W.widen (k := 0) (n := 0) (Nat.le_of_ble_eq_true rfl) (Nat.le_of_ble_eq_true rfl) ?_
      exact Jj21 w_10 (1 : Int32) _ _ _ h hR hS (lv_sub hl [0, 1, 2, 3, 4] rfl)
abbrev rm_X8_harvest : Room := { frames := 3, cells := 0, slots := 0, locals := 93 }
def sp_X8_harvest (κ : Kx) (y : Ly) (post : Int32 → Wd → Prop) (w : Wd) (p1 : Int32) (p2 : Int32) : Prop := sp_X8_isNoVillage κ y (fun r_3 w_3 => sp_X8_start κ y (fun r_7 w_7 => ((¬ r_7 = 0) → (post ((0 : Int32)) w_7)) ∧ ((r_7 = 0) → (sp_X8_isIn κ y (fun r_18 w_18 => ((¬ r_18 = 0) → (sp_X8_refuse κ y (fun r_30 w_30 => ((r_30 = 0) → ((vp_in (p1) (mV y)) ∧ (sp_X8_yieldOf κ y (fun r_52 w_52 => post (r_52) w_52) w_30 (((p1).toNatClampNeg)) p2))) ∧ ((¬ (r_30 = 0)) → (post ((0 : Int32)) w_30))) w_18 (0 : Int32) (2 : Int32))) ∧ ((r_18 = 0) → (sp_X8_refuse κ y (fun r_30_a w_30_a => ((r_30_a = 0) → ((vp_in (p1) (mV y)) ∧ (sp_X8_yieldOf κ y (fun r_52_a w_52_a => post (r_52_a) w_52_a) w_30_a (((p1).toNatClampNeg)) p2))) ∧ ((¬ (r_30_a = 0)) → (post ((0 : Int32)) w_30_a))) w_18 (1 : Int32) (2 : Int32)))) w_7 p2 (0 : Int32) (10 : Int32)))) w_3 r_3 (1 : Int32)) w p1
theorem hd_X8_harvest : yX8_harvest.cls = RX8 ∧ yX8_harvest.cls ≠ "java/lang/invoke/MethodHandle" ∧ yX8_harvest.cls ≠ "java/lang/invoke/VarHandle" ∧ (parseMethodDescriptor yX8_harvest.desc).map (fun d => d.parameters.length) = some 2 := by decide +kernel
set_option maxHeartbeats 4000000 in
theorem m_X8_harvest {l : Launch} {κ : Kx} {y : Ly} {X : XR} {post : Int32 → Wd → Prop} {w : Wd} {p1 : Int32} {p2 : Int32}  (hM : WFm κ y) (l0 : live y 20 0) (h : sp_X8_harvest κ y post w p1 p2) : Met l yX8_harvest (ws_ yX8_harvest cX8_harvest 3 (Option.some Jvm.ClassFile.FieldType.int)) rm_X8_harvest (va_Pc [.ref (y.2 20 0), .int (p1), .int (p2)] (RC κ w y X)) (va_Qi post (fun w t => Rp κ w y X [] t.heap) (Af κ)) 0 0 (Af κ) := by
  unfold sp_X8_harvest at h
  refine Met.ofW (cc := cX8_harvest) (maxL := 3) (ret := (Option.some Jvm.ClassFile.FieldType.int)) (by decide) rfl ?_
  intro p e s m args below meth c s₁ B hml hv
  obtain ⟨rfl, hR, hK⟩ := hv
  have hx := B.exec
  have hb := B.bytes
  have hr := B.returns
  have hts := atoms_spec (ws := ws_ yX8_harvest cX8_harvest 3 (Option.some Jvm.ClassFile.FieldType.int)) B.pre
  have hts : ∀ w ∈ lw_all, w.before _ s = true := fun w h => hts w (List.mem_cons_of_mem _ h)
  have hown : s.vm.findClass RX8 = some m.cls := findClass_of_methodNamed B.named
  have hlocks := B.notSynchronized
  have hS : va_S (Af κ) s.heap s.heap [] := va_S.rf
  have hl := lv_entry ([.ref (y.2 20 0), .int (p1), .int (p2)]) (n := 3) (Nat.le_of_ble_eq_true rfl)
  rw [lg_entry_eq]
  generalize (lg_sl ([.ref (y.2 20 0), .int (p1), .int (p2)]) ++ List.replicate (3 - (lg_sl ([.ref (y.2 20 0), .int (p1), .int (p2)])).length) Slot.unset).toArray = ls at hl ⊢
  have hl : lv_has ls 3 [(0, .ref (y.2 20 0)), (1, .int (p1)), (2, .int (p2))] := hl
  refine lv_aload_n hx hb dX8_harvest_0 rfl (lv_at hl 0 rfl) ?_
  refine lv_aload_n hx hb dX8_harvest_1 rfl (lv_at hl 0 rfl) ?_
  refine lv_iload_n hx hb dX8_harvest_2 rfl (lv_at hl 1 rfl) ?_
  refine ce_qi (fw := fun u => u) (fy := fun _ => y) (cr_V (n := 1) (As := [.int (p1)]) (rest := [.ref (y.2 20 0)]) ⟨hx, hb, hml, hown, hts⟩ hK hR (m_X8_isNoVillage hM l0 h) q2109 q2111 qs40 q85 q2112 rfl rfl hd_X8_isNoVillage ⟨Nat.le_of_ble_eq_true rfl, Nat.le_of_ble_eq_true rfl⟩ (rv hK hR l0 (ci := 11) rfl rfl) rfl rfl hl.1 rfl (lv_room (Nat.le_of_ble_eq_true rfl)) dX8_harvest_3 ⟨(Nat.le_of_ble_eq_true rfl), (Nat.le_of_ble_eq_true rfl)⟩) hR hS (fun r_3 w_3 H locs h hR _ hS => ?_)
  refine lv_iconst (v := (1 : Int32)) hx hb dX8_harvest_6 (by decide) ?_
  refine ce_qi (fw := fun u => u) (fy := fun _ => y) (cr_V (n := 2) (As := [.int (r_3), .int ((1 : Int32))]) (rest := []) ⟨hx, hb, hml, hown, hts⟩ hK hR (m_X8_start hM l0 h) q2023 q2025 qs37 q85 q2026 rfl rfl hd_X8_start ⟨Nat.le_of_ble_eq_true rfl, Nat.le_of_ble_eq_true rfl⟩ (rv hK hR l0 (ci := 11) rfl rfl) rfl rfl hl.1 rfl (lv_room (Nat.le_of_ble_eq_true rfl)) dX8_harvest_7 ⟨(Nat.le_of_ble_eq_true rfl), (Nat.le_of_ble_eq_true rfl)⟩) hR hS (fun r_7 w_7 H locs h hR _ hS => ?_)
  refine lv_if_ne (tgt := 36) hx hb dX8_harvest_10 (by decide) (fun c_10 => ?_) (fun c_10 => ?_)
  · have h := h.1 c_10
    refine lv_iconst (v := (0 : Int32)) hx hb dX8_harvest_36 (by decide) ?_
    refine lv_goto (tgt := 55) hx hb dX8_harvest_37 (by decide) ?_
    refine W.widen (k := 0) (n := 0) (Nat.le_of_ble_eq_true rfl) (Nat.le_of_ble_eq_true rfl) ?_
    exact W.iret (v := (0 : Int32)) hx hb hr (fun t ht hW9 => ⟨⟨(0 : Int32), w_7, rfl, h, rpt ht hR⟩, hS.F ht⟩) hS.2.2 dX8_harvest_55
  · have h := h.2 c_10
    refine lv_aload_n hx hb dX8_harvest_13 rfl (lv_at hl 0 rfl) ?_
    refine lv_iload_n hx hb dX8_harvest_14 rfl (lv_at hl 2 rfl) ?_
    refine lv_iconst (v := (0 : Int32)) hx hb dX8_harvest_15 (by decide) ?_
    refine lv_bipush (v := (10 : Int32)) hx hb dX8_harvest_16 (by decide) ?_
    refine ce_qi (fw := fun u => u) (fy := fun _ => y) (cr_S (n := 3) (As := [.int (p2), .int ((0 : Int32)), .int ((10 : Int32))]) (rest := [.ref (y.2 20 0)]) ⟨hx, hb, hml, hown, hts⟩ hK hR (m_X8_isIn hM h) q2020 q2021 q85 q2022 rfl rfl hds_X8_isIn ⟨Nat.le_of_ble_eq_true rfl, Nat.le_of_ble_eq_true rfl⟩ rfl rfl hl.1 rfl (lv_room (Nat.le_of_ble_eq_true rfl)) dX8_harvest_18 ⟨(Nat.le_of_ble_eq_true rfl), (Nat.le_of_ble_eq_true rfl)⟩) hR hS (fun r_18 w_18 H locs h hR _ hS => ?_)
    refine lv_if_ne (tgt := 28) hx hb dX8_harvest_21 (by decide) (fun c_21 => ?_) (fun c_21 => ?_)
    · have h := h.1 c_21
      refine lv_iconst (v := (0 : Int32)) hx hb dX8_harvest_28 (by decide) ?_
      refine lv_iconst (v := (2 : Int32)) hx hb dX8_harvest_29 (by decide) ?_
      refine ce_qi (fw := fun u => u) (fy := fun _ => y) (cr_V (n := 2) (As := [.int ((0 : Int32)), .int ((2 : Int32))]) (rest := []) ⟨hx, hb, hml, hown, hts⟩ hK hR (m_X8_refuse hM l0 h) q2027 q2029 qs38 q85 q2030 rfl rfl hd_X8_refuse ⟨Nat.le_of_ble_eq_true rfl, Nat.le_of_ble_eq_true rfl⟩ (rv hK hR l0 (ci := 11) rfl rfl) rfl rfl hl.1 rfl (lv_room (Nat.le_of_ble_eq_true rfl)) dX8_harvest_30 ⟨(Nat.le_of_ble_eq_true rfl), (Nat.le_of_ble_eq_true rfl)⟩) hR hS (fun r_30 w_30 H locs h hR _ hS => ?_)
      refine lv_if_eq (tgt := 40) hx hb dX8_harvest_33 (by decide) (fun c_33 => ?_) (fun c_33 => ?_)
      · have h := h.1 c_33
        refine lv_aload_n hx hb dX8_harvest_40 rfl (lv_at hl 0 rfl) ?_
        refine g20_3 hx hb hts hown hK hR l0 q1948 dX8_harvest_41 ?_
        refine lv_iload_n hx hb dX8_harvest_44 rfl (lv_at hl 1 rfl) ?_
        have o_45 := h.1
        have h := h.2
        refine jr_get (a := y.2 21 ((p1).toNatClampNeg)) ⟨hx, hb, hml, hown, hts⟩ hK hR ⟨fun _ _ _ _ _ => rfl, fun _ _ _ _ _ => rfl⟩ hM.lsV ⟨hM.arV (Nat.lt_of_le_of_lt (Nat.zero_le _) (vp_lt o_45)), (Nat.le_trans hM.mV8 (by decide))⟩ o_45 (hM.elV (vp_lt o_45)) q2101 ⟨Nat.le_of_ble_eq_true rfl, Nat.le_of_ble_eq_true rfl⟩ hl.1 (Nat.le_of_ble_eq_true rfl) dX8_harvest_45 ⟨(Nat.le_of_ble_eq_true rfl), (Nat.le_of_ble_eq_true rfl)⟩ ?_
        refine jr_castS (ci := 12) hx hb hown hK hts (hR.role (hM.vil (vp_lt o_45))) rfl q2032 dX8_harvest_48 ?_
        refine lv_iload_n hx hb dX8_harvest_51 rfl (lv_at hl 2 rfl) ?_
        refine ce_qi (fw := fun u => u) (fy := fun _ => y) (cr_S (n := 2) (As := [.ref (y.2 21 ((p1).toNatClampNeg)), .int (p2)]) (rest := []) ⟨hx, hb, hml, hown, hts⟩ hK hR (m_X8_yieldOf hM (hM.vil (vp_lt o_45)) h) q2409 q2410 q85 q2411 rfl rfl hds_X8_yieldOf ⟨Nat.le_of_ble_eq_true rfl, Nat.le_of_ble_eq_true rfl⟩ rfl rfl hl.1 rfl (lv_room (Nat.le_of_ble_eq_true rfl)) dX8_harvest_52 ⟨(Nat.le_of_ble_eq_true rfl), (Nat.le_of_ble_eq_true rfl)⟩) hR hS (fun r_52 w_52 H locs h hR _ hS => ?_)
        refine W.widen (k := 0) (n := 0) (Nat.le_of_ble_eq_true rfl) (Nat.le_of_ble_eq_true rfl) ?_
        exact W.iret (v := r_52) hx hb hr (fun t ht hW9 => ⟨⟨r_52, w_52, rfl, h, rpt ht hR⟩, hS.F ht⟩) hS.2.2 dX8_harvest_55
      · have h := h.2 c_33
        refine lv_iconst (v := (0 : Int32)) hx hb dX8_harvest_36 (by decide) ?_
        refine lv_goto (tgt := 55) hx hb dX8_harvest_37 (by decide) ?_
        refine W.widen (k := 0) (n := 0) (Nat.le_of_ble_eq_true rfl) (Nat.le_of_ble_eq_true rfl) ?_
        exact W.iret (v := (0 : Int32)) hx hb hr (fun t ht hW9 => ⟨⟨(0 : Int32), w_30, rfl, h, rpt ht hR⟩, hS.F ht⟩) hS.2.2 dX8_harvest_55
    · have h := h.2 c_21
      refine lv_iconst (v := (1 : Int32)) hx hb dX8_harvest_24 (by decide) ?_
      refine lv_goto (tgt := 29) hx hb dX8_harvest_25 (by decide) ?_
      refine lv_iconst (v := (2 : Int32)) hx hb dX8_harvest_29 (by decide) ?_
      refine ce_qi (fw := fun u => u) (fy := fun _ => y) (cr_V (n := 2) (As := [.int ((1 : Int32)), .int ((2 : Int32))]) (rest := []) ⟨hx, hb, hml, hown, hts⟩ hK hR (m_X8_refuse hM l0 h) q2027 q2029 qs38 q85 q2030 rfl rfl hd_X8_refuse ⟨Nat.le_of_ble_eq_true rfl, Nat.le_of_ble_eq_true rfl⟩ (rv hK hR l0 (ci := 11) rfl rfl) rfl rfl hl.1 rfl (lv_room (Nat.le_of_ble_eq_true rfl)) dX8_harvest_30 ⟨(Nat.le_of_ble_eq_true rfl), (Nat.le_of_ble_eq_true rfl)⟩) hR hS (fun r_30_a w_30_a H locs h hR _ hS => ?_)
      refine lv_if_eq (tgt := 40) hx hb dX8_harvest_33 (by decide) (fun c_33_a => ?_) (fun c_33_a => ?_)
      · have h := h.1 c_33_a
        refine lv_aload_n hx hb dX8_harvest_40 rfl (lv_at hl 0 rfl) ?_
        refine g20_3 hx hb hts hown hK hR l0 q1948 dX8_harvest_41 ?_
        refine lv_iload_n hx hb dX8_harvest_44 rfl (lv_at hl 1 rfl) ?_
        have o_45_a := h.1
        have h := h.2
        refine jr_get (a := y.2 21 ((p1).toNatClampNeg)) ⟨hx, hb, hml, hown, hts⟩ hK hR ⟨fun _ _ _ _ _ => rfl, fun _ _ _ _ _ => rfl⟩ hM.lsV ⟨hM.arV (Nat.lt_of_le_of_lt (Nat.zero_le _) (vp_lt o_45_a)), (Nat.le_trans hM.mV8 (by decide))⟩ o_45_a (hM.elV (vp_lt o_45_a)) q2101 ⟨Nat.le_of_ble_eq_true rfl, Nat.le_of_ble_eq_true rfl⟩ hl.1 (Nat.le_of_ble_eq_true rfl) dX8_harvest_45 ⟨(Nat.le_of_ble_eq_true rfl), (Nat.le_of_ble_eq_true rfl)⟩ ?_
        refine jr_castS (ci := 12) hx hb hown hK hts (hR.role (hM.vil (vp_lt o_45_a))) rfl q2032 dX8_harvest_48 ?_
        refine lv_iload_n hx hb dX8_harvest_51 rfl (lv_at hl 2 rfl) ?_
        refine ce_qi (fw := fun u => u) (fy := fun _ => y) (cr_S (n := 2) (As := [.ref (y.2 21 ((p1).toNatClampNeg)), .int (p2)]) (rest := []) ⟨hx, hb, hml, hown, hts⟩ hK hR (m_X8_yieldOf hM (hM.vil (vp_lt o_45_a)) h) q2409 q2410 q85 q2411 rfl rfl hds_X8_yieldOf ⟨Nat.le_of_ble_eq_true rfl, Nat.le_of_ble_eq_true rfl⟩ rfl rfl hl.1 rfl (lv_room (Nat.le_of_ble_eq_true rfl)) dX8_harvest_52 ⟨(Nat.le_of_ble_eq_true rfl), (Nat.le_of_ble_eq_true rfl)⟩) hR hS (fun r_52_a w_52_a H locs h hR _ hS => ?_)
        refine W.widen (k := 0) (n := 0) (Nat.le_of_ble_eq_true rfl) (Nat.le_of_ble_eq_true rfl) ?_
        exact W.iret (v := r_52_a) hx hb hr (fun t ht hW9 => ⟨⟨r_52_a, w_52_a, rfl, h, rpt ht hR⟩, hS.F ht⟩) hS.2.2 dX8_harvest_55
      · have h := h.2 c_33_a
        refine lv_iconst (v := (0 : Int32)) hx hb dX8_harvest_36 (by decide) ?_
        refine lv_goto (tgt := 55) hx hb dX8_harvest_37 (by decide) ?_
        refine W.widen (k := 0) (n := 0) (Nat.le_of_ble_eq_true rfl) (Nat.le_of_ble_eq_true rfl) ?_
        exact W.iret (v := (0 : Int32)) hx hb hr (fun t ht hW9 => ⟨⟨(0 : Int32), w_30_a, rfl, h, rpt ht hR⟩, hS.F ht⟩) hS.2.2 dX8_harvest_55
abbrev rm_X8_directNow : Room := { frames := 5, cells := 9, slots := 36, locals := 141 }
def st_X8_directNow_4 (κ : Kx) (y : Ly) (post : Int32 → Wd → Prop) (ex : Wd → (Int32) → Prop) (rec : Wd → Int32 → Int32 → Prop) (v1 : Int32) (w : Wd) (v2 : Int32) (v3 : Int32) : Prop := ((nI (mV y) ≤ v3) → (ex w v2)) ∧ ((¬ (nI (mV y) ≤ v3)) → (sp_X8_isLeased κ y (fun r_18 w_18 => ((¬ r_18 = 0) → (∀ x_62 : Int32, x_62 = v3 + (1 : Int32) → rec w_18 v2 x_62)) ∧ ((r_18 = 0) → ((vp_in (v3) (mV y)) ∧ (((¬ gv w_18 21 (((v3).toNatClampNeg)) 10 = 0) → (∀ x_62_a : Int32, x_62_a = v3 + (1 : Int32) → rec w_18 v2 x_62_a)) ∧ ((gv w_18 21 (((v3).toNatClampNeg)) 10 = 0) → (sp_X8_byClerks κ y (fun r_45 w_45 => ((¬ v1 = 0) → (∀ x_61 : Int32, x_61 = v2 + ((r_45 * (1 : Int32)) - (4 : Int32)) → ∀ x_62_b : Int32, x_62_b = v3 + (1 : Int32) → rec w_45 x_61 x_62_b)) ∧ ((v1 = 0) → (∀ x_61_a : Int32, x_61_a = v2 + ((r_45 * (2 : Int32)) - (4 : Int32)) → ∀ x_62_c : Int32, x_62_c = v3 + (1 : Int32) → rec w_45 x_61_a x_62_c))) w_18 v3 v1)))))) w v1 v3))
def sp_X8_directNow_4 (κ : Kx) (y : Ly) (post : Int32 → Wd → Prop) (ex : Wd → (Int32) → Prop) (v1 : Int32) : Nat → Wd → Int32 → Int32 → Prop
  | 0 => fun _ _ _ => False
  | n + 1 => fun w v2 v3 => st_X8_directNow_4 κ y post ex (sp_X8_directNow_4 κ y post ex v1 n) v1 w v2 v3
set_option maxHeartbeats 4000000 in
theorem lp_X8_directNow_4 {p : Program} {l : Launch} {e : Env} {s : State} {m : MethodId} {args : Array Value} {below : List Frame} {meth : Method} {c : Code} {κ : Kx} {y : Ly} {X : XR} {post : Int32 → Wd → Prop} {v1 : Int32} (hx : p.tables.exec = Jvm.exec) (hb : c.code = cX8_directNow) (hr : meth.sig.returnType = (Option.some Jvm.ClassFile.FieldType.int)) (hml : c.maxLocals = 4) (hown : s.vm.findClass RX8 = some m.cls) (hts : ∀ w ∈ lw_all, w.before args s = true) (hlocks : meth.locks = false) (hK : KK κ s) (hM : WFm κ y) (l0 : live y 20 0) {C1 S1 : Nat} (hC : C1 ≤ 9) (hSl : S1 ≤ 36) {ex : Wd → (Int32) → Prop}
    (kx : ∀ (w : Wd) (v2 : Int32) (H : Heap) (locs : List Loc) (ls : Array Slot) (cells slots : Nat) , ex w v2 → Rp κ w y X [] H → va_S (Af κ) s.heap H locs → lv_has ls 4 [(2, .int (v2))] → cells ≤ C1 → slots ≤ S1 → W p l e (headSpec (ws_ yX8_directNow cX8_directNow 4 (Option.some Jvm.ClassFile.FieldType.int)) rm_X8_directNow).room s m args below meth c H locs cells slots (MQ below (va_Qi post (fun w t => Rp κ w y X [] t.heap) (Af κ)) args s 9 36 (Af κ)) (F0 m 68 ls [])) :
    ∀ (f : Nat) (w : Wd) (v2 : Int32) (v3 : Int32) (H : Heap) (locs : List Loc) (ls : Array Slot) (cells slots : Nat)  , sp_X8_directNow_4 κ y post ex v1 f w v2 v3 → Rp κ w y X [] H → va_S (Af κ) s.heap H locs → lv_has ls 4 [(0, .ref (y.2 20 0)), (1, .int (v1)), (2, .int (v2)), (3, .int (v3))] → cells + f * 1 ≤ C1 → slots + f * 4 ≤ S1 → W p l e (headSpec (ws_ yX8_directNow cX8_directNow 4 (Option.some Jvm.ClassFile.FieldType.int)) rm_X8_directNow).room s m args below meth c H locs cells slots (MQ below (va_Qi post (fun w t => Rp κ w y X [] t.heap) (Af κ)) args s 9 36 (Af κ)) (F0 m 4 ls []) := by
  intro f
  induction f with
  | zero =>
    intro w v2 v3 H locs ls cells slots  h
    exact False.elim h
  | succ f ih =>
    intro w v2 v3 H locs ls cells slots  h hR hS hl hc hs
    have h : st_X8_directNow_4 κ y post ex (sp_X8_directNow_4 κ y post ex v1 f) v1 w v2 v3 := h
    unfold st_X8_directNow_4 at h
    refine lv_iload_n hx hb dX8_directNow_4 rfl (lv_at hl 3 rfl) ?_
    refine lv_aload_n hx hb dX8_directNow_5 rfl (lv_at hl 0 rfl) ?_
    refine g20_3 hx hb hts hown hK hR l0 q1948 dX8_directNow_6 ?_
    refine jr_size ⟨hx, hb, hml, hown, hts⟩ hK hR ⟨fun _ _ _ _ _ => rfl, fun _ _ _ _ _ => rfl⟩ hM.lsV q2031 ⟨Nat.le_of_ble_eq_true rfl, Nat.le_of_ble_eq_true rfl⟩ hl.1 (Nat.le_of_ble_eq_true rfl) dX8_directNow_9 ⟨(Nat.le_trans (show cells + 0 ≤ C1 from by omega) hC), (Nat.le_trans (show slots + 0 ≤ S1 from by omega) hSl)⟩ ?_
    refine lv_icmp_ge (tgt := 68) hx hb dX8_directNow_12 (by decide) (fun c_12 => ?_) (fun c_12 => ?_)
    · have h := h.1 c_12
      exact kx w v2 _ _ _ _ _ h hR hS (lv_sub hl [2] rfl) (by omega) (by omega)
    · have h := h.2 c_12
      refine lv_aload_n hx hb dX8_directNow_15 rfl (lv_at hl 0 rfl) ?_
      refine lv_iload_n hx hb dX8_directNow_16 rfl (lv_at hl 1 rfl) ?_
      refine lv_iload_n hx hb dX8_directNow_17 rfl (lv_at hl 3 rfl) ?_
      refine ce_qi (fw := fun u => u) (fy := fun _ => y) (cr_V (n := 2) (As := [.int (v1), .int (v3)]) (rest := []) ⟨hx, hb, hml, hown, hts⟩ hK hR (m_X8_isLeased hM l0 h) q2486 q2488 qs58 q85 q2489 rfl rfl hd_X8_isLeased ⟨Nat.le_of_ble_eq_true rfl, Nat.le_of_ble_eq_true rfl⟩ (rv hK hR l0 (ci := 11) rfl rfl) rfl rfl hl.1 rfl (lv_room (Nat.le_of_ble_eq_true rfl)) dX8_directNow_18 ⟨(Nat.le_trans (show cells + 1 ≤ C1 from by omega) hC), (Nat.le_trans (show slots + 4 ≤ S1 from by omega) hSl)⟩) hR hS (fun r_18 w_18 H locs h hR _ hS => ?_)
      refine lv_if_ne (tgt := 62) hx hb dX8_directNow_21 (by decide) (fun c_21 => ?_) (fun c_21 => ?_)
      · have h := h.1 c_21
        obtain ⟨x_62, ex_62⟩ : ∃ z : Int32, z = v3 + (1 : Int32) := ⟨_, rfl⟩
        have h := h x_62 ex_62
        refine lv_iinc (v := x_62) (lv' := [(3, .int (x_62)), (0, .ref (y.2 20 0)), (1, .int (v1)), (2, .int (v2))]) hx hb dX8_directNow_62 hl (k := 3) rfl (by rw [ex_62]; rfl) (by decide) rfl (fun ls hl => ?_)
        refine lv_goto (tgt := 4) hx hb dX8_directNow_65 (by decide) ?_
        exact ih w_18 v2 x_62 _ _ _ _ _  h hR hS (lv_sub hl [1, 2, 3, 0] rfl) (by omega) (by omega)
      · have h := h.2 c_21
        refine lv_aload_n hx hb dX8_directNow_24 rfl (lv_at hl 0 rfl) ?_
        refine g20_3 hx hb hts hown hK hR l0 q1948 dX8_directNow_25 ?_
        refine lv_iload_n hx hb dX8_directNow_28 rfl (lv_at hl 3 rfl) ?_
        have o_29 := h.1
        have h := h.2
        refine jr_get (a := y.2 21 ((v3).toNatClampNeg)) ⟨hx, hb, hml, hown, hts⟩ hK hR ⟨fun _ _ _ _ _ => rfl, fun _ _ _ _ _ => rfl⟩ hM.lsV ⟨hM.arV (Nat.lt_of_le_of_lt (Nat.zero_le _) (vp_lt o_29)), (Nat.le_trans hM.mV8 (by decide))⟩ o_29 (hM.elV (vp_lt o_29)) q2101 ⟨Nat.le_of_ble_eq_true rfl, Nat.le_of_ble_eq_true rfl⟩ hl.1 (Nat.le_of_ble_eq_true rfl) dX8_directNow_29 ⟨(Nat.le_trans (show cells + 1 + 0 ≤ C1 from by omega) hC), (Nat.le_trans (show slots + 4 + 0 ≤ S1 from by omega) hSl)⟩ ?_
        refine jr_castS (ci := 12) hx hb hown hK hts (hR.role (hM.vil (vp_lt o_29))) rfl q2032 dX8_directNow_32 ?_
        refine g21_10 hx hb hts hown hK hR (hM.vil (vp_lt o_29)) q2051 dX8_directNow_35 ?_
        refine lv_if_ne (tgt := 62) hx hb dX8_directNow_38 (by decide) (fun c_38 => ?_) (fun c_38 => ?_)
        · have h := h.1 c_38
          obtain ⟨x_62_a, ex_62_a⟩ : ∃ z : Int32, z = v3 + (1 : Int32) := ⟨_, rfl⟩
          have h := h x_62_a ex_62_a
          refine lv_iinc (v := x_62_a) (lv' := [(3, .int (x_62_a)), (0, .ref (y.2 20 0)), (1, .int (v1)), (2, .int (v2))]) hx hb dX8_directNow_62 hl (k := 3) rfl (by rw [ex_62_a]; rfl) (by decide) rfl (fun ls hl => ?_)
          refine lv_goto (tgt := 4) hx hb dX8_directNow_65 (by decide) ?_
          exact ih w_18 v2 x_62_a _ _ _ _ _  h hR hS (lv_sub hl [1, 2, 3, 0] rfl) (by omega) (by omega)
        · have h := h.2 c_38
          refine lv_iload_n hx hb dX8_directNow_41 rfl (lv_at hl 2 rfl) ?_
          refine lv_aload_n hx hb dX8_directNow_42 rfl (lv_at hl 0 rfl) ?_
          refine lv_iload_n hx hb dX8_directNow_43 rfl (lv_at hl 3 rfl) ?_
          refine lv_iload_n hx hb dX8_directNow_44 rfl (lv_at hl 1 rfl) ?_
          refine ce_qi (fw := fun u => u) (fy := fun _ => y) (cr_V (n := 2) (As := [.int (v3), .int (v1)]) (rest := [.int (v2)]) ⟨hx, hb, hml, hown, hts⟩ hK hR (m_X8_byClerks hM l0 h) q2490 q2492 qs59 q85 q2493 rfl rfl hd_X8_byClerks ⟨Nat.le_of_ble_eq_true rfl, Nat.le_of_ble_eq_true rfl⟩ (rv hK hR l0 (ci := 11) rfl rfl) rfl rfl hl.1 rfl (lv_room (Nat.le_of_ble_eq_true rfl)) dX8_directNow_45 ⟨(Nat.le_trans (show cells + 1 + 0 ≤ C1 from by omega) hC), (Nat.le_trans (show slots + 4 + 0 ≤ S1 from by omega) hSl)⟩) hR hS (fun r_45 w_45 H locs h hR _ hS => ?_)
          refine lv_iload_n hx hb dX8_directNow_48 rfl (lv_at hl 1 rfl) ?_
          refine lv_if_ne (tgt := 56) hx hb dX8_directNow_49 (by decide) (fun c_49 => ?_) (fun c_49 => ?_)
          · have h := h.1 c_49
            refine lv_iconst (v := (1 : Int32)) hx hb dX8_directNow_56 (by decide) ?_
            refine lv_imul hx hb dX8_directNow_57 ?_
            refine lv_iconst (v := (4 : Int32)) hx hb dX8_directNow_58 (by decide) ?_
            refine lv_isub hx hb dX8_directNow_59 ?_
            refine lv_iadd hx hb dX8_directNow_60 ?_
            refine lv_topi (fun x_61 ex_61 => ?_)
            have h := h x_61 ex_61
            refine lv_istore_n (lv' := [(2, .int (x_61)), (0, .ref (y.2 20 0)), (1, .int (v1)), (3, .int (v3))]) hx hb dX8_directNow_61 rfl hl (by decide) rfl (fun ls hl => ?_)
            obtain ⟨x_62_b, ex_62_b⟩ : ∃ z : Int32, z = v3 + (1 : Int32) := ⟨_, rfl⟩
            have h := h x_62_b ex_62_b
            refine lv_iinc (v := x_62_b) (lv' := [(3, .int (x_62_b)), (2, .int (x_61)), (0, .ref (y.2 20 0)), (1, .int (v1))]) hx hb dX8_directNow_62 hl (k := 3) rfl (by rw [ex_62_b]; rfl) (by decide) rfl (fun ls hl => ?_)
            refine lv_goto (tgt := 4) hx hb dX8_directNow_65 (by decide) ?_
            exact ih w_45 x_61 x_62_b _ _ _ _ _  h hR hS (lv_sub hl [2, 3, 1, 0] rfl) (by omega) (by omega)
          · have h := h.2 c_49
            refine lv_iconst (v := (2 : Int32)) hx hb dX8_directNow_52 (by decide) ?_
            refine lv_goto (tgt := 57) hx hb dX8_directNow_53 (by decide) ?_
            refine lv_imul hx hb dX8_directNow_57 ?_
            refine lv_iconst (v := (4 : Int32)) hx hb dX8_directNow_58 (by decide) ?_
            refine lv_isub hx hb dX8_directNow_59 ?_
            refine lv_iadd hx hb dX8_directNow_60 ?_
            refine lv_topi (fun x_61_a ex_61_a => ?_)
            have h := h x_61_a ex_61_a
            refine lv_istore_n (lv' := [(2, .int (x_61_a)), (0, .ref (y.2 20 0)), (1, .int (v1)), (3, .int (v3))]) hx hb dX8_directNow_61 rfl hl (by decide) rfl (fun ls hl => ?_)
            obtain ⟨x_62_c, ex_62_c⟩ : ∃ z : Int32, z = v3 + (1 : Int32) := ⟨_, rfl⟩
            have h := h x_62_c ex_62_c
            refine lv_iinc (v := x_62_c) (lv' := [(3, .int (x_62_c)), (2, .int (x_61_a)), (0, .ref (y.2 20 0)), (1, .int (v1))]) hx hb dX8_directNow_62 hl (k := 3) rfl (by rw [ex_62_c]; rfl) (by decide) rfl (fun ls hl => ?_)
            refine lv_goto (tgt := 4) hx hb dX8_directNow_65 (by decide) ?_
            exact ih w_45 x_61_a x_62_c _ _ _ _ _  h hR hS (lv_sub hl [2, 3, 1, 0] rfl) (by omega) (by omega)
def sp_X8_directNow (κ : Kx) (y : Ly) (post : Int32 → Wd → Prop) (w : Wd) (p1 : Int32) : Prop := sp_X8_directNow_4 κ y post (fun w_4 y2_4 => post (y2_4) w_4) p1 9 w (0 : Int32) (0 : Int32)
theorem hd_X8_directNow : yX8_directNow.cls = RX8 ∧ yX8_directNow.cls ≠ "java/lang/invoke/MethodHandle" ∧ yX8_directNow.cls ≠ "java/lang/invoke/VarHandle" ∧ (parseMethodDescriptor yX8_directNow.desc).map (fun d => d.parameters.length) = some 1 := by decide +kernel
set_option maxHeartbeats 4000000 in
theorem m_X8_directNow {l : Launch} {κ : Kx} {y : Ly} {X : XR} {post : Int32 → Wd → Prop} {w : Wd} {p1 : Int32}  (hM : WFm κ y) (l0 : live y 20 0) (h : sp_X8_directNow κ y post w p1) : Met l yX8_directNow (ws_ yX8_directNow cX8_directNow 4 (Option.some Jvm.ClassFile.FieldType.int)) rm_X8_directNow (va_Pc [.ref (y.2 20 0), .int (p1)] (RC κ w y X)) (va_Qi post (fun w t => Rp κ w y X [] t.heap) (Af κ)) 9 36 (Af κ) := by
  unfold sp_X8_directNow at h
  refine Met.ofW (cc := cX8_directNow) (maxL := 4) (ret := (Option.some Jvm.ClassFile.FieldType.int)) (by decide) rfl ?_
  intro p e s m args below meth c s₁ B hml hv
  obtain ⟨rfl, hR, hK⟩ := hv
  have hx := B.exec
  have hb := B.bytes
  have hr := B.returns
  have hts := atoms_spec (ws := ws_ yX8_directNow cX8_directNow 4 (Option.some Jvm.ClassFile.FieldType.int)) B.pre
  have hts : ∀ w ∈ lw_all, w.before _ s = true := fun w h => hts w (List.mem_cons_of_mem _ h)
  have hown : s.vm.findClass RX8 = some m.cls := findClass_of_methodNamed B.named
  have hlocks := B.notSynchronized
  have hS : va_S (Af κ) s.heap s.heap [] := va_S.rf
  have hl := lv_entry ([.ref (y.2 20 0), .int (p1)]) (n := 4) (Nat.le_of_ble_eq_true rfl)
  rw [lg_entry_eq]
  generalize (lg_sl ([.ref (y.2 20 0), .int (p1)]) ++ List.replicate (4 - (lg_sl ([.ref (y.2 20 0), .int (p1)])).length) Slot.unset).toArray = ls at hl ⊢
  have hl : lv_has ls 4 [(0, .ref (y.2 20 0)), (1, .int (p1))] := hl
  refine lv_iconst (v := (0 : Int32)) hx hb dX8_directNow_0 (by decide) ?_
  refine lv_istore_n (lv' := [(2, .int ((0 : Int32))), (0, .ref (y.2 20 0)), (1, .int (p1))]) hx hb dX8_directNow_1 rfl hl (by decide) rfl (fun ls hl => ?_)
  refine lv_iconst (v := (0 : Int32)) hx hb dX8_directNow_2 (by decide) ?_
  refine lv_istore_n (lv' := [(3, .int ((0 : Int32))), (2, .int ((0 : Int32))), (0, .ref (y.2 20 0)), (1, .int (p1))]) hx hb dX8_directNow_3 rfl hl (by decide) rfl (fun ls hl => ?_)
  refine lp_X8_directNow_4 (C1 := 9) (S1 := 36) hx hb hr hml hown hts hlocks hK hM l0 (Nat.le_of_ble_eq_true rfl) (Nat.le_of_ble_eq_true rfl) (fun w_4 y2_4 H locs ls cells9 slots9 h hR hS hl hc9 hs9 => ?_) 9 w (0 : Int32) (0 : Int32) _ _ _ _ _  h hR hS (lv_sub hl [2, 3, 1, 0] rfl) (by omega) (by omega)
  refine W.widen (k := 9) (n := 36) hc9 hs9 ?_
  refine lv_iload_n hx hb dX8_directNow_68 rfl (lv_at hl 0 rfl) ?_
  refine W.widen (k := 9) (n := 36) (Nat.le_of_ble_eq_true rfl) (Nat.le_of_ble_eq_true rfl) ?_
  exact W.iret (v := y2_4) hx hb hr (fun t ht hW9 => ⟨⟨y2_4, w_4, rfl, h, rpt ht hR⟩, hS.F ht⟩) hS.2.2 dX8_directNow_69
abbrev rm_X8_isSoundNow : Room := { frames := 5, cells := 6, slots := 24, locals := 114 }
def st_X8_isSoundNow_47 (κ : Kx) (y : Ly) (post : Int32 → Wd → Prop) (ex : Wd → (Int64) → (Int32) → Prop) (rec : Wd → Int64 → Int32 → Nat → Int32 → Prop)  (w : Wd) (v1 : Int64) (v3 : Int32) (c4 : Nat) (z4 : Int32) : Prop := ((¬ (¬ c4 = mV y)) → (ex w v1 v3)) ∧ (((¬ c4 = mV y)) → (∀ x_77 : Int64, x_77 = v1 + ((gv w 21 c4 5).toInt64) → ∀ j92 : Wd → Int32 → Int32 → Prop, (j92 = fun (w92 : Wd) (s0_92 : Int32) (s1_92 : Int32) => ∀ x_93 : Int32, x_93 = s1_92 &&& s0_92 → rec w92 x_77 x_93 (c4 + 1) (nI c4)) → (((gv w 21 c4 5 < 0) → (j92 w (0 : Int32) v3)) ∧ ((¬ (gv w 21 c4 5 < 0)) → (j92 w (1 : Int32) v3)))))
def sp_X8_isSoundNow_47 (κ : Kx) (y : Ly) (post : Int32 → Wd → Prop) (ex : Wd → (Int64) → (Int32) → Prop)  : Nat → Wd → Int64 → Int32 → Nat → Int32 → Prop
  | 0 => fun _ _ _ _ _ => False
  | n + 1 => fun w v1 v3 c4 z4 => st_X8_isSoundNow_47 κ y post ex (sp_X8_isSoundNow_47 κ y post ex  n)  w v1 v3 c4 z4
set_option maxHeartbeats 4000000 in
theorem lp_X8_isSoundNow_47 {p : Program} {l : Launch} {e : Env} {s : State} {m : MethodId} {args : Array Value} {below : List Frame} {meth : Method} {c : Code} {κ : Kx} {y : Ly} {X : XR} {post : Int32 → Wd → Prop} {q4 : Nat} (hx : p.tables.exec = Jvm.exec) (hb : c.code = cX8_isSoundNow) (hr : meth.sig.returnType = (Option.some Jvm.ClassFile.FieldType.boolean)) (hml : c.maxLocals = 7) (hown : s.vm.findClass RX8 = some m.cls) (hts : ∀ w ∈ lw_all, w.before args s = true) (hlocks : meth.locks = false) (hK : KK κ s) (hM : WFm κ y) (l0 : live y 20 0) {C1 S1 : Nat} (hC : C1 ≤ 6) (hSl : S1 ≤ 24) {ex : Wd → (Int64) → (Int32) → Prop}
    (kx : ∀ (w : Wd) (v1 : Int64) (v3 : Int32) (H : Heap) (locs : List Loc) (ls : Array Slot) (cells slots : Nat) , ex w v1 v3 → Rp κ w y X [] H → va_S (Af κ) s.heap H locs → lv_has ls 7 [(0, .ref (y.2 20 0)), (1, .long (v1)), (3, .int (v3))] → cells ≤ C1 → slots ≤ S1 → W p l e (headSpec (ws_ yX8_isSoundNow cX8_isSoundNow 7 (Option.some Jvm.ClassFile.FieldType.boolean)) rm_X8_isSoundNow).room s m args below meth c H locs cells slots (MQ below (va_Qi post (fun w t => Rp κ w y X [] t.heap) (Af κ)) args s 6 24 (Af κ)) (F0 m 97 ls [])) :
    ∀ (f : Nat) (w : Wd) (v1 : Int64) (v3 : Int32) (c4 : Nat) (z4 : Int32) (H : Heap) (locs : List Loc) (ls : Array Slot) (cells slots : Nat)  (hc4 : c4 ≤ mV y), sp_X8_isSoundNow_47 κ y post ex  f w v1 v3 c4 z4 → Rp κ w y X [(q4, itC y 50 0 c4 z4)] H → va_S (Af κ) s.heap H locs → lv_has ls 7 [(0, .ref (y.2 20 0)), (1, .long (v1)), (3, .int (v3)), (4, .ref (q4))] → cells + f * 0 ≤ C1 → slots + f * 0 ≤ S1 → W p l e (headSpec (ws_ yX8_isSoundNow cX8_isSoundNow 7 (Option.some Jvm.ClassFile.FieldType.boolean)) rm_X8_isSoundNow).room s m args below meth c H locs cells slots (MQ below (va_Qi post (fun w t => Rp κ w y X [] t.heap) (Af κ)) args s 6 24 (Af κ)) (F0 m 47 ls []) := by
  intro f
  induction f with
  | zero =>
    intro w v1 v3 c4 z4 H locs ls cells slots hc4 h
    exact False.elim h
  | succ f ih =>
    intro w v1 v3 c4 z4 H locs ls cells slots hc4 h hR hS hl hc hs
    have h : st_X8_isSoundNow_47 κ y post ex (sp_X8_isSoundNow_47 κ y post ex  f)  w v1 v3 c4 z4 := h
    unfold st_X8_isSoundNow_47 at h
    refine lv_aload hx hb dX8_isSoundNow_47 (lv_at hl 3 rfl) ?_
    refine jr_hasNext (t := 0) ⟨hx, hb, hml, hown, hts⟩ hK hR rfl ⟨fun _ _ _ _ _ => rfl, fun _ _ _ _ _ => rfl⟩ hM.lsV (by omega) (Nat.le_trans hM.mV8 (by decide)) q2250 ⟨Nat.le_of_ble_eq_true rfl, Nat.le_of_ble_eq_true rfl⟩ hl.1 (Nat.le_of_ble_eq_true rfl) dX8_isSoundNow_49 ⟨(Nat.le_trans (show cells + 0 ≤ C1 from by omega) hC), (Nat.le_trans (show slots + 0 ≤ S1 from by omega) hSl)⟩ ?_
    refine lv_if_eq (tgt := 97) hx hb dX8_isSoundNow_54 (by decide) (fun c_54 => ?_) (fun c_54 => ?_)
    · replace c_54 : ¬ (¬ c4 = mV y) := bi_0.mp c_54
      have h := h.1 c_54
      have hR := hR.sub (L' := []) [] rfl rfl
      exact kx w v1 v3 _ _ _ _ _ h hR hS (lv_sub hl [0, 1, 2] rfl) (by omega) (by omega)
    · replace c_54 : (¬ c4 = mV y) := bi_n0.mp c_54
      have h := h.2 c_54
      refine lv_aload hx hb dX8_isSoundNow_57 (lv_at hl 3 rfl) ?_
      have hn_59 : c4 < mV y := by omega
      refine jr_next (t := 0) (a := y.2 21 c4) ⟨hx, hb, hml, hown, hts⟩ hK hR hS rfl ⟨fun _ _ _ _ _ => rfl, fun _ _ _ _ _ => rfl⟩ hM.lsV ⟨hM.arV (Nat.lt_of_le_of_lt (Nat.zero_le _) hn_59), (Nat.le_trans hM.mV8 (by decide))⟩ hn_59 (hM.elV hn_59) q2252 ⟨Nat.le_of_ble_eq_true rfl, Nat.le_of_ble_eq_true rfl⟩ hl.1 (Nat.le_of_ble_eq_true rfl) dX8_isSoundNow_59 ⟨(Nat.le_trans (show cells + 0 ≤ C1 from by omega) hC), (Nat.le_trans (show slots + 0 ≤ S1 from by omega) hSl)⟩ (fun H locs hR hS => ?_)
      have hR : Rp κ w y X [(q4, itC y 50 0 (c4 + 1) (nI c4))] H := hR
      refine jr_castS (ci := 12) hx hb hown hK hts (hR.role (hM.vil hn_59)) rfl q2032 dX8_isSoundNow_64 ?_
      refine lv_astore (lv' := [(5, .ref (y.2 21 c4)), (0, .ref (y.2 20 0)), (1, .long (v1)), (3, .int (v3)), (4, .ref (q4))]) hx hb dX8_isSoundNow_67 hl (by decide) rfl (fun ls hl => ?_)
      refine lv_lload_n hx hb dX8_isSoundNow_69 rfl (lv_at hl 2 rfl) ?_
      refine lv_aload hx hb dX8_isSoundNow_70 (lv_at hl 0 rfl) ?_
      refine g21_5 hx hb hts hown hK hR (hM.vil hn_59) q2045 dX8_isSoundNow_72 ?_
      refine lv_i2l hx hb dX8_isSoundNow_75 rfl ?_
      refine lv_ladd hx hb dX8_isSoundNow_76 ?_
      refine lv_topl (fun x_77 ex_77 => ?_)
      have h := h x_77 ex_77
      refine lv_lstore_n (lv' := [(1, .long (x_77)), (5, .ref (y.2 21 c4)), (0, .ref (y.2 20 0)), (3, .int (v3)), (4, .ref (q4))]) hx hb dX8_isSoundNow_77 rfl hl (by decide) rfl (fun ls hl => ?_)
      refine lv_iload_n hx hb dX8_isSoundNow_78 rfl (lv_at hl 3 rfl) ?_
      refine lv_aload hx hb dX8_isSoundNow_79 (lv_at hl 1 rfl) ?_
      refine g21_5 hx hb hts hown hK hR (hM.vil hn_59) q2045 dX8_isSoundNow_81 ?_
      refine jn_elim h (fun j92 ej92 h => ?_)
      have Jj92 : ∀ (w92 : Wd) (s0_92 : Int32) (s1_92 : Int32) (H : Heap) (locs : List Loc) (ls : Array Slot), j92 w92 s0_92 s1_92 → Rp κ w92 y X [(q4, itC y 50 0 (c4 + 1) (nI c4))] H → va_S (Af κ) s.heap H locs → lv_has ls 7 [(1, .long (x_77)), (0, .ref (y.2 20 0)), (4, .ref (q4))] → W p l e (headSpec (ws_ yX8_isSoundNow cX8_isSoundNow 7 (Option.some Jvm.ClassFile.FieldType.boolean)) rm_X8_isSoundNow).room s m args below meth c H locs (cells + 0) (slots + 0) (MQ below (va_Qi post (fun w t => Rp κ w y X [] t.heap) (Af κ)) args s 6 24 (Af κ)) (F0 m 92 ls [.int (s0_92), .int (s1_92)]) := by
        clear h
        intro w92 s0_92 s1_92 H locs ls h hR hS hl
        subst ej92
        refine lv_iand hx hb dX8_isSoundNow_92 ?_
        refine lv_topi (fun x_93 ex_93 => ?_)
        have h := h x_93 ex_93
        refine lv_istore_n (lv' := [(3, .int (x_93)), (1, .long (x_77)), (0, .ref (y.2 20 0)), (4, .ref (q4))]) hx hb dX8_isSoundNow_93 rfl hl (by decide) rfl (fun ls hl => ?_)
        refine lv_goto (tgt := 47) hx hb dX8_isSoundNow_94 (by decide) ?_
        exact ih w92 x_77 x_93 (c4 + 1) (nI c4) _ _ _ _ _ (by omega) h hR hS (lv_sub hl [2, 1, 0, 3] rfl) (by omega) (by omega)
      refine lv_if_lt (tgt := 91) hx hb dX8_isSoundNow_84 (by decide) (fun c_84 => ?_) (fun c_84 => ?_)
      · have h := h.1 c_84
        refine lv_iconst (v := (0 : Int32)) hx hb dX8_isSoundNow_91 (by decide) ?_
        refine W.widen (k := cells + 0) (n := slots + 0) (by omega) (by omega) ?_
        exact Jj92 w (0 : Int32) v3 _ _ _ h hR hS (lv_sub hl [0, 2, 4] rfl)
      · have h := h.2 c_84
        refine lv_iconst (v := (1 : Int32)) hx hb dX8_isSoundNow_87 (by decide) ?_
        refine lv_goto (tgt := 92) hx hb dX8_isSoundNow_88 (by decide) ?_
        refine W.widen (k := cells + 0) (n := slots + 0) (by omega) (by omega) ?_
        exact Jj92 w (1 : Int32) v3 _ _ _ h hR hS (lv_sub hl [0, 2, 4] rfl)
def st_X8_isSoundNow_100 (κ : Kx) (y : Ly) (post : Int32 → Wd → Prop) (ex : Wd → (Int64) → (Int32) → Prop) (rec : Wd → Int64 → Int32 → Int32 → Prop)  (w : Wd) (v1 : Int64) (v3 : Int32) (v4 : Int32) : Prop := ((nI (mC y) ≤ v4) → (ex w v1 v3)) ∧ ((¬ (nI (mC y) ≤ v4)) → ((vp_in (v4) (mC y)) ∧ (∀ x_130 : Int64, x_130 = v1 + ((gv w 26 (((v4).toNatClampNeg)) 1).toInt64) → (vp_in (v4) (mC y)) ∧ (∀ j164 : Wd → Int32 → Int32 → Prop, (j164 = fun (w164 : Wd) (s0_164 : Int32) (s1_164 : Int32) => ∀ x_165 : Int32, x_165 = s1_164 &&& s0_164 → ∀ x_166 : Int32, x_166 = v4 + (1 : Int32) → rec w164 x_130 x_165 x_166) → (((gv w 26 (((v4).toNatClampNeg)) 1 < 0) → (j164 w (0 : Int32) v3)) ∧ ((¬ (gv w 26 (((v4).toNatClampNeg)) 1 < 0)) → (sp_X8_free κ y (fun r_153 w_153 => ((r_153 < 0) → (j164 w_153 (0 : Int32) v3)) ∧ ((¬ (r_153 < 0)) → (j164 w_153 (1 : Int32) v3))) w v4)))))))
def sp_X8_isSoundNow_100 (κ : Kx) (y : Ly) (post : Int32 → Wd → Prop) (ex : Wd → (Int64) → (Int32) → Prop)  : Nat → Wd → Int64 → Int32 → Int32 → Prop
  | 0 => fun _ _ _ _ => False
  | n + 1 => fun w v1 v3 v4 => st_X8_isSoundNow_100 κ y post ex (sp_X8_isSoundNow_100 κ y post ex  n)  w v1 v3 v4
set_option maxHeartbeats 4000000 in
theorem lp_X8_isSoundNow_100 {p : Program} {l : Launch} {e : Env} {s : State} {m : MethodId} {args : Array Value} {below : List Frame} {meth : Method} {c : Code} {κ : Kx} {y : Ly} {X : XR} {post : Int32 → Wd → Prop}  (hx : p.tables.exec = Jvm.exec) (hb : c.code = cX8_isSoundNow) (hr : meth.sig.returnType = (Option.some Jvm.ClassFile.FieldType.boolean)) (hml : c.maxLocals = 7) (hown : s.vm.findClass RX8 = some m.cls) (hts : ∀ w ∈ lw_all, w.before args s = true) (hlocks : meth.locks = false) (hK : KK κ s) (hM : WFm κ y) (l0 : live y 20 0) {C1 S1 : Nat} (hC : C1 ≤ 6) (hSl : S1 ≤ 24) {ex : Wd → (Int64) → (Int32) → Prop}
    (kx : ∀ (w : Wd) (v1 : Int64) (v3 : Int32) (H : Heap) (locs : List Loc) (ls : Array Slot) (cells slots : Nat) , ex w v1 v3 → Rp κ w y X [] H → va_S (Af κ) s.heap H locs → lv_has ls 7 [(0, .ref (y.2 20 0)), (1, .long (v1)), (3, .int (v3))] → cells ≤ C1 → slots ≤ S1 → W p l e (headSpec (ws_ yX8_isSoundNow cX8_isSoundNow 7 (Option.some Jvm.ClassFile.FieldType.boolean)) rm_X8_isSoundNow).room s m args below meth c H locs cells slots (MQ below (va_Qi post (fun w t => Rp κ w y X [] t.heap) (Af κ)) args s 6 24 (Af κ)) (F0 m 172 ls [])) :
    ∀ (f : Nat) (w : Wd) (v1 : Int64) (v3 : Int32) (v4 : Int32) (H : Heap) (locs : List Loc) (ls : Array Slot) (cells slots : Nat)  , sp_X8_isSoundNow_100 κ y post ex  f w v1 v3 v4 → Rp κ w y X [] H → va_S (Af κ) s.heap H locs → lv_has ls 7 [(0, .ref (y.2 20 0)), (1, .long (v1)), (3, .int (v3)), (4, .int (v4))] → cells + f * 1 ≤ C1 → slots + f * 4 ≤ S1 → W p l e (headSpec (ws_ yX8_isSoundNow cX8_isSoundNow 7 (Option.some Jvm.ClassFile.FieldType.boolean)) rm_X8_isSoundNow).room s m args below meth c H locs cells slots (MQ below (va_Qi post (fun w t => Rp κ w y X [] t.heap) (Af κ)) args s 6 24 (Af κ)) (F0 m 100 ls []) := by
  intro f
  induction f with
  | zero =>
    intro w v1 v3 v4 H locs ls cells slots  h
    exact False.elim h
  | succ f ih =>
    intro w v1 v3 v4 H locs ls cells slots  h hR hS hl hc hs
    have h : st_X8_isSoundNow_100 κ y post ex (sp_X8_isSoundNow_100 κ y post ex  f)  w v1 v3 v4 := h
    unfold st_X8_isSoundNow_100 at h
    refine lv_iload hx hb dX8_isSoundNow_100 (lv_at hl 3 rfl) ?_
    refine lv_aload_n hx hb dX8_isSoundNow_102 rfl (lv_at hl 0 rfl) ?_
    refine g20_4 hx hb hts hown hK hR l0 q1949 dX8_isSoundNow_103 ?_
    refine jr_size ⟨hx, hb, hml, hown, hts⟩ hK hR ⟨fun _ _ _ _ _ => rfl, fun _ _ _ _ _ => rfl⟩ hM.lsC q2031 ⟨Nat.le_of_ble_eq_true rfl, Nat.le_of_ble_eq_true rfl⟩ hl.1 (Nat.le_of_ble_eq_true rfl) dX8_isSoundNow_106 ⟨(Nat.le_trans (show cells + 0 ≤ C1 from by omega) hC), (Nat.le_trans (show slots + 0 ≤ S1 from by omega) hSl)⟩ ?_
    refine lv_icmp_ge (tgt := 172) hx hb dX8_isSoundNow_109 (by decide) (fun c_109 => ?_) (fun c_109 => ?_)
    · have h := h.1 c_109
      exact kx w v1 v3 _ _ _ _ _ h hR hS (lv_sub hl [0, 1, 2] rfl) (by omega) (by omega)
    · have h := h.2 c_109
      refine lv_lload_n hx hb dX8_isSoundNow_112 rfl (lv_at hl 1 rfl) ?_
      refine lv_aload_n hx hb dX8_isSoundNow_113 rfl (lv_at hl 0 rfl) ?_
      refine g20_4 hx hb hts hown hK hR l0 q1949 dX8_isSoundNow_114 ?_
      refine lv_iload hx hb dX8_isSoundNow_117 (lv_at hl 3 rfl) ?_
      have o_119 := h.1
      have h := h.2
      refine jr_get (a := y.2 26 ((v4).toNatClampNeg)) ⟨hx, hb, hml, hown, hts⟩ hK hR ⟨fun _ _ _ _ _ => rfl, fun _ _ _ _ _ => rfl⟩ hM.lsC ⟨hM.arC (Nat.lt_of_le_of_lt (Nat.zero_le _) (vp_lt o_119)), (Nat.le_trans hM.mC4 (by decide))⟩ o_119 (hM.elC (vp_lt o_119)) q2101 ⟨Nat.le_of_ble_eq_true rfl, Nat.le_of_ble_eq_true rfl⟩ hl.1 (Nat.le_of_ble_eq_true rfl) dX8_isSoundNow_119 ⟨(Nat.le_trans (show cells + 0 ≤ C1 from by omega) hC), (Nat.le_trans (show slots + 0 ≤ S1 from by omega) hSl)⟩ ?_
      refine jr_castS (ci := 13) hx hb hown hK hts (hR.role (hM.com (vp_lt o_119))) rfl q2141 dX8_isSoundNow_122 ?_
      refine g26_1 hx hb hts hown hK hR (hM.com (vp_lt o_119)) q2150 dX8_isSoundNow_125 ?_
      refine lv_i2l hx hb dX8_isSoundNow_128 rfl ?_
      refine lv_ladd hx hb dX8_isSoundNow_129 ?_
      refine lv_topl (fun x_130 ex_130 => ?_)
      have h := h x_130 ex_130
      refine lv_lstore_n (lv' := [(1, .long (x_130)), (0, .ref (y.2 20 0)), (3, .int (v3)), (4, .int (v4))]) hx hb dX8_isSoundNow_130 rfl hl (by decide) rfl (fun ls hl => ?_)
      refine lv_iload_n hx hb dX8_isSoundNow_131 rfl (lv_at hl 2 rfl) ?_
      refine lv_aload_n hx hb dX8_isSoundNow_132 rfl (lv_at hl 1 rfl) ?_
      refine g20_4 hx hb hts hown hK hR l0 q1949 dX8_isSoundNow_133 ?_
      refine lv_iload hx hb dX8_isSoundNow_136 (lv_at hl 3 rfl) ?_
      have o_138 := h.1
      have h := h.2
      refine jr_get (a := y.2 26 ((v4).toNatClampNeg)) ⟨hx, hb, hml, hown, hts⟩ hK hR ⟨fun _ _ _ _ _ => rfl, fun _ _ _ _ _ => rfl⟩ hM.lsC ⟨hM.arC (Nat.lt_of_le_of_lt (Nat.zero_le _) (vp_lt o_138)), (Nat.le_trans hM.mC4 (by decide))⟩ o_138 (hM.elC (vp_lt o_138)) q2101 ⟨Nat.le_of_ble_eq_true rfl, Nat.le_of_ble_eq_true rfl⟩ hl.1 (Nat.le_of_ble_eq_true rfl) dX8_isSoundNow_138 ⟨(Nat.le_trans (show cells + 0 ≤ C1 from by omega) hC), (Nat.le_trans (show slots + 0 ≤ S1 from by omega) hSl)⟩ ?_
      refine jr_castS (ci := 13) hx hb hown hK hts (hR.role (hM.com (vp_lt o_138))) rfl q2141 dX8_isSoundNow_141 ?_
      refine g26_1 hx hb hts hown hK hR (hM.com (vp_lt o_138)) q2150 dX8_isSoundNow_144 ?_
      refine jn_elim h (fun j164 ej164 h => ?_)
      have Jj164 : ∀ (w164 : Wd) (s0_164 : Int32) (s1_164 : Int32) (H : Heap) (locs : List Loc) (ls : Array Slot), j164 w164 s0_164 s1_164 → Rp κ w164 y X [] H → va_S (Af κ) s.heap H locs → lv_has ls 7 [(1, .long (x_130)), (0, .ref (y.2 20 0)), (4, .int (v4))] → W p l e (headSpec (ws_ yX8_isSoundNow cX8_isSoundNow 7 (Option.some Jvm.ClassFile.FieldType.boolean)) rm_X8_isSoundNow).room s m args below meth c H locs (cells + 1) (slots + 4) (MQ below (va_Qi post (fun w t => Rp κ w y X [] t.heap) (Af κ)) args s 6 24 (Af κ)) (F0 m 164 ls [.int (s0_164), .int (s1_164)]) := by
        clear h
        intro w164 s0_164 s1_164 H locs ls h hR hS hl
        subst ej164
        refine lv_iand hx hb dX8_isSoundNow_164 ?_
        refine lv_topi (fun x_165 ex_165 => ?_)
        have h := h x_165 ex_165
        refine lv_istore_n (lv' := [(3, .int (x_165)), (1, .long (x_130)), (0, .ref (y.2 20 0)), (4, .int (v4))]) hx hb dX8_isSoundNow_165 rfl hl (by decide) rfl (fun ls hl => ?_)
        obtain ⟨x_166, ex_166⟩ : ∃ z : Int32, z = v4 + (1 : Int32) := ⟨_, rfl⟩
        have h := h x_166 ex_166
        refine lv_iinc (v := x_166) (lv' := [(4, .int (x_166)), (3, .int (x_165)), (1, .long (x_130)), (0, .ref (y.2 20 0))]) hx hb dX8_isSoundNow_166 hl (k := 3) rfl (by rw [ex_166]; rfl) (by decide) rfl (fun ls hl => ?_)
        refine lv_goto (tgt := 100) hx hb dX8_isSoundNow_169 (by decide) ?_
        exact ih w164 x_130 x_165 x_166 _ _ _ _ _  h hR hS (lv_sub hl [3, 2, 1, 0] rfl) (by omega) (by omega)
      refine lv_if_lt (tgt := 163) hx hb dX8_isSoundNow_147 (by decide) (fun c_147 => ?_) (fun c_147 => ?_)
      · have h := h.1 c_147
        refine lv_iconst (v := (0 : Int32)) hx hb dX8_isSoundNow_163 (by decide) ?_
        refine W.widen (k := cells + 1) (n := slots + 4) (by omega) (by omega) ?_
        exact Jj164 w (0 : Int32) v3 _ _ _ h hR hS (lv_sub hl [0, 1, 3] rfl)
      · have h := h.2 c_147
        refine lv_aload_n hx hb dX8_isSoundNow_150 rfl (lv_at hl 1 rfl) ?_
        refine lv_iload hx hb dX8_isSoundNow_151 (lv_at hl 3 rfl) ?_
        refine ce_qi (fw := fun u => u) (fy := fun _ => y) (cr_V (n := 1) (As := [.int (v4)]) (rest := [.int (v3)]) ⟨hx, hb, hml, hown, hts⟩ hK hR (m_X8_free hM l0 h) q2312 q2314 qs45 q85 q2315 rfl rfl hd_X8_free ⟨Nat.le_of_ble_eq_true rfl, Nat.le_of_ble_eq_true rfl⟩ (rv hK hR l0 (ci := 11) rfl rfl) rfl rfl hl.1 rfl (lv_room (Nat.le_of_ble_eq_true rfl)) dX8_isSoundNow_153 ⟨(Nat.le_trans (show cells + 1 ≤ C1 from by omega) hC), (Nat.le_trans (show slots + 4 ≤ S1 from by omega) hSl)⟩) hR hS (fun r_153 w_153 H locs h hR _ hS => ?_)
        refine lv_if_lt (tgt := 163) hx hb dX8_isSoundNow_156 (by decide) (fun c_156 => ?_) (fun c_156 => ?_)
        · have h := h.1 c_156
          refine lv_iconst (v := (0 : Int32)) hx hb dX8_isSoundNow_163 (by decide) ?_
          refine W.widen (k := cells + 1) (n := slots + 4) (by omega) (by omega) ?_
          exact Jj164 w_153 (0 : Int32) v3 _ _ _ h hR hS (lv_sub hl [0, 1, 3] rfl)
        · have h := h.2 c_156
          refine lv_iconst (v := (1 : Int32)) hx hb dX8_isSoundNow_159 (by decide) ?_
          refine lv_goto (tgt := 164) hx hb dX8_isSoundNow_160 (by decide) ?_
          refine W.widen (k := cells + 1) (n := slots + 4) (by omega) (by omega) ?_
          exact Jj164 w_153 (1 : Int32) v3 _ _ _ h hR hS (lv_sub hl [0, 1, 3] rfl)
def st_X8_isSoundNow_251 (κ : Kx) (y : Ly) (post : Int32 → Wd → Prop) (ex : Wd → (Int32) → Prop) (rec : Wd → Int32 → Int32 → Prop) (v1 : Int64) (v4 : Int32) (i5 : Nat) (w : Wd) (v3 : Int32) (v6 : Int32) : Prop := ((v4 ≤ v6) → (ex w v3)) ∧ ((¬ (v4 ≤ v6)) → (∀ j339 : Wd → Int32 → Int32 → Prop, (j339 = fun (w339 : Wd) (s0_339 : Int32) (s1_339 : Int32) => ∀ x_340 : Int32, x_340 = s1_339 &&& s0_339 → ∀ x_341 : Int32, x_341 = v6 + (1 : Int32) → rec w339 x_340 x_341) → ((((1 : Int32) < gv w 27 i5 4) → (j339 w (1 : Int32) v3)) ∧ ((¬ ((1 : Int32) < gv w 27 i5 4)) → ((vp_in (v6) (mL y)) ∧ ((((1 : Int32) < gv w 27 (((v6).toNatClampNeg)) 4) → (j339 w (1 : Int32) v3)) ∧ ((¬ ((1 : Int32) < gv w 27 (((v6).toNatClampNeg)) 4)) → ((vp_in (v6) (mL y)) ∧ (((¬ gv w 27 i5 0 = gv w 27 (((v6).toNatClampNeg)) 0) → (j339 w (1 : Int32) v3)) ∧ ((gv w 27 i5 0 = gv w 27 (((v6).toNatClampNeg)) 0) → ((vp_in (v6) (mL y)) ∧ (((¬ (gv w 27 i5 1) &&& (gv w 27 (((v6).toNatClampNeg)) 1) = 0) → (j339 w (0 : Int32) v3)) ∧ (((gv w 27 i5 1) &&& (gv w 27 (((v6).toNatClampNeg)) 1) = 0) → (j339 w (1 : Int32) v3))))))))))))))
def sp_X8_isSoundNow_251 (κ : Kx) (y : Ly) (post : Int32 → Wd → Prop) (ex : Wd → (Int32) → Prop) (v1 : Int64) (v4 : Int32) (i5 : Nat) : Nat → Wd → Int32 → Int32 → Prop
  | 0 => fun _ _ _ => False
  | n + 1 => fun w v3 v6 => st_X8_isSoundNow_251 κ y post ex (sp_X8_isSoundNow_251 κ y post ex v1 v4 i5 n) v1 v4 i5 w v3 v6
set_option maxHeartbeats 4000000 in
theorem lp_X8_isSoundNow_251 {p : Program} {l : Launch} {e : Env} {s : State} {m : MethodId} {args : Array Value} {below : List Frame} {meth : Method} {c : Code} {κ : Kx} {y : Ly} {X : XR} {post : Int32 → Wd → Prop} {v1 : Int64} {v4 : Int32} {i5 : Nat} (hx : p.tables.exec = Jvm.exec) (hb : c.code = cX8_isSoundNow) (hr : meth.sig.returnType = (Option.some Jvm.ClassFile.FieldType.boolean)) (hml : c.maxLocals = 7) (hown : s.vm.findClass RX8 = some m.cls) (hts : ∀ w ∈ lw_all, w.before args s = true) (hlocks : meth.locks = false) (hK : KK κ s) (hM : WFm κ y) (l0 : live y 20 0) (l5 : live y 27 i5) {C1 S1 : Nat} (hC : C1 ≤ 6) (hSl : S1 ≤ 24) {ex : Wd → (Int32) → Prop}
    (kx : ∀ (w : Wd) (v3 : Int32) (H : Heap) (locs : List Loc) (ls : Array Slot) (cells slots : Nat) , ex w v3 → Rp κ w y X [] H → va_S (Af κ) s.heap H locs → lv_has ls 7 [(0, .ref (y.2 20 0)), (1, .long (v1)), (3, .int (v3)), (4, .int (v4))] → cells ≤ C1 → slots ≤ S1 → W p l e (headSpec (ws_ yX8_isSoundNow cX8_isSoundNow 7 (Option.some Jvm.ClassFile.FieldType.boolean)) rm_X8_isSoundNow).room s m args below meth c H locs cells slots (MQ below (va_Qi post (fun w t => Rp κ w y X [] t.heap) (Af κ)) args s 6 24 (Af κ)) (F0 m 347 ls [])) :
    ∀ (f : Nat) (w : Wd) (v3 : Int32) (v6 : Int32) (H : Heap) (locs : List Loc) (ls : Array Slot) (cells slots : Nat)  , sp_X8_isSoundNow_251 κ y post ex v1 v4 i5 f w v3 v6 → Rp κ w y X [] H → va_S (Af κ) s.heap H locs → lv_has ls 7 [(0, .ref (y.2 20 0)), (1, .long (v1)), (3, .int (v3)), (4, .int (v4)), (5, .ref (y.2 27 i5)), (6, .int (v6))] → cells + f * 0 ≤ C1 → slots + f * 0 ≤ S1 → W p l e (headSpec (ws_ yX8_isSoundNow cX8_isSoundNow 7 (Option.some Jvm.ClassFile.FieldType.boolean)) rm_X8_isSoundNow).room s m args below meth c H locs cells slots (MQ below (va_Qi post (fun w t => Rp κ w y X [] t.heap) (Af κ)) args s 6 24 (Af κ)) (F0 m 251 ls []) := by
  intro f
  induction f with
  | zero =>
    intro w v3 v6 H locs ls cells slots  h
    exact False.elim h
  | succ f ih =>
    intro w v3 v6 H locs ls cells slots  h hR hS hl hc hs
    have h : st_X8_isSoundNow_251 κ y post ex (sp_X8_isSoundNow_251 κ y post ex v1 v4 i5 f) v1 v4 i5 w v3 v6 := h
    unfold st_X8_isSoundNow_251 at h
    refine lv_iload hx hb dX8_isSoundNow_251 (lv_at hl 5 rfl) ?_
    refine lv_iload hx hb dX8_isSoundNow_253 (lv_at hl 3 rfl) ?_
    refine lv_icmp_ge (tgt := 347) hx hb dX8_isSoundNow_255 (by decide) (fun c_255 => ?_) (fun c_255 => ?_)
    · have h := h.1 c_255
      exact kx w v3 _ _ _ _ _ h hR hS (lv_sub hl [0, 1, 2, 3] rfl) (by omega) (by omega)
    · have h := h.2 c_255
      refine lv_iload_n hx hb dX8_isSoundNow_258 rfl (lv_at hl 2 rfl) ?_
      refine lv_aload hx hb dX8_isSoundNow_259 (lv_at hl 4 rfl) ?_
      refine g27_4 hx hb hts hown hK hR l5 q2264 dX8_isSoundNow_261 ?_
      refine lv_iconst (v := (1 : Int32)) hx hb dX8_isSoundNow_264 (by decide) ?_
      refine jn_elim h (fun j339 ej339 h => ?_)
      have Jj339 : ∀ (w339 : Wd) (s0_339 : Int32) (s1_339 : Int32) (H : Heap) (locs : List Loc) (ls : Array Slot), j339 w339 s0_339 s1_339 → Rp κ w339 y X [] H → va_S (Af κ) s.heap H locs → lv_has ls 7 [(0, .ref (y.2 20 0)), (1, .long (v1)), (4, .int (v4)), (5, .ref (y.2 27 i5)), (6, .int (v6))] → W p l e (headSpec (ws_ yX8_isSoundNow cX8_isSoundNow 7 (Option.some Jvm.ClassFile.FieldType.boolean)) rm_X8_isSoundNow).room s m args below meth c H locs (cells + 0) (slots + 0) (MQ below (va_Qi post (fun w t => Rp κ w y X [] t.heap) (Af κ)) args s 6 24 (Af κ)) (F0 m 339 ls [.int (s0_339), .int (s1_339)]) := by
        clear h
        intro w339 s0_339 s1_339 H locs ls h hR hS hl
        subst ej339
        refine lv_iand hx hb dX8_isSoundNow_339 ?_
        refine lv_topi (fun x_340 ex_340 => ?_)
        have h := h x_340 ex_340
        refine lv_istore_n (lv' := [(3, .int (x_340)), (0, .ref (y.2 20 0)), (1, .long (v1)), (4, .int (v4)), (5, .ref (y.2 27 i5)), (6, .int (v6))]) hx hb dX8_isSoundNow_340 rfl hl (by decide) rfl (fun ls hl => ?_)
        obtain ⟨x_341, ex_341⟩ : ∃ z : Int32, z = v6 + (1 : Int32) := ⟨_, rfl⟩
        have h := h x_341 ex_341
        refine lv_iinc (v := x_341) (lv' := [(6, .int (x_341)), (3, .int (x_340)), (0, .ref (y.2 20 0)), (1, .long (v1)), (4, .int (v4)), (5, .ref (y.2 27 i5))]) hx hb dX8_isSoundNow_341 hl (k := 5) rfl (by rw [ex_341]; rfl) (by decide) rfl (fun ls hl => ?_)
        refine lv_goto (tgt := 251) hx hb dX8_isSoundNow_344 (by decide) ?_
        exact ih w339 x_340 x_341 _ _ _ _ _  h hR hS (lv_sub hl [2, 3, 1, 4, 5, 0] rfl) (by omega) (by omega)
      refine lv_icmp_gt (tgt := 334) hx hb dX8_isSoundNow_265 (by decide) (fun c_265 => ?_) (fun c_265 => ?_)
      · have h := h.1 c_265
        refine lv_iconst (v := (1 : Int32)) hx hb dX8_isSoundNow_334 (by decide) ?_
        refine lv_goto (tgt := 339) hx hb dX8_isSoundNow_335 (by decide) ?_
        refine W.widen (k := cells + 0) (n := slots + 0) (by omega) (by omega) ?_
        exact Jj339 w (1 : Int32) v3 _ _ _ h hR hS (lv_sub hl [0, 1, 3, 4, 5] rfl)
      · have h := h.2 c_265
        refine lv_aload_n hx hb dX8_isSoundNow_268 rfl (lv_at hl 0 rfl) ?_
        refine g20_5 hx hb hts hown hK hR l0 q1950 dX8_isSoundNow_269 ?_
        refine lv_iload hx hb dX8_isSoundNow_272 (lv_at hl 5 rfl) ?_
        have o_274 := h.1
        have h := h.2
        refine jr_get (a := y.2 27 ((v6).toNatClampNeg)) ⟨hx, hb, hml, hown, hts⟩ hK hR ⟨fun _ _ _ _ _ => rfl, fun _ _ _ _ _ => rfl⟩ hM.lsL ⟨hM.arL (Nat.lt_of_le_of_lt (Nat.zero_le _) (vp_lt o_274)), (Nat.le_trans hM.mL8 (by decide))⟩ o_274 (hM.elL (vp_lt o_274)) q2101 ⟨Nat.le_of_ble_eq_true rfl, Nat.le_of_ble_eq_true rfl⟩ hl.1 (Nat.le_of_ble_eq_true rfl) dX8_isSoundNow_274 ⟨(Nat.le_trans (show cells + 0 ≤ C1 from by omega) hC), (Nat.le_trans (show slots + 0 ≤ S1 from by omega) hSl)⟩ ?_
        refine jr_castS (ci := 14) hx hb hown hK hts (hR.role (hM.lot (vp_lt o_274))) rfl q2253 dX8_isSoundNow_277 ?_
        refine g27_4 hx hb hts hown hK hR (hM.lot (vp_lt o_274)) q2264 dX8_isSoundNow_280 ?_
        refine lv_iconst (v := (1 : Int32)) hx hb dX8_isSoundNow_283 (by decide) ?_
        refine lv_icmp_gt (tgt := 334) hx hb dX8_isSoundNow_284 (by decide) (fun c_284 => ?_) (fun c_284 => ?_)
        · have h := h.1 c_284
          refine lv_iconst (v := (1 : Int32)) hx hb dX8_isSoundNow_334 (by decide) ?_
          refine lv_goto (tgt := 339) hx hb dX8_isSoundNow_335 (by decide) ?_
          refine W.widen (k := cells + 0) (n := slots + 0) (by omega) (by omega) ?_
          exact Jj339 w (1 : Int32) v3 _ _ _ h hR hS (lv_sub hl [0, 1, 3, 4, 5] rfl)
        · have h := h.2 c_284
          refine lv_aload hx hb dX8_isSoundNow_287 (lv_at hl 4 rfl) ?_
          refine g27_0 hx hb hts hown hK hR l5 q2259 dX8_isSoundNow_289 ?_
          refine lv_aload_n hx hb dX8_isSoundNow_292 rfl (lv_at hl 0 rfl) ?_
          refine g20_5 hx hb hts hown hK hR l0 q1950 dX8_isSoundNow_293 ?_
          refine lv_iload hx hb dX8_isSoundNow_296 (lv_at hl 5 rfl) ?_
          have o_298 := h.1
          have h := h.2
          refine jr_get (a := y.2 27 ((v6).toNatClampNeg)) ⟨hx, hb, hml, hown, hts⟩ hK hR ⟨fun _ _ _ _ _ => rfl, fun _ _ _ _ _ => rfl⟩ hM.lsL ⟨hM.arL (Nat.lt_of_le_of_lt (Nat.zero_le _) (vp_lt o_298)), (Nat.le_trans hM.mL8 (by decide))⟩ o_298 (hM.elL (vp_lt o_298)) q2101 ⟨Nat.le_of_ble_eq_true rfl, Nat.le_of_ble_eq_true rfl⟩ hl.1 (Nat.le_of_ble_eq_true rfl) dX8_isSoundNow_298 ⟨(Nat.le_trans (show cells + 0 ≤ C1 from by omega) hC), (Nat.le_trans (show slots + 0 ≤ S1 from by omega) hSl)⟩ ?_
          refine jr_castS (ci := 14) hx hb hown hK hts (hR.role (hM.lot (vp_lt o_298))) rfl q2253 dX8_isSoundNow_301 ?_
          refine g27_0 hx hb hts hown hK hR (hM.lot (vp_lt o_298)) q2259 dX8_isSoundNow_304 ?_
          refine lv_icmp_ne (tgt := 334) hx hb dX8_isSoundNow_307 (by decide) (fun c_307 => ?_) (fun c_307 => ?_)
          · have h := h.1 c_307
            refine lv_iconst (v := (1 : Int32)) hx hb dX8_isSoundNow_334 (by decide) ?_
            refine lv_goto (tgt := 339) hx hb dX8_isSoundNow_335 (by decide) ?_
            refine W.widen (k := cells + 0) (n := slots + 0) (by omega) (by omega) ?_
            exact Jj339 w (1 : Int32) v3 _ _ _ h hR hS (lv_sub hl [0, 1, 3, 4, 5] rfl)
          · have h := h.2 c_307
            refine lv_aload hx hb dX8_isSoundNow_310 (lv_at hl 4 rfl) ?_
            refine g27_1 hx hb hts hown hK hR l5 q2260 dX8_isSoundNow_312 ?_
            refine lv_aload_n hx hb dX8_isSoundNow_315 rfl (lv_at hl 0 rfl) ?_
            refine g20_5 hx hb hts hown hK hR l0 q1950 dX8_isSoundNow_316 ?_
            refine lv_iload hx hb dX8_isSoundNow_319 (lv_at hl 5 rfl) ?_
            have o_321 := h.1
            have h := h.2
            refine jr_get (a := y.2 27 ((v6).toNatClampNeg)) ⟨hx, hb, hml, hown, hts⟩ hK hR ⟨fun _ _ _ _ _ => rfl, fun _ _ _ _ _ => rfl⟩ hM.lsL ⟨hM.arL (Nat.lt_of_le_of_lt (Nat.zero_le _) (vp_lt o_321)), (Nat.le_trans hM.mL8 (by decide))⟩ o_321 (hM.elL (vp_lt o_321)) q2101 ⟨Nat.le_of_ble_eq_true rfl, Nat.le_of_ble_eq_true rfl⟩ hl.1 (Nat.le_of_ble_eq_true rfl) dX8_isSoundNow_321 ⟨(Nat.le_trans (show cells + 0 ≤ C1 from by omega) hC), (Nat.le_trans (show slots + 0 ≤ S1 from by omega) hSl)⟩ ?_
            refine jr_castS (ci := 14) hx hb hown hK hts (hR.role (hM.lot (vp_lt o_321))) rfl q2253 dX8_isSoundNow_324 ?_
            refine g27_1 hx hb hts hown hK hR (hM.lot (vp_lt o_321)) q2260 dX8_isSoundNow_327 ?_
            refine lv_iand hx hb dX8_isSoundNow_330 ?_
            refine lv_if_ne (tgt := 338) hx hb dX8_isSoundNow_331 (by decide) (fun c_331 => ?_) (fun c_331 => ?_)
            · have h := h.1 c_331
              refine lv_iconst (v := (0 : Int32)) hx hb dX8_isSoundNow_338 (by decide) ?_
              refine W.widen (k := cells + 0) (n := slots + 0) (by omega) (by omega) ?_
              exact Jj339 w (0 : Int32) v3 _ _ _ h hR hS (lv_sub hl [0, 1, 3, 4, 5] rfl)
            · have h := h.2 c_331
              refine lv_iconst (v := (1 : Int32)) hx hb dX8_isSoundNow_334 (by decide) ?_
              refine lv_goto (tgt := 339) hx hb dX8_isSoundNow_335 (by decide) ?_
              refine W.widen (k := cells + 0) (n := slots + 0) (by omega) (by omega) ?_
              exact Jj339 w (1 : Int32) v3 _ _ _ h hR hS (lv_sub hl [0, 1, 3, 4, 5] rfl)
def st_X8_isSoundNow_175 (κ : Kx) (y : Ly) (post : Int32 → Wd → Prop) (ex : Wd → (Int32) → Prop) (rec : Wd → Int32 → Int32 → Prop) (v1 : Int64) (w : Wd) (v3 : Int32) (v4 : Int32) : Prop := ((nI (mL y) ≤ v4) → (ex w v3)) ∧ ((¬ (nI (mL y) ≤ v4)) → ((vp_in (v4) (mL y)) ∧ (∀ j248 : Wd → Int32 → Prop, (j248 = fun (w248 : Wd) (v3_248 : Int32) => sp_X8_isSoundNow_251 κ y post (fun w_251 y3_251 => ∀ x_347 : Int32, x_347 = v4 + (1 : Int32) → rec w_251 y3_251 x_347) v1 v4 (((v4).toNatClampNeg)) 9 w248 v3_248 (0 : Int32)) → (((¬ gv w 27 (((v4).toNatClampNeg)) 4 = (1 : Int32)) → (j248 w v3)) ∧ ((gv w 27 (((v4).toNatClampNeg)) 4 = (1 : Int32)) → (∀ j246 : Wd → Int32 → Int32 → Prop, (j246 = fun (w246 : Wd) (s0_246 : Int32) (s1_246 : Int32) => ∀ x_247 : Int32, x_247 = s1_246 &&& s0_246 → j248 w246 x_247) → (((gv w 27 (((v4).toNatClampNeg)) 5 = (-1 : Int32)) → (j246 w (0 : Int32) v3)) ∧ ((¬ (gv w 27 (((v4).toNatClampNeg)) 5 = (-1 : Int32))) → ((vp_in (gv w 27 (((v4).toNatClampNeg)) 5) (mC y)) ∧ (((¬ gv w 26 (((gv w 27 (((v4).toNatClampNeg)) 5).toNatClampNeg)) 4 = 0) → (j246 w (0 : Int32) v3)) ∧ ((gv w 26 (((gv w 27 (((v4).toNatClampNeg)) 5).toNatClampNeg)) 4 = 0) → (j246 w (1 : Int32) v3))))))))))))
def sp_X8_isSoundNow_175 (κ : Kx) (y : Ly) (post : Int32 → Wd → Prop) (ex : Wd → (Int32) → Prop) (v1 : Int64) : Nat → Wd → Int32 → Int32 → Prop
  | 0 => fun _ _ _ => False
  | n + 1 => fun w v3 v4 => st_X8_isSoundNow_175 κ y post ex (sp_X8_isSoundNow_175 κ y post ex v1 n) v1 w v3 v4
set_option maxHeartbeats 4000000 in
theorem lp_X8_isSoundNow_175 {p : Program} {l : Launch} {e : Env} {s : State} {m : MethodId} {args : Array Value} {below : List Frame} {meth : Method} {c : Code} {κ : Kx} {y : Ly} {X : XR} {post : Int32 → Wd → Prop} {v1 : Int64} (hx : p.tables.exec = Jvm.exec) (hb : c.code = cX8_isSoundNow) (hr : meth.sig.returnType = (Option.some Jvm.ClassFile.FieldType.boolean)) (hml : c.maxLocals = 7) (hown : s.vm.findClass RX8 = some m.cls) (hts : ∀ w ∈ lw_all, w.before args s = true) (hlocks : meth.locks = false) (hK : KK κ s) (hM : WFm κ y) (l0 : live y 20 0) {C1 S1 : Nat} (hC : C1 ≤ 6) (hSl : S1 ≤ 24) {ex : Wd → (Int32) → Prop}
    (kx : ∀ (w : Wd) (v3 : Int32) (H : Heap) (locs : List Loc) (ls : Array Slot) (cells slots : Nat) , ex w v3 → Rp κ w y X [] H → va_S (Af κ) s.heap H locs → lv_has ls 7 [(1, .long (v1)), (3, .int (v3))] → cells ≤ C1 → slots ≤ S1 → W p l e (headSpec (ws_ yX8_isSoundNow cX8_isSoundNow 7 (Option.some Jvm.ClassFile.FieldType.boolean)) rm_X8_isSoundNow).room s m args below meth c H locs cells slots (MQ below (va_Qi post (fun w t => Rp κ w y X [] t.heap) (Af κ)) args s 6 24 (Af κ)) (F0 m 353 ls [])) :
    ∀ (f : Nat) (w : Wd) (v3 : Int32) (v4 : Int32) (H : Heap) (locs : List Loc) (ls : Array Slot) (cells slots : Nat)  , sp_X8_isSoundNow_175 κ y post ex v1 f w v3 v4 → Rp κ w y X [] H → va_S (Af κ) s.heap H locs → lv_has ls 7 [(0, .ref (y.2 20 0)), (1, .long (v1)), (3, .int (v3)), (4, .int (v4))] → cells + f * 0 ≤ C1 → slots + f * 0 ≤ S1 → W p l e (headSpec (ws_ yX8_isSoundNow cX8_isSoundNow 7 (Option.some Jvm.ClassFile.FieldType.boolean)) rm_X8_isSoundNow).room s m args below meth c H locs cells slots (MQ below (va_Qi post (fun w t => Rp κ w y X [] t.heap) (Af κ)) args s 6 24 (Af κ)) (F0 m 175 ls []) := by
  intro f
  induction f with
  | zero =>
    intro w v3 v4 H locs ls cells slots  h
    exact False.elim h
  | succ f ih =>
    intro w v3 v4 H locs ls cells slots  h hR hS hl hc hs
    have h : st_X8_isSoundNow_175 κ y post ex (sp_X8_isSoundNow_175 κ y post ex v1 f) v1 w v3 v4 := h
    unfold st_X8_isSoundNow_175 at h
    refine lv_iload hx hb dX8_isSoundNow_175 (lv_at hl 3 rfl) ?_
    refine lv_aload_n hx hb dX8_isSoundNow_177 rfl (lv_at hl 0 rfl) ?_
    refine g20_5 hx hb hts hown hK hR l0 q1950 dX8_isSoundNow_178 ?_
    refine jr_size ⟨hx, hb, hml, hown, hts⟩ hK hR ⟨fun _ _ _ _ _ => rfl, fun _ _ _ _ _ => rfl⟩ hM.lsL q2031 ⟨Nat.le_of_ble_eq_true rfl, Nat.le_of_ble_eq_true rfl⟩ hl.1 (Nat.le_of_ble_eq_true rfl) dX8_isSoundNow_181 ⟨(Nat.le_trans (show cells + 0 ≤ C1 from by omega) hC), (Nat.le_trans (show slots + 0 ≤ S1 from by omega) hSl)⟩ ?_
    refine lv_icmp_ge (tgt := 353) hx hb dX8_isSoundNow_184 (by decide) (fun c_184 => ?_) (fun c_184 => ?_)
    · have h := h.1 c_184
      exact kx w v3 _ _ _ _ _ h hR hS (lv_sub hl [1, 2] rfl) (by omega) (by omega)
    · have h := h.2 c_184
      refine lv_aload_n hx hb dX8_isSoundNow_187 rfl (lv_at hl 0 rfl) ?_
      refine g20_5 hx hb hts hown hK hR l0 q1950 dX8_isSoundNow_188 ?_
      refine lv_iload hx hb dX8_isSoundNow_191 (lv_at hl 3 rfl) ?_
      have o_193 := h.1
      have h := h.2
      refine jr_get (a := y.2 27 ((v4).toNatClampNeg)) ⟨hx, hb, hml, hown, hts⟩ hK hR ⟨fun _ _ _ _ _ => rfl, fun _ _ _ _ _ => rfl⟩ hM.lsL ⟨hM.arL (Nat.lt_of_le_of_lt (Nat.zero_le _) (vp_lt o_193)), (Nat.le_trans hM.mL8 (by decide))⟩ o_193 (hM.elL (vp_lt o_193)) q2101 ⟨Nat.le_of_ble_eq_true rfl, Nat.le_of_ble_eq_true rfl⟩ hl.1 (Nat.le_of_ble_eq_true rfl) dX8_isSoundNow_193 ⟨(Nat.le_trans (show cells + 0 ≤ C1 from by omega) hC), (Nat.le_trans (show slots + 0 ≤ S1 from by omega) hSl)⟩ ?_
      refine jr_castS (ci := 14) hx hb hown hK hts (hR.role (hM.lot (vp_lt o_193))) rfl q2253 dX8_isSoundNow_196 ?_
      refine lv_astore (lv' := [(5, .ref (y.2 27 ((v4).toNatClampNeg))), (0, .ref (y.2 20 0)), (1, .long (v1)), (3, .int (v3)), (4, .int (v4))]) hx hb dX8_isSoundNow_199 hl (by decide) rfl (fun ls hl => ?_)
      refine lv_aload hx hb dX8_isSoundNow_201 (lv_at hl 0 rfl) ?_
      refine g27_4 hx hb hts hown hK hR (hM.lot (vp_lt o_193)) q2264 dX8_isSoundNow_203 ?_
      refine lv_iconst (v := (1 : Int32)) hx hb dX8_isSoundNow_206 (by decide) ?_
      refine jn_elim h (fun j248 ej248 h => ?_)
      have Jj248 : ∀ (w248 : Wd) (v3_248 : Int32) (H : Heap) (locs : List Loc) (ls : Array Slot), j248 w248 v3_248 → Rp κ w248 y X [] H → va_S (Af κ) s.heap H locs → lv_has ls 7 [(5, .ref (y.2 27 ((v4).toNatClampNeg))), (0, .ref (y.2 20 0)), (1, .long (v1)), (3, .int (v3_248)), (4, .int (v4))] → W p l e (headSpec (ws_ yX8_isSoundNow cX8_isSoundNow 7 (Option.some Jvm.ClassFile.FieldType.boolean)) rm_X8_isSoundNow).room s m args below meth c H locs (cells + 0) (slots + 0) (MQ below (va_Qi post (fun w t => Rp κ w y X [] t.heap) (Af κ)) args s 6 24 (Af κ)) (F0 m 248 ls []) := by
        clear h
        intro w248 v3_248 H locs ls h hR hS hl
        subst ej248
        refine lv_iconst (v := (0 : Int32)) hx hb dX8_isSoundNow_248 (by decide) ?_
        refine lv_istore (lv' := [(6, .int ((0 : Int32))), (5, .ref (y.2 27 ((v4).toNatClampNeg))), (0, .ref (y.2 20 0)), (1, .long (v1)), (3, .int (v3_248)), (4, .int (v4))]) hx hb dX8_isSoundNow_249 hl (by decide) rfl (fun ls hl => ?_)
        refine lp_X8_isSoundNow_251 (C1 := (cells + 0)) (S1 := (slots + 0)) hx hb hr hml hown hts hlocks hK hM l0 (hM.lot (vp_lt o_193)) (Nat.le_trans (by omega) hC) (Nat.le_trans (by omega) hSl) (fun w_251 y3_251 H locs ls cells9 slots9 h hR hS hl hc9 hs9 => ?_) 9 w248 v3_248 (0 : Int32) _ _ _ _ _  h hR hS (lv_sub hl [2, 3, 4, 5, 1, 0] rfl) (by omega) (by omega)
        refine W.widen (k := (cells + 0)) (n := (slots + 0)) hc9 hs9 ?_
        obtain ⟨x_347, ex_347⟩ : ∃ z : Int32, z = v4 + (1 : Int32) := ⟨_, rfl⟩
        have h := h x_347 ex_347
        refine lv_iinc (v := x_347) (lv' := [(4, .int (x_347)), (0, .ref (y.2 20 0)), (1, .long (v1)), (3, .int (y3_251))]) hx hb dX8_isSoundNow_347 hl (k := 3) rfl (by rw [ex_347]; rfl) (by decide) rfl (fun ls hl => ?_)
        refine lv_goto (tgt := 175) hx hb dX8_isSoundNow_350 (by decide) ?_
        exact ih w_251 y3_251 x_347 _ _ _ _ _  h hR hS (lv_sub hl [1, 2, 3, 0] rfl) (by omega) (by omega)
      refine lv_icmp_ne (tgt := 248) hx hb dX8_isSoundNow_207 (by decide) (fun c_207 => ?_) (fun c_207 => ?_)
      · have h := h.1 c_207
        refine W.widen (k := cells + 0) (n := slots + 0) (by omega) (by omega) ?_
        exact Jj248 w v3 _ _ _ h hR hS (lv_sub hl [0, 1, 2, 3, 4] rfl)
      · have h := h.2 c_207
        refine lv_iload_n hx hb dX8_isSoundNow_210 rfl (lv_at hl 3 rfl) ?_
        refine lv_aload hx hb dX8_isSoundNow_211 (lv_at hl 0 rfl) ?_
        refine g27_5 hx hb hts hown hK hR (hM.lot (vp_lt o_193)) q2266 dX8_isSoundNow_213 ?_
        refine lv_iconst (v := (-1 : Int32)) hx hb dX8_isSoundNow_216 (by decide) ?_
        refine jn_elim h (fun j246 ej246 h => ?_)
        have Jj246 : ∀ (w246 : Wd) (s0_246 : Int32) (s1_246 : Int32) (H : Heap) (locs : List Loc) (ls : Array Slot), j246 w246 s0_246 s1_246 → Rp κ w246 y X [] H → va_S (Af κ) s.heap H locs → lv_has ls 7 [(5, .ref (y.2 27 ((v4).toNatClampNeg))), (0, .ref (y.2 20 0)), (1, .long (v1)), (4, .int (v4))] → W p l e (headSpec (ws_ yX8_isSoundNow cX8_isSoundNow 7 (Option.some Jvm.ClassFile.FieldType.boolean)) rm_X8_isSoundNow).room s m args below meth c H locs (cells + 0) (slots + 0) (MQ below (va_Qi post (fun w t => Rp κ w y X [] t.heap) (Af κ)) args s 6 24 (Af κ)) (F0 m 246 ls [.int (s0_246), .int (s1_246)]) := by
          clear h
          intro w246 s0_246 s1_246 H locs ls h hR hS hl
          subst ej246
          refine lv_iand hx hb dX8_isSoundNow_246 ?_
          refine lv_topi (fun x_247 ex_247 => ?_)
          have h := h x_247 ex_247
          refine lv_istore_n (lv' := [(3, .int (x_247)), (5, .ref (y.2 27 ((v4).toNatClampNeg))), (0, .ref (y.2 20 0)), (1, .long (v1)), (4, .int (v4))]) hx hb dX8_isSoundNow_247 rfl hl (by decide) rfl (fun ls hl => ?_)
          refine W.widen (k := cells + 0) (n := slots + 0) (by omega) (by omega) ?_
          exact Jj248 w246 x_247 _ _ _ h hR hS (lv_sub hl [1, 2, 3, 0, 4] rfl)
        refine lv_icmp_eq (tgt := 245) hx hb dX8_isSoundNow_217 (by decide) (fun c_217 => ?_) (fun c_217 => ?_)
        · have h := h.1 c_217
          refine lv_iconst (v := (0 : Int32)) hx hb dX8_isSoundNow_245 (by decide) ?_
          refine W.widen (k := cells + 0) (n := slots + 0) (by omega) (by omega) ?_
          exact Jj246 w (0 : Int32) v3 _ _ _ h hR hS (lv_sub hl [0, 1, 2, 4] rfl)
        · have h := h.2 c_217
          refine lv_aload_n hx hb dX8_isSoundNow_220 rfl (lv_at hl 1 rfl) ?_
          refine g20_4 hx hb hts hown hK hR l0 q1949 dX8_isSoundNow_221 ?_
          refine lv_aload hx hb dX8_isSoundNow_224 (lv_at hl 0 rfl) ?_
          refine g27_5 hx hb hts hown hK hR (hM.lot (vp_lt o_193)) q2266 dX8_isSoundNow_226 ?_
          have o_229 := h.1
          have h := h.2
          refine jr_get (a := y.2 26 ((gv w 27 (((v4).toNatClampNeg)) 5).toNatClampNeg)) ⟨hx, hb, hml, hown, hts⟩ hK hR ⟨fun _ _ _ _ _ => rfl, fun _ _ _ _ _ => rfl⟩ hM.lsC ⟨hM.arC (Nat.lt_of_le_of_lt (Nat.zero_le _) (vp_lt o_229)), (Nat.le_trans hM.mC4 (by decide))⟩ o_229 (hM.elC (vp_lt o_229)) q2101 ⟨Nat.le_of_ble_eq_true rfl, Nat.le_of_ble_eq_true rfl⟩ hl.1 (Nat.le_of_ble_eq_true rfl) dX8_isSoundNow_229 ⟨(Nat.le_trans (show cells + 0 ≤ C1 from by omega) hC), (Nat.le_trans (show slots + 0 ≤ S1 from by omega) hSl)⟩ ?_
          refine jr_castS (ci := 13) hx hb hown hK hts (hR.role (hM.com (vp_lt o_229))) rfl q2141 dX8_isSoundNow_232 ?_
          refine g26_4 hx hb hts hown hK hR (hM.com (vp_lt o_229)) q2153 dX8_isSoundNow_235 ?_
          refine lv_if_ne (tgt := 245) hx hb dX8_isSoundNow_238 (by decide) (fun c_238 => ?_) (fun c_238 => ?_)
          · have h := h.1 c_238
            refine lv_iconst (v := (0 : Int32)) hx hb dX8_isSoundNow_245 (by decide) ?_
            refine W.widen (k := cells + 0) (n := slots + 0) (by omega) (by omega) ?_
            exact Jj246 w (0 : Int32) v3 _ _ _ h hR hS (lv_sub hl [0, 1, 2, 4] rfl)
          · have h := h.2 c_238
            refine lv_iconst (v := (1 : Int32)) hx hb dX8_isSoundNow_241 (by decide) ?_
            refine lv_goto (tgt := 246) hx hb dX8_isSoundNow_242 (by decide) ?_
            refine W.widen (k := cells + 0) (n := slots + 0) (by omega) (by omega) ?_
            exact Jj246 w (1 : Int32) v3 _ _ _ h hR hS (lv_sub hl [0, 1, 2, 4] rfl)
def sp_X8_isSoundNow (κ : Kx) (y : Ly) (post : Int32 → Wd → Prop) (w : Wd)  : Prop := ∀ x_17 : Int64, x_17 = (((gv w 20 0 13).toInt64) + ((gv w 20 0 14).toInt64)) + ((gv w 20 0 15).toInt64) → ∀ j37 : Wd → Int32 → Prop, (j37 = fun (w37 : Wd) (s0_37 : Int32) => sp_X8_isSoundNow_47 κ y post (fun w_47 y1_47 y3_47 => sp_X8_isSoundNow_100 κ y post (fun w_100 y1_100 y3_100 => sp_X8_isSoundNow_175 κ y post (fun w_175 y3_175 => ((y3_175 = 0) → (post ((0 : Int32)) w_175)) ∧ ((¬ (y3_175 = 0)) → (((¬ lg_cmp y1_100 ((0 : Int64)) = 0) → (post ((0 : Int32)) w_175)) ∧ ((lg_cmp y1_100 ((0 : Int64)) = 0) → (post ((1 : Int32)) w_175))))) y1_100 9 w_100 y3_100 (0 : Int32))  5 w_47 y1_47 y3_47 (0 : Int32))  9 w37 x_17 s0_37 0 (-1)) → (((gv w 20 0 13 < 0) → (j37 w (0 : Int32))) ∧ ((¬ (gv w 20 0 13 < 0)) → (((gv w 20 0 14 < 0) → (j37 w (0 : Int32))) ∧ ((¬ (gv w 20 0 14 < 0)) → (j37 w (1 : Int32))))))
theorem hd_X8_isSoundNow : yX8_isSoundNow.cls = RX8 ∧ yX8_isSoundNow.cls ≠ "java/lang/invoke/MethodHandle" ∧ yX8_isSoundNow.cls ≠ "java/lang/invoke/VarHandle" ∧ (parseMethodDescriptor yX8_isSoundNow.desc).map (fun d => d.parameters.length) = some 0 := by decide +kernel
set_option maxHeartbeats 4000000 in
theorem m_X8_isSoundNow {l : Launch} {κ : Kx} {y : Ly} {X : XR} {post : Int32 → Wd → Prop} {w : Wd}   (hM : WFm κ y) (l0 : live y 20 0) (h : sp_X8_isSoundNow κ y post w ) : Met l yX8_isSoundNow (ws_ yX8_isSoundNow cX8_isSoundNow 7 (Option.some Jvm.ClassFile.FieldType.boolean)) rm_X8_isSoundNow (va_Pc [.ref (y.2 20 0)] (RC κ w y X)) (va_Qi post (fun w t => Rp κ w y X [] t.heap) (Af κ)) 6 24 (Af κ) := by
  unfold sp_X8_isSoundNow at h
  refine Met.ofW (cc := cX8_isSoundNow) (maxL := 7) (ret := (Option.some Jvm.ClassFile.FieldType.boolean)) (by decide) rfl ?_
  intro p e s m args below meth c s₁ B hml hv
  obtain ⟨rfl, hR, hK⟩ := hv
  have hx := B.exec
  have hb := B.bytes
  have hr := B.returns
  have hts := atoms_spec (ws := ws_ yX8_isSoundNow cX8_isSoundNow 7 (Option.some Jvm.ClassFile.FieldType.boolean)) B.pre
  have hts : ∀ w ∈ lw_all, w.before _ s = true := fun w h => hts w (List.mem_cons_of_mem _ h)
  have hown : s.vm.findClass RX8 = some m.cls := findClass_of_methodNamed B.named
  have hlocks := B.notSynchronized
  have hS : va_S (Af κ) s.heap s.heap [] := va_S.rf
  have hl := lv_entry ([.ref (y.2 20 0)]) (n := 7) (Nat.le_of_ble_eq_true rfl)
  rw [lg_entry_eq]
  generalize (lg_sl ([.ref (y.2 20 0)]) ++ List.replicate (7 - (lg_sl ([.ref (y.2 20 0)])).length) Slot.unset).toArray = ls at hl ⊢
  have hl : lv_has ls 7 [(0, .ref (y.2 20 0))] := hl
  refine lv_aload_n hx hb dX8_isSoundNow_0 rfl (lv_at hl 0 rfl) ?_
  refine g20_13 hx hb hts hown hK hR l0 q1958 dX8_isSoundNow_1 ?_
  refine lv_i2l hx hb dX8_isSoundNow_4 rfl ?_
  refine lv_aload_n hx hb dX8_isSoundNow_5 rfl (lv_at hl 0 rfl) ?_
  refine g20_14 hx hb hts hown hK hR l0 q1959 dX8_isSoundNow_6 ?_
  refine lv_i2l hx hb dX8_isSoundNow_9 rfl ?_
  refine lv_ladd hx hb dX8_isSoundNow_10 ?_
  refine lv_aload_n hx hb dX8_isSoundNow_11 rfl (lv_at hl 0 rfl) ?_
  refine g20_15 hx hb hts hown hK hR l0 q1960 dX8_isSoundNow_12 ?_
  refine lv_i2l hx hb dX8_isSoundNow_15 rfl ?_
  refine lv_ladd hx hb dX8_isSoundNow_16 ?_
  refine lv_topl (fun x_17 ex_17 => ?_)
  have h := h x_17 ex_17
  refine lv_lstore_n (lv' := [(1, .long (x_17)), (0, .ref (y.2 20 0))]) hx hb dX8_isSoundNow_17 rfl hl (by decide) rfl (fun ls hl => ?_)
  refine lv_aload_n hx hb dX8_isSoundNow_18 rfl (lv_at hl 1 rfl) ?_
  refine g20_13 hx hb hts hown hK hR l0 q1958 dX8_isSoundNow_19 ?_
  refine jn_elim h (fun j37 ej37 h => ?_)
  have Jj37 : ∀ (w37 : Wd) (s0_37 : Int32) (H : Heap) (locs : List Loc) (ls : Array Slot), j37 w37 s0_37 → Rp κ w37 y X [] H → va_S (Af κ) s.heap H locs → lv_has ls 7 [(1, .long (x_17)), (0, .ref (y.2 20 0))] → W p l e (headSpec (ws_ yX8_isSoundNow cX8_isSoundNow 7 (Option.some Jvm.ClassFile.FieldType.boolean)) rm_X8_isSoundNow).room s m ([.ref (y.2 20 0)] : List Value).toArray below meth c H locs (0) (0) (MQ below (va_Qi post (fun w t => Rp κ w y X [] t.heap) (Af κ)) ([.ref (y.2 20 0)] : List Value).toArray s 6 24 (Af κ)) (F0 m 37 ls [.int (s0_37)]) := by
    clear h
    intro w37 s0_37 H locs ls h hR hS hl
    subst ej37
    refine lv_istore_n (lv' := [(3, .int (s0_37)), (1, .long (x_17)), (0, .ref (y.2 20 0))]) hx hb dX8_isSoundNow_37 rfl hl (by decide) rfl (fun ls hl => ?_)
    refine lv_aload_n hx hb dX8_isSoundNow_38 rfl (lv_at hl 2 rfl) ?_
    refine g20_3 hx hb hts hown hK hR l0 q1948 dX8_isSoundNow_39 ?_
    refine jr_iter ⟨hx, hb, hml, hown, hts⟩ hK hR hS ⟨fun _ _ _ _ _ => rfl, fun _ _ _ _ _ => rfl⟩ hM.lsV q2248 ⟨Nat.le_of_ble_eq_true rfl, Nat.le_of_ble_eq_true rfl⟩ hl.1 (Nat.le_of_ble_eq_true rfl) dX8_isSoundNow_42 ⟨(Nat.le_of_ble_eq_true rfl), (Nat.le_of_ble_eq_true rfl)⟩ (fun q_42 H locs hR hS => ?_)
    have hR : Rp κ w37 y X [(q_42, itC y 50 0 0 (-1))] H := hR
    refine lv_astore (lv' := [(4, .ref (q_42)), (3, .int (s0_37)), (1, .long (x_17)), (0, .ref (y.2 20 0))]) hx hb dX8_isSoundNow_45 hl (by decide) rfl (fun ls hl => ?_)
    refine lp_X8_isSoundNow_47 (C1 := 1) (S1 := 4) hx hb hr hml hown hts hlocks hK hM l0 (Nat.le_of_ble_eq_true rfl) (Nat.le_of_ble_eq_true rfl) (fun w_47 y1_47 y3_47 H locs ls cells9 slots9 h hR hS hl hc9 hs9 => ?_) 9 w37 x_17 s0_37 0 (-1) _ _ _ _ _ (by omega) h hR hS (lv_sub hl [3, 2, 1, 0] rfl) (by omega) (by omega)
    refine W.widen (k := 1) (n := 4) hc9 hs9 ?_
    refine lv_iconst (v := (0 : Int32)) hx hb dX8_isSoundNow_97 (by decide) ?_
    refine lv_istore (lv' := [(4, .int ((0 : Int32))), (0, .ref (y.2 20 0)), (1, .long (y1_47)), (3, .int (y3_47))]) hx hb dX8_isSoundNow_98 hl (by decide) rfl (fun ls hl => ?_)
    refine lp_X8_isSoundNow_100 (C1 := 6) (S1 := 24) hx hb hr hml hown hts hlocks hK hM l0 (Nat.le_of_ble_eq_true rfl) (Nat.le_of_ble_eq_true rfl) (fun w_100 y1_100 y3_100 H locs ls cells9 slots9 h hR hS hl hc9 hs9 => ?_) 5 w_47 y1_47 y3_47 (0 : Int32) _ _ _ _ _  h hR hS (lv_sub hl [1, 2, 3, 0] rfl) (by omega) (by omega)
    refine W.widen (k := 6) (n := 24) hc9 hs9 ?_
    refine lv_iconst (v := (0 : Int32)) hx hb dX8_isSoundNow_172 (by decide) ?_
    refine lv_istore (lv' := [(4, .int ((0 : Int32))), (0, .ref (y.2 20 0)), (1, .long (y1_100)), (3, .int (y3_100))]) hx hb dX8_isSoundNow_173 hl (by decide) rfl (fun ls hl => ?_)
    refine lp_X8_isSoundNow_175 (C1 := 6) (S1 := 24) hx hb hr hml hown hts hlocks hK hM l0 (Nat.le_of_ble_eq_true rfl) (Nat.le_of_ble_eq_true rfl) (fun w_175 y3_175 H locs ls cells9 slots9 h hR hS hl hc9 hs9 => ?_) 9 w_100 y3_100 (0 : Int32) _ _ _ _ _  h hR hS (lv_sub hl [1, 2, 3, 0] rfl) (by omega) (by omega)
    refine W.widen (k := 6) (n := 24) hc9 hs9 ?_
    refine lv_iload_n hx hb dX8_isSoundNow_353 rfl (lv_at hl 1 rfl) ?_
    refine lv_if_eq (tgt := 367) hx hb dX8_isSoundNow_354 (by decide) (fun c_354 => ?_) (fun c_354 => ?_)
    · have h := h.1 c_354
      refine lv_iconst (v := (0 : Int32)) hx hb dX8_isSoundNow_367 (by decide) ?_
      refine W.widen (k := 6) (n := 24) (Nat.le_of_ble_eq_true rfl) (Nat.le_of_ble_eq_true rfl) ?_
      exact W.zret (v := (0 : Int32)) hx hb hr nbo_0.n (fun t ht hW9 => ⟨⟨(0 : Int32), w_175, rfl, h, rpt ht hR⟩, hS.F ht⟩) hS.2.2 dX8_isSoundNow_368
    · have h := h.2 c_354
      refine lv_lload_n hx hb dX8_isSoundNow_357 rfl (lv_at hl 0 rfl) ?_
      refine lv_lconst (v := 0) hx hb dX8_isSoundNow_358 rfl ?_
      refine W.lcmp hx hb dX8_isSoundNow_359 ?_
      refine lv_if_ne (tgt := 367) hx hb dX8_isSoundNow_360 (by decide) (fun c_360 => ?_) (fun c_360 => ?_)
      · have h := h.1 c_360
        refine lv_iconst (v := (0 : Int32)) hx hb dX8_isSoundNow_367 (by decide) ?_
        refine W.widen (k := 6) (n := 24) (Nat.le_of_ble_eq_true rfl) (Nat.le_of_ble_eq_true rfl) ?_
        exact W.zret (v := (0 : Int32)) hx hb hr nbo_0.n (fun t ht hW9 => ⟨⟨(0 : Int32), w_175, rfl, h, rpt ht hR⟩, hS.F ht⟩) hS.2.2 dX8_isSoundNow_368
      · have h := h.2 c_360
        refine lv_iconst (v := (1 : Int32)) hx hb dX8_isSoundNow_363 (by decide) ?_
        refine lv_goto (tgt := 368) hx hb dX8_isSoundNow_364 (by decide) ?_
        refine W.widen (k := 6) (n := 24) (Nat.le_of_ble_eq_true rfl) (Nat.le_of_ble_eq_true rfl) ?_
        exact W.zret (v := (1 : Int32)) hx hb hr nbo_1.n (fun t ht hW9 => ⟨⟨(1 : Int32), w_175, rfl, h, rpt ht hR⟩, hS.F ht⟩) hS.2.2 dX8_isSoundNow_368
  refine lv_if_lt (tgt := 36) hx hb dX8_isSoundNow_22 (by decide) (fun c_22 => ?_) (fun c_22 => ?_)
  · have h := h.1 c_22
    refine lv_iconst (v := (0 : Int32)) hx hb dX8_isSoundNow_36 (by decide) ?_
    refine W.widen (k := 0) (n := 0) (Nat.le_of_ble_eq_true rfl) (Nat.le_of_ble_eq_true rfl) ?_
    exact Jj37 w (0 : Int32) _ _ _ h hR hS (lv_sub hl [0, 1] rfl)
  · have h := h.2 c_22
    refine lv_aload_n hx hb dX8_isSoundNow_25 rfl (lv_at hl 1 rfl) ?_
    refine g20_14 hx hb hts hown hK hR l0 q1959 dX8_isSoundNow_26 ?_
    refine lv_if_lt (tgt := 36) hx hb dX8_isSoundNow_29 (by decide) (fun c_29 => ?_) (fun c_29 => ?_)
    · have h := h.1 c_29
      refine lv_iconst (v := (0 : Int32)) hx hb dX8_isSoundNow_36 (by decide) ?_
      refine W.widen (k := 0) (n := 0) (Nat.le_of_ble_eq_true rfl) (Nat.le_of_ble_eq_true rfl) ?_
      exact Jj37 w (0 : Int32) _ _ _ h hR hS (lv_sub hl [0, 1] rfl)
    · have h := h.2 c_29
      refine lv_iconst (v := (1 : Int32)) hx hb dX8_isSoundNow_32 (by decide) ?_
      refine lv_goto (tgt := 37) hx hb dX8_isSoundNow_33 (by decide) ?_
      refine W.widen (k := 0) (n := 0) (Nat.le_of_ble_eq_true rfl) (Nat.le_of_ble_eq_true rfl) ?_
      exact Jj37 w (1 : Int32) _ _ _ h hR hS (lv_sub hl [0, 1] rfl)
abbrev rm_X8_village : Room := { frames := 6, cells := 5, slots := 36, locals := 171 }
def sp_X8_village (κ : Kx) (y : Ly) (post : Int32 → Wd → Ly → Prop) (w : Wd) (p1 : Int32) (p2 : Int32) (p3 : Int32) (p4 : Int32) : Prop := sp_X8_isIn κ y (fun r_4 w_4 => ∀ j48 : Wd → Int32 → Prop, (j48 = fun (w48 : Wd) (s0_48 : Int32) => sp_X8_start κ y (fun r_54 w_54 => ((¬ r_54 = 0) → (post ((0 : Int32)) w_54 y)) ∧ ((r_54 = 0) → (∀ j78 : Wd → Int32 → Prop, (j78 = fun (w78 : Wd) (s0_78 : Int32) => sp_X8_refuse κ y (fun r_79 w_79 => ((r_79 = 0) → ((mV y < 8) ∧ (∀ n_91 : Nat, n_91 = mV y → ∀ w_91 : Wd, w_91 = wMkMV w_79 n_91  → ∀ (y_91 : Ly) (q9a q9b q9c q9d : Nat), y_91 = yMkMV y n_91 q9a q9b q9c q9d → ∀ w_99 : Wd, w_99 = sv w_91 21 n_91 0 (p1) → ∀ w_105 : Wd, w_105 = sv w_99 21 n_91 1 (p2) → ∀ w_111 : Wd, w_111 = sv w_105 21 n_91 2 (p3) → ∀ w_118 : Wd, w_118 = sv w_111 21 n_91 3 (p4) → ∀ w_126 : Wd, w_126 = sv w_118 21 n_91 4 ((4 : Int32) * p1) → ∀ w_132 : Wd, w_132 = sv w_126 21 n_91 8 (p2) → ∀ y_141 : Ly, YAdd y_91 50 0 (y_91.2 21 n_91) y_141 → sp_X8_cutStone κ y_141 (fun w_155 => post ((nI (mV y_141)) - (1 : Int32)) w_155 y_141) w_132 ((nI (mV y_141)) - (1 : Int32))))) ∧ ((¬ (r_79 = 0)) → (post ((0 : Int32)) w_79 y))) w78 s0_78 (2 : Int32)) → (((¬ nI (mV y) = (8 : Int32)) → (j78 w_54 (0 : Int32))) ∧ ((nI (mV y) = (8 : Int32)) → (j78 w_54 (1 : Int32))))))) w48 s0_48 (1 : Int32)) → (((r_4 = 0) → (j48 w_4 (1 : Int32))) ∧ ((¬ (r_4 = 0)) → (sp_X8_isIn κ y (fun r_15 w_15 => ((r_15 = 0) → (j48 w_15 (1 : Int32))) ∧ ((¬ (r_15 = 0)) → (sp_X8_isIn κ y (fun r_26 w_26 => ((r_26 = 0) → (j48 w_26 (1 : Int32))) ∧ ((¬ (r_26 = 0)) → (sp_X8_isIn κ y (fun r_37 w_37 => ((¬ r_37 = 0) → (j48 w_37 (0 : Int32))) ∧ ((r_37 = 0) → (j48 w_37 (1 : Int32)))) w_26 p4 (1 : Int32) (9 : Int32)))) w_15 p3 (0 : Int32) (600 : Int32)))) w_4 p2 (0 : Int32) (600 : Int32))))) w p1 (1 : Int32) (90 : Int32)
theorem hd_X8_village : yX8_village.cls = RX8 ∧ yX8_village.cls ≠ "java/lang/invoke/MethodHandle" ∧ yX8_village.cls ≠ "java/lang/invoke/VarHandle" ∧ (parseMethodDescriptor yX8_village.desc).map (fun d => d.parameters.length) = some 4 := by decide +kernel
set_option maxHeartbeats 4000000 in
theorem m_X8_village {l : Launch} {κ : Kx} {y : Ly} {X : XR} {post : Int32 → Wd → Ly → Prop} {w : Wd} {p1 : Int32} {p2 : Int32} {p3 : Int32} {p4 : Int32}  (hM : WFm κ y) (l0 : live y 20 0) (h : sp_X8_village κ y post w p1 p2 p3 p4) : Met l yX8_village (ws_ yX8_village cX8_village 7 (Option.some Jvm.ClassFile.FieldType.int)) rm_X8_village (va_Pc [.ref (y.2 20 0), .int (p1), .int (p2), .int (p3), .int (p4)] (RC κ w y X)) (va_Qi (fun r (u : Wd × Ly) => post r u.1 u.2) (fun (u : Wd × Ly) t => Rp κ u.1 u.2 X [] t.heap ∧ WFm κ u.2) (Af κ)) 5 36 (Af κ) := by
  unfold sp_X8_village at h
  refine Met.ofW (cc := cX8_village) (maxL := 7) (ret := (Option.some Jvm.ClassFile.FieldType.int)) (by decide) rfl ?_
  intro p e s m args below meth c s₁ B hml hv
  obtain ⟨rfl, hR, hK⟩ := hv
  have hx := B.exec
  have hb := B.bytes
  have hr := B.returns
  have hts := atoms_spec (ws := ws_ yX8_village cX8_village 7 (Option.some Jvm.ClassFile.FieldType.int)) B.pre
  have hts : ∀ w ∈ lw_all, w.before _ s = true := fun w h => hts w (List.mem_cons_of_mem _ h)
  have hown : s.vm.findClass RX8 = some m.cls := findClass_of_methodNamed B.named
  have hlocks := B.notSynchronized
  have hLe : LeS y y := LeS.rf
  have hS : va_S (Af κ) s.heap s.heap [] := va_S.rf
  have hl := lv_entry ([.ref (y.2 20 0), .int (p1), .int (p2), .int (p3), .int (p4)]) (n := 7) (Nat.le_of_ble_eq_true rfl)
  rw [lg_entry_eq]
  generalize (lg_sl ([.ref (y.2 20 0), .int (p1), .int (p2), .int (p3), .int (p4)]) ++ List.replicate (7 - (lg_sl ([.ref (y.2 20 0), .int (p1), .int (p2), .int (p3), .int (p4)])).length) Slot.unset).toArray = ls at hl ⊢
  have hl : lv_has ls 7 [(0, .ref (y.2 20 0)), (1, .int (p1)), (2, .int (p2)), (3, .int (p3)), (4, .int (p4))] := hl
  refine lv_iload_n hx hb dX8_village_0 rfl (lv_at hl 1 rfl) ?_
  refine lv_iconst (v := (1 : Int32)) hx hb dX8_village_1 (by decide) ?_
  refine lv_bipush (v := (90 : Int32)) hx hb dX8_village_2 (by decide) ?_
  refine ce_qi (fw := fun u => u) (fy := fun _ => y) (cr_S (n := 3) (As := [.int (p1), .int ((1 : Int32)), .int ((90 : Int32))]) (rest := []) ⟨hx, hb, hml, hown, hts⟩ hK hR (m_X8_isIn hM h) q2020 q2021 q85 q2022 rfl rfl hds_X8_isIn ⟨Nat.le_of_ble_eq_true rfl, Nat.le_of_ble_eq_true rfl⟩ rfl rfl hl.1 rfl (lv_room (Nat.le_of_ble_eq_true rfl)) dX8_village_4 ⟨(Nat.le_of_ble_eq_true rfl), (Nat.le_of_ble_eq_true rfl)⟩) hR hS (fun r_4 w_4 H locs h hR _ hS => ?_)
  refine jn_elim h (fun j48 ej48 h => ?_)
  have Jj48 : ∀ (w48 : Wd) (s0_48 : Int32) (H : Heap) (locs : List Loc) (ls : Array Slot), j48 w48 s0_48 → Rp κ w48 y X [] H → va_S (Af κ) s.heap H locs → lv_has ls 7 [(0, .ref (y.2 20 0)), (1, .int (p1)), (2, .int (p2)), (3, .int (p3)), (4, .int (p4))] → W p l e (headSpec (ws_ yX8_village cX8_village 7 (Option.some Jvm.ClassFile.FieldType.int)) rm_X8_village).room s m ([.ref (y.2 20 0), .int (p1), .int (p2), .int (p3), .int (p4)] : List Value).toArray below meth c H locs (0) (0) (MQ below (va_Qi (fun r (u : Wd × Ly) => post r u.1 u.2) (fun (u : Wd × Ly) t => Rp κ u.1 u.2 X [] t.heap ∧ WFm κ u.2) (Af κ)) ([.ref (y.2 20 0), .int (p1), .int (p2), .int (p3), .int (p4)] : List Value).toArray s 5 36 (Af κ)) (F0 m 48 ls [.int (s0_48)]) := by
    clear h
    intro w48 s0_48 H locs ls h hR hS hl
    subst ej48
    refine lv_istore (lv' := [(5, .int (s0_48)), (0, .ref (y.2 20 0)), (1, .int (p1)), (2, .int (p2)), (3, .int (p3)), (4, .int (p4))]) hx hb dX8_village_48 hl (by decide) rfl (fun ls hl => ?_)
    refine lv_aload_n hx hb dX8_village_50 rfl (lv_at hl 1 rfl) ?_
    refine lv_iload hx hb dX8_village_51 (lv_at hl 0 rfl) ?_
    refine lv_iconst (v := (1 : Int32)) hx hb dX8_village_53 (by decide) ?_
    refine ce_qi (fw := fun u => u) (fy := fun _ => y) (cr_V (n := 2) (As := [.int (s0_48), .int ((1 : Int32))]) (rest := []) ⟨hx, hb, hml, hown, hts⟩ hK hR (m_X8_start hM l0 h) q2023 q2025 qs37 q85 q2026 rfl rfl hd_X8_start ⟨Nat.le_of_ble_eq_true rfl, Nat.le_of_ble_eq_true rfl⟩ (rv hK hR l0 (ci := 11) rfl rfl) rfl rfl hl.1 rfl (lv_room (Nat.le_of_ble_eq_true rfl)) dX8_village_54 ⟨(Nat.le_of_ble_eq_true rfl), (Nat.le_of_ble_eq_true rfl)⟩) hR hS (fun r_54 w_54 H locs h hR _ hS => ?_)
    refine lv_if_ne (tgt := 85) hx hb dX8_village_57 (by decide) (fun c_57 => ?_) (fun c_57 => ?_)
    · have h := h.1 c_57
      refine lv_iconst (v := (0 : Int32)) hx hb dX8_village_85 (by decide) ?_
      refine W.widen (k := 5) (n := 36) (Nat.le_of_ble_eq_true rfl) (Nat.le_of_ble_eq_true rfl) ?_
      exact W.iret (v := (0 : Int32)) hx hb hr (fun t ht hW9 => ⟨⟨(0 : Int32), (w_54, y), rfl, h, ⟨rpt ht hR, hM⟩⟩, hS.F ht⟩) hS.2.2 dX8_village_86
    · have h := h.2 c_57
      refine lv_aload_n hx hb dX8_village_60 rfl (lv_at hl 1 rfl) ?_
      refine lv_aload_n hx hb dX8_village_61 rfl (lv_at hl 1 rfl) ?_
      refine g20_3 hx hb hts hown hK hR l0 q1948 dX8_village_62 ?_
      refine jr_size ⟨hx, hb, hml, hown, hts⟩ hK hR ⟨fun _ _ _ _ _ => rfl, fun _ _ _ _ _ => rfl⟩ hM.lsV q2031 ⟨Nat.le_of_ble_eq_true rfl, Nat.le_of_ble_eq_true rfl⟩ hl.1 (Nat.le_of_ble_eq_true rfl) dX8_village_65 ⟨(Nat.le_of_ble_eq_true rfl), (Nat.le_of_ble_eq_true rfl)⟩ ?_
      refine lv_bipush (v := (8 : Int32)) hx hb dX8_village_68 (by decide) ?_
      refine jn_elim h (fun j78 ej78 h => ?_)
      have Jj78 : ∀ (w78 : Wd) (s0_78 : Int32) (H : Heap) (locs : List Loc) (ls : Array Slot), j78 w78 s0_78 → Rp κ w78 y X [] H → va_S (Af κ) s.heap H locs → lv_has ls 7 [(0, .ref (y.2 20 0)), (1, .int (p1)), (2, .int (p2)), (3, .int (p3)), (4, .int (p4))] → W p l e (headSpec (ws_ yX8_village cX8_village 7 (Option.some Jvm.ClassFile.FieldType.int)) rm_X8_village).room s m ([.ref (y.2 20 0), .int (p1), .int (p2), .int (p3), .int (p4)] : List Value).toArray below meth c H locs (0) (0) (MQ below (va_Qi (fun r (u : Wd × Ly) => post r u.1 u.2) (fun (u : Wd × Ly) t => Rp κ u.1 u.2 X [] t.heap ∧ WFm κ u.2) (Af κ)) ([.ref (y.2 20 0), .int (p1), .int (p2), .int (p3), .int (p4)] : List Value).toArray s 5 36 (Af κ)) (F0 m 78 ls [.int (s0_78), .ref (y.2 20 0)]) := by
        clear h
        intro w78 s0_78 H locs ls h hR hS hl
        subst ej78
        refine lv_iconst (v := (2 : Int32)) hx hb dX8_village_78 (by decide) ?_
        refine ce_qi (fw := fun u => u) (fy := fun _ => y) (cr_V (n := 2) (As := [.int (s0_78), .int ((2 : Int32))]) (rest := []) ⟨hx, hb, hml, hown, hts⟩ hK hR (m_X8_refuse hM l0 h) q2027 q2029 qs38 q85 q2030 rfl rfl hd_X8_refuse ⟨Nat.le_of_ble_eq_true rfl, Nat.le_of_ble_eq_true rfl⟩ (rv hK hR l0 (ci := 11) rfl rfl) rfl rfl hl.1 rfl (lv_room (Nat.le_of_ble_eq_true rfl)) dX8_village_79 ⟨(Nat.le_of_ble_eq_true rfl), (Nat.le_of_ble_eq_true rfl)⟩) hR hS (fun r_79 w_79 H locs h hR _ hS => ?_)
        refine lv_if_eq (tgt := 87) hx hb dX8_village_82 (by decide) (fun c_82 => ?_) (fun c_82 => ?_)
        · have h := h.1 c_82
          refine xa_new (C := RX11) (T := TX11) (N := 17) (ci := 12) (fs := [.int 0, .int 0, .int 0, .int 0, .int 0, .int 0, .int 0, .int 0, .int 0, .int 0, .int 0, .int 0, .int 0, .int 0, .null, .null, .null]) hx hb hts in_X11 tyX11 tyX11_ok hown q2032 q2033 q99 hK.1 hS rfl (fun j hj => by rcases (show j = 0 ∨ j = 1 ∨ j = 2 ∨ j = 3 ∨ j = 4 ∨ j = 5 ∨ j = 6 ∨ j = 7 ∨ j = 8 ∨ j = 9 ∨ j = 10 ∨ j = 11 ∨ j = 12 ∨ j = 13 ∨ j = 14 ∨ j = 15 ∨ j = 16 by omega) with rfl | rfl | rfl | rfl | rfl | rfl | rfl | rfl | rfl | rfl | rfl | rfl | rfl | rfl | rfl | rfl | rfl <;> rfl) (Nat.le_of_ble_eq_true rfl) (Nat.le_of_ble_eq_true rfl) dX8_village_87 (fun q_87 H1 hq h1 hz ho hS => ?_)
          have hR := hR.newL hq h1 (by omega) ho
          clear hq h1 hz ho
          generalize H1 = H at hR hS ⊢
          have hR : Rp κ w_79 y X [(q_87, .inr (12, [.int 0, .int 0, .int 0, .int 0, .int 0, .int 0, .int 0, .int 0, .int 0, .int 0, .int 0, .int 0, .int 0, .int 0, .null, .null, .null]))] H := hR
          refine lv_dup hx hb dX8_village_90 rfl ?_
          have o_91 := h.1
          have h := h.2
          obtain ⟨n_91, en_n_91⟩ : ∃ z : Nat, z = mV y := ⟨_, rfl⟩
          have h := h n_91 en_n_91
          refine va_callv (va_runIN (As := []) (rest := [.ref (q_87)]) ⟨hx, hb, hml, hown, hts⟩ (m_X11_init (X := xl X [(q_87, .inr (12, [.int 0, .int 0, .int 0, .int 0, .int 0, .int 0, .int 0, .int 0, .int 0, .int 0, .int 0, .int 0, .int 0, .int 0, .null, .null, .null]))]) (Or.inr ⟨0, rfl⟩)) ⟨va_cnB 0 hts (lw_meth q2036) rfl rfl rfl (hK.2.1.1 _ (List.mem_of_getElem? (i := 13) rfl)) (hts _ q99) (by decide +kernel) ⟨Nat.le_of_ble_eq_true rfl, Nat.le_of_ble_eq_true rfl⟩, rfl, hts _ q2035⟩ ⟨RC.blind, RC.pre hR hK⟩ rfl rfl hl.1 rfl (lv_room (Nat.le_of_ble_eq_true rfl)) dX8_village_91 ⟨(Nat.le_of_ble_eq_true rfl), (Nat.le_of_ble_eq_true rfl)⟩) hS (fun _ _ h => h) (fun _ h => h) (fun u_91 t9 H locs ht9 _ hp9 hB9 hz9 _ hS => ?_)
          rw [ht9] at hB9
          have hR := hR.wroteLs (t := 0) rfl hB9
          clear hB9 hz9 hp9
          have hR := hR.mkMV (n := n_91)
          obtain ⟨w_91, ew_91⟩ : ∃ z, z = wMkMV w_79 n_91  := ⟨_, rfl⟩
          obtain ⟨y_91, ey_91⟩ : ∃ z, z = yMkMV y n_91 q_87 u_91.1 u_91.2.1 u_91.2.2 := ⟨_, rfl⟩
          have h := h w_91 ew_91 y_91 _ _ _ _ ey_91
          have hR : Rp κ w_91 y_91 X [] H := by
            rw [ew_91, ey_91]
            exact hR
          have lv_y_91 : live y_91 21 n_91 := ⟨by rw [ey_91]; exact yMkMV_f0, by decide⟩
          have hq_y_91 : q_87 = y_91.2 21 n_91 := by rw [ey_91]; exact yMkMV_a0.symm
          have hM_y_91 : WFm κ y_91 := by rw [ey_91]; exact WFm.mkMV hM en_n_91 (by rw [en_n_91]; exact o_91)
          rw [hq_y_91]
          have lv_91 := l0
          have ea_91 : y_91.2 20 0 = y.2 20 0 := by rw [ey_91]; exact yMkMV_2 (by omega)
          have lw_91 : live y_91 20 0 := ⟨by rw [ey_91, yMkMV_1 (by omega)]; exact lv_91.1, lv_91.2⟩
          have hl : lv_has ls 7 [(0, .ref (y_91.2 20 0)), (1, .int (p1)), (2, .int (p2)), (3, .int (p3)), (4, .int (p4))] := by
            rw [ea_91]
            exact hl
          have cn_91 : n_91 = mV y_91 := by rw [en_n_91, ey_91]; exact (show (yMkMV y n_91 q_87 u_91.1 u_91.2.1 u_91.2.2).1 150 0 = y.1 150 0 from yMkMV_1 (by omega)).symm
          refine lv_astore (lv' := [(6, .ref (y_91.2 21 n_91)), (0, .ref (y_91.2 20 0)), (1, .int (p1)), (2, .int (p2)), (3, .int (p3)), (4, .int (p4))]) hx hb dX8_village_94 hl (by decide) rfl (fun ls hl => ?_)
          refine lv_aload hx hb dX8_village_96 (lv_at hl 0 rfl) ?_
          refine lv_iload_n hx hb dX8_village_98 rfl (lv_at hl 2 rfl) ?_
          refine p21_0 hx hb hts hown hK hR hS lv_y_91 q2040 dX8_village_99 (fun H locs w_99 ew_99 hR hS => ?_)
          have h := h w_99 ew_99
          refine lv_aload hx hb dX8_village_102 (lv_at hl 0 rfl) ?_
          refine lv_iload_n hx hb dX8_village_104 rfl (lv_at hl 3 rfl) ?_
          refine p21_1 hx hb hts hown hK hR hS lv_y_91 q2041 dX8_village_105 (fun H locs w_105 ew_105 hR hS => ?_)
          have h := h w_105 ew_105
          refine lv_aload hx hb dX8_village_108 (lv_at hl 0 rfl) ?_
          refine lv_iload_n hx hb dX8_village_110 rfl (lv_at hl 4 rfl) ?_
          refine p21_2 hx hb hts hown hK hR hS lv_y_91 q2042 dX8_village_111 (fun H locs w_111 ew_111 hR hS => ?_)
          have h := h w_111 ew_111
          refine lv_aload hx hb dX8_village_114 (lv_at hl 0 rfl) ?_
          refine lv_iload hx hb dX8_village_116 (lv_at hl 5 rfl) ?_
          refine p21_3 hx hb hts hown hK hR hS lv_y_91 q2043 dX8_village_118 (fun H locs w_118 ew_118 hR hS => ?_)
          have h := h w_118 ew_118
          refine lv_aload hx hb dX8_village_121 (lv_at hl 0 rfl) ?_
          refine lv_iconst (v := (4 : Int32)) hx hb dX8_village_123 (by decide) ?_
          refine lv_iload_n hx hb dX8_village_124 rfl (lv_at hl 2 rfl) ?_
          refine lv_imul hx hb dX8_village_125 ?_
          refine p21_4 hx hb hts hown hK hR hS lv_y_91 q2044 dX8_village_126 (fun H locs w_126 ew_126 hR hS => ?_)
          have h := h w_126 ew_126
          refine lv_aload hx hb dX8_village_129 (lv_at hl 0 rfl) ?_
          refine lv_iload_n hx hb dX8_village_131 rfl (lv_at hl 3 rfl) ?_
          refine p21_8 hx hb hts hown hK hR hS lv_y_91 q2049 dX8_village_132 (fun H locs w_132 ew_132 hR hS => ?_)
          have h := h w_132 ew_132
          refine lv_aload_n hx hb dX8_village_135 rfl (lv_at hl 1 rfl) ?_
          refine g20_3 hx hb hts hown hK hR lw_91 q1948 dX8_village_136 ?_
          refine lv_aload hx hb dX8_village_139 (lv_at hl 0 rfl) ?_
          have lv_141 := lv_y_91
          have lv_141_a := lw_91
          refine jr_add ⟨hx, hb, hml, hown, hts⟩ hK hR hS ⟨fun _ _ _ _ _ => rfl, fun _ _ _ _ _ => rfl⟩ (by decide) (by decide) (by decide) hM_y_91.lsV (Nat.lt_of_le_of_lt hM_y_91.mV8 (by decide)) (fun hp9 => hM_y_91.arV hp9) (fun X1 L1 H1 hR1 => ⟨12, _, _, rfl, List.mem_of_getElem? (i := 21) rfl, hR1.role (live_off lv_y_91 (by omega) (by omega))⟩) q2096 ⟨Nat.le_of_ble_eq_true rfl, Nat.le_of_ble_eq_true rfl⟩ hl.1 (Nat.le_of_ble_eq_true rfl) dX8_village_141 ⟨(Nat.le_of_ble_eq_true rfl), (Nat.le_of_ble_eq_true rfl)⟩ (fun H locs y_141 hY_y_141 hR hS => ?_)
          have h := h y_141 hY_y_141
          have hM_y_141 : WFm κ y_141 := WFm.addMV hM_y_91 hY_y_141 cn_91 (by rw [en_n_91]; exact o_91) lv_y_91
          have ea_141 : y_141.2 21 n_91 = y_91.2 21 n_91 := hY_y_141.2.2 21 n_91 (by omega) (by omega)
          have lw_141 : live y_141 21 n_91 := ⟨by rw [hY_y_141.2.1 21 n_91 (by omega) (by omega) (by omega)]; exact lv_141.1, lv_141.2⟩
          have ea_141_a : y_141.2 20 0 = y_91.2 20 0 := hY_y_141.2.2 20 0 (by omega) (by omega)
          have lw_141_a : live y_141 20 0 := ⟨by rw [hY_y_141.2.1 20 0 (by omega) (by omega) (by omega)]; exact lv_141_a.1, lv_141_a.2⟩
          have hl : lv_has ls 7 [(6, .ref (y_141.2 21 n_91)), (0, .ref (y_141.2 20 0)), (1, .int (p1)), (2, .int (p2)), (3, .int (p3)), (4, .int (p4))] := by
            rw [ea_141, ea_141_a]
            exact hl
          refine lv_pop hx hb dX8_village_144 rfl ?_
          refine lv_aload_n hx hb dX8_village_145 rfl (lv_at hl 1 rfl) ?_
          refine lv_aload_n hx hb dX8_village_146 rfl (lv_at hl 1 rfl) ?_
          refine g20_3 hx hb hts hown hK hR lw_141_a q1948 dX8_village_147 ?_
          refine jr_size ⟨hx, hb, hml, hown, hts⟩ hK hR ⟨fun _ _ _ _ _ => rfl, fun _ _ _ _ _ => rfl⟩ hM_y_141.lsV q2031 ⟨Nat.le_of_ble_eq_true rfl, Nat.le_of_ble_eq_true rfl⟩ hl.1 (Nat.le_of_ble_eq_true rfl) dX8_village_150 ⟨(Nat.le_of_ble_eq_true rfl), (Nat.le_of_ble_eq_true rfl)⟩ ?_
          refine lv_iconst (v := (1 : Int32)) hx hb dX8_village_153 (by decide) ?_
          refine lv_isub hx hb dX8_village_154 ?_
          refine ce_qv (fw := fun u => u) (fy := fun _ => y_141) (cr_V (n := 1) (As := [.int ((nI (mV y_141)) - (1 : Int32))]) (rest := []) ⟨hx, hb, hml, hown, hts⟩ hK hR (m_X8_cutStone hM_y_141 lw_141_a h) q2097 q2099 qs39 q85 q2100 rfl rfl hd_X8_cutStone ⟨Nat.le_of_ble_eq_true rfl, Nat.le_of_ble_eq_true rfl⟩ (rv hK hR lw_141_a (ci := 11) rfl rfl) rfl rfl hl.1 rfl (lv_room (Nat.le_of_ble_eq_true rfl)) dX8_village_155 ⟨(Nat.le_of_ble_eq_true rfl), (Nat.le_of_ble_eq_true rfl)⟩) hR hS (fun w_155 H locs h hR _ hS => ?_)
          refine lv_aload_n hx hb dX8_village_158 rfl (lv_at hl 1 rfl) ?_
          refine g20_3 hx hb hts hown hK hR lw_141_a q1948 dX8_village_159 ?_
          refine jr_size ⟨hx, hb, hml, hown, hts⟩ hK hR ⟨fun _ _ _ _ _ => rfl, fun _ _ _ _ _ => rfl⟩ hM_y_141.lsV q2031 ⟨Nat.le_of_ble_eq_true rfl, Nat.le_of_ble_eq_true rfl⟩ hl.1 (Nat.le_of_ble_eq_true rfl) dX8_village_162 ⟨(Nat.le_of_ble_eq_true rfl), (Nat.le_of_ble_eq_true rfl)⟩ ?_
          refine lv_iconst (v := (1 : Int32)) hx hb dX8_village_165 (by decide) ?_
          refine lv_isub hx hb dX8_village_166 ?_
          refine W.widen (k := 5) (n := 36) (Nat.le_of_ble_eq_true rfl) (Nat.le_of_ble_eq_true rfl) ?_
          exact W.iret (v := (nI (mV y_141)) - (1 : Int32)) hx hb hr (fun t ht hW9 => ⟨⟨(nI (mV y_141)) - (1 : Int32), (w_155, y_141), rfl, h, ⟨rpt ht hR, hM_y_141⟩⟩, hS.F ht⟩) hS.2.2 dX8_village_167
        · have h := h.2 c_82
          refine lv_iconst (v := (0 : Int32)) hx hb dX8_village_85 (by decide) ?_
          refine W.widen (k := 5) (n := 36) (Nat.le_of_ble_eq_true rfl) (Nat.le_of_ble_eq_true rfl) ?_
          exact W.iret (v := (0 : Int32)) hx hb hr (fun t ht hW9 => ⟨⟨(0 : Int32), (w_79, y), rfl, h, ⟨rpt ht hR, hM⟩⟩, hS.F ht⟩) hS.2.2 dX8_village_86
      refine lv_icmp_ne (tgt := 77) hx hb dX8_village_70 (by decide) (fun c_70 => ?_) (fun c_70 => ?_)
      · have h := h.1 c_70
        refine lv_iconst (v := (0 : Int32)) hx hb dX8_village_77 (by decide) ?_
        refine W.widen (k := 0) (n := 0) (Nat.le_of_ble_eq_true rfl) (Nat.le_of_ble_eq_true rfl) ?_
        exact Jj78 w_54 (0 : Int32) _ _ _ h hR hS (lv_sub hl [1, 2, 3, 4, 5] rfl)
      · have h := h.2 c_70
        refine lv_iconst (v := (1 : Int32)) hx hb dX8_village_73 (by decide) ?_
        refine lv_goto (tgt := 78) hx hb dX8_village_74 (by decide) ?_
        refine W.widen (k := 0) (n := 0) (Nat.le_of_ble_eq_true rfl) (Nat.le_of_ble_eq_true rfl) ?_
        exact Jj78 w_54 (1 : Int32) _ _ _ h hR hS (lv_sub hl [1, 2, 3, 4, 5] rfl)
  refine lv_if_eq (tgt := 43) hx hb dX8_village_7 (by decide) (fun c_7 => ?_) (fun c_7 => ?_)
  · have h := h.1 c_7
    refine lv_iconst (v := (1 : Int32)) hx hb dX8_village_43 (by decide) ?_
    refine lv_goto (tgt := 48) hx hb dX8_village_44 (by decide) ?_
    refine W.widen (k := 0) (n := 0) (Nat.le_of_ble_eq_true rfl) (Nat.le_of_ble_eq_true rfl) ?_
    exact Jj48 w_4 (1 : Int32) _ _ _ h hR hS (lv_sub hl [0, 1, 2, 3, 4] rfl)
  · have h := h.2 c_7
    refine lv_iload_n hx hb dX8_village_10 rfl (lv_at hl 2 rfl) ?_
    refine lv_iconst (v := (0 : Int32)) hx hb dX8_village_11 (by decide) ?_
    refine lv_sipush (v := (600 : Int32)) hx hb dX8_village_12 (by decide) ?_
    refine ce_qi (fw := fun u => u) (fy := fun _ => y) (cr_S (n := 3) (As := [.int (p2), .int ((0 : Int32)), .int ((600 : Int32))]) (rest := []) ⟨hx, hb, hml, hown, hts⟩ hK hR (m_X8_isIn hM h) q2020 q2021 q85 q2022 rfl rfl hds_X8_isIn ⟨Nat.le_of_ble_eq_true rfl, Nat.le_of_ble_eq_true rfl⟩ rfl rfl hl.1 rfl (lv_room (Nat.le_of_ble_eq_true rfl)) dX8_village_15 ⟨(Nat.le_of_ble_eq_true rfl), (Nat.le_of_ble_eq_true rfl)⟩) hR hS (fun r_15 w_15 H locs h hR _ hS => ?_)
    refine lv_if_eq (tgt := 43) hx hb dX8_village_18 (by decide) (fun c_18 => ?_) (fun c_18 => ?_)
    · have h := h.1 c_18
      refine lv_iconst (v := (1 : Int32)) hx hb dX8_village_43 (by decide) ?_
      refine lv_goto (tgt := 48) hx hb dX8_village_44 (by decide) ?_
      refine W.widen (k := 0) (n := 0) (Nat.le_of_ble_eq_true rfl) (Nat.le_of_ble_eq_true rfl) ?_
      exact Jj48 w_15 (1 : Int32) _ _ _ h hR hS (lv_sub hl [0, 1, 2, 3, 4] rfl)
    · have h := h.2 c_18
      refine lv_iload_n hx hb dX8_village_21 rfl (lv_at hl 3 rfl) ?_
      refine lv_iconst (v := (0 : Int32)) hx hb dX8_village_22 (by decide) ?_
      refine lv_sipush (v := (600 : Int32)) hx hb dX8_village_23 (by decide) ?_
      refine ce_qi (fw := fun u => u) (fy := fun _ => y) (cr_S (n := 3) (As := [.int (p3), .int ((0 : Int32)), .int ((600 : Int32))]) (rest := []) ⟨hx, hb, hml, hown, hts⟩ hK hR (m_X8_isIn hM h) q2020 q2021 q85 q2022 rfl rfl hds_X8_isIn ⟨Nat.le_of_ble_eq_true rfl, Nat.le_of_ble_eq_true rfl⟩ rfl rfl hl.1 rfl (lv_room (Nat.le_of_ble_eq_true rfl)) dX8_village_26 ⟨(Nat.le_of_ble_eq_true rfl), (Nat.le_of_ble_eq_true rfl)⟩) hR hS (fun r_26 w_26 H locs h hR _ hS => ?_)
      refine lv_if_eq (tgt := 43) hx hb dX8_village_29 (by decide) (fun c_29 => ?_) (fun c_29 => ?_)
      · have h := h.1 c_29
        refine lv_iconst (v := (1 : Int32)) hx hb dX8_village_43 (by decide) ?_
        refine lv_goto (tgt := 48) hx hb dX8_village_44 (by decide) ?_
        refine W.widen (k := 0) (n := 0) (Nat.le_of_ble_eq_true rfl) (Nat.le_of_ble_eq_true rfl) ?_
        exact Jj48 w_26 (1 : Int32) _ _ _ h hR hS (lv_sub hl [0, 1, 2, 3, 4] rfl)
      · have h := h.2 c_29
        refine lv_iload hx hb dX8_village_32 (lv_at hl 4 rfl) ?_
        refine lv_iconst (v := (1 : Int32)) hx hb dX8_village_34 (by decide) ?_
        refine lv_bipush (v := (9 : Int32)) hx hb dX8_village_35 (by decide) ?_
        refine ce_qi (fw := fun u => u) (fy := fun _ => y) (cr_S (n := 3) (As := [.int (p4), .int ((1 : Int32)), .int ((9 : Int32))]) (rest := []) ⟨hx, hb, hml, hown, hts⟩ hK hR (m_X8_isIn hM h) q2020 q2021 q85 q2022 rfl rfl hds_X8_isIn ⟨Nat.le_of_ble_eq_true rfl, Nat.le_of_ble_eq_true rfl⟩ rfl rfl hl.1 rfl (lv_room (Nat.le_of_ble_eq_true rfl)) dX8_village_37 ⟨(Nat.le_of_ble_eq_true rfl), (Nat.le_of_ble_eq_true rfl)⟩) hR hS (fun r_37 w_37 H locs h hR _ hS => ?_)
        refine lv_if_ne (tgt := 47) hx hb dX8_village_40 (by decide) (fun c_40 => ?_) (fun c_40 => ?_)
        · have h := h.1 c_40
          refine lv_iconst (v := (0 : Int32)) hx hb dX8_village_47 (by decide) ?_
          refine W.widen (k := 0) (n := 0) (Nat.le_of_ble_eq_true rfl) (Nat.le_of_ble_eq_true rfl) ?_
          exact Jj48 w_37 (0 : Int32) _ _ _ h hR hS (lv_sub hl [0, 1, 2, 3, 4] rfl)
        · have h := h.2 c_40
          refine lv_iconst (v := (1 : Int32)) hx hb dX8_village_43 (by decide) ?_
          refine lv_goto (tgt := 48) hx hb dX8_village_44 (by decide) ?_
          refine W.widen (k := 0) (n := 0) (Nat.le_of_ble_eq_true rfl) (Nat.le_of_ble_eq_true rfl) ?_
          exact Jj48 w_37 (1 : Int32) _ _ _ h hR hS (lv_sub hl [0, 1, 2, 3, 4] rfl)
