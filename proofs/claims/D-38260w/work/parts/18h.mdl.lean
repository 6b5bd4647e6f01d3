/-! printed by wip gen: X8_wouldBring, X8_bestForce, X8_direct, X8_wouldWin, X8_isSound, X8_award, X8_collect, X8_pass, X8_digest -/
set_option maxRecDepth 100000
abbrev rm_X8_wouldBring : Room := { frames := 5, cells := 0, slots := 0, locals := 145 }
def sp_X8_wouldBring (κ : Kx) (y : Ly) (post : Int32 → Wd → Prop) (w : Wd) (p1 : Int32) (p2 : Int32) : Prop := sp_X8_isNoLot κ y (fun r_3 w_3 => sp_X8_start κ y (fun r_7 w_7 => ((¬ r_7 = 0) → (post ((0 : Int32)) w_7)) ∧ ((r_7 = 0) → (sp_X8_isIn κ y (fun r_17 w_17 => ((¬ r_17 = 0) → (sp_X8_refuse κ y (fun r_29 w_29 => ((r_29 = 0) → ((vp_in (p1) (mL y)) ∧ (sp_X8_wouldBringNow κ y (fun r_52 w_52 => post (r_52) w_52) w_29 (((p1).toNatClampNeg)) p2))) ∧ ((¬ (r_29 = 0)) → (post ((0 : Int32)) w_29))) w_17 (0 : Int32) (2 : Int32))) ∧ ((r_17 = 0) → (sp_X8_refuse κ y (fun r_29_a w_29_a => ((r_29_a = 0) → ((vp_in (p1) (mL y)) ∧ (sp_X8_wouldBringNow κ y (fun r_52_a w_52_a => post (r_52_a) w_52_a) w_29_a (((p1).toNatClampNeg)) p2))) ∧ ((¬ (r_29_a = 0)) → (post ((0 : Int32)) w_29_a))) w_17 (1 : Int32) (2 : Int32)))) w_7 p2 (0 : Int32) (3 : Int32)))) w_3 r_3 (1 : Int32)) w p1
theorem hd_X8_wouldBring : yX8_wouldBring.cls = RX8 ∧ yX8_wouldBring.cls ≠ "java/lang/invoke/MethodHandle" ∧ yX8_wouldBring.cls ≠ "java/lang/invoke/VarHandle" ∧ (parseMethodDescriptor yX8_wouldBring.desc).map (fun d => d.parameters.length) = some 2 := by decide +kernel
set_option maxHeartbeats 4000000 in
theorem m_X8_wouldBring {l : Launch} {κ : Kx} {y : Ly} {X : XR} {post : Int32 → Wd → Prop} {w : Wd} {p1 : Int32} {p2 : Int32}  (hM : WFm κ y) (l0 : live y 20 0) (h : sp_X8_wouldBring κ y post w p1 p2) : Met l yX8_wouldBring (ws_ yX8_wouldBring cX8_wouldBring 3 (Option.some Jvm.ClassFile.FieldType.int)) rm_X8_wouldBring (va_Pc [.ref (y.2 20 0), .int (p1), .int (p2)] (RC κ w y X)) (va_Qi post (fun w t => Rp κ w y X [] t.heap) (Af κ)) 0 0 (Af κ) := by
  unfold sp_X8_wouldBring at h
  refine Met.ofW (cc := cX8_wouldBring) (maxL := 3) (ret := (Option.some Jvm.ClassFile.FieldType.int)) (by decide) rfl ?_
  intro p e s m args below meth c s₁ B hml hv
  obtain ⟨rfl, hR, hK⟩ := hv
  have hx := B.exec
  have hb := B.bytes
  have hr := B.returns
  have hts := atoms_spec (ws := ws_ yX8_wouldBring cX8_wouldBring 3 (Option.some Jvm.ClassFile.FieldType.int)) B.pre
  have hts : ∀ w ∈ lw_all, w.before _ s = true := fun w h => hts w (List.mem_cons_of_mem _ h)
  have hown : s.vm.findClass RX8 = some m.cls := findClass_of_methodNamed B.named
  have hlocks := B.notSynchronized
  have hS : va_S (Af κ) s.heap s.heap [] := va_S.rf
  have hl := lv_entry ([.ref (y.2 20 0), .int (p1), .int (p2)]) (n := 3) (Nat.le_of_ble_eq_true rfl)
  rw [lg_entry_eq]
  generalize (lg_sl ([.ref (y.2 20 0), .int (p1), .int (p2)]) ++ List.replicate (3 - (lg_sl ([.ref (y.2 20 0), .int (p1), .int (p2)])).length) Slot.unset).toArray = ls at hl ⊢
  have hl : lv_has ls 3 [(0, .ref (y.2 20 0)), (1, .int (p1)), (2, .int (p2))] := hl
  refine lv_aload_n hx hb dX8_wouldBring_0 rfl (lv_at hl 0 rfl) ?_
  refine lv_aload_n hx hb dX8_wouldBring_1 rfl (lv_at hl 0 rfl) ?_
  refine lv_iload_n hx hb dX8_wouldBring_2 rfl (lv_at hl 1 rfl) ?_
  refine ce_qi (fw := fun u => u) (fy := fun _ => y) (cr_V (n := 1) (As := [.int (p1)]) (rest := [.ref (y.2 20 0)]) ⟨hx, hb, hml, hown, hts⟩ hK hR (m_X8_isNoLot hM l0 h) q2308 q2310 qs44 q85 q2311 rfl rfl hd_X8_isNoLot ⟨Nat.le_of_ble_eq_true rfl, Nat.le_of_ble_eq_true rfl⟩ (rv hK hR l0 (ci := 11) rfl rfl) rfl rfl hl.1 rfl (lv_room (Nat.le_of_ble_eq_true rfl)) dX8_wouldBring_3 ⟨(Nat.le_of_ble_eq_true rfl), (Nat.le_of_ble_eq_true rfl)⟩) hR hS (fun r_3 w_3 H locs h hR _ hS => ?_)
  refine lv_iconst (v := (1 : Int32)) hx hb dX8_wouldBring_6 (by decide) ?_
  refine ce_qi (fw := fun u => u) (fy := fun _ => y) (cr_V (n := 2) (As := [.int (r_3), .int ((1 : Int32))]) (rest := []) ⟨hx, hb, hml, hown, hts⟩ hK hR (m_X8_start hM l0 h) q2023 q2025 qs37 q85 q2026 rfl rfl hd_X8_start ⟨Nat.le_of_ble_eq_true rfl, Nat.le_of_ble_eq_true rfl⟩ (rv hK hR l0 (ci := 11) rfl rfl) rfl rfl hl.1 rfl (lv_room (Nat.le_of_ble_eq_true rfl)) dX8_wouldBring_7 ⟨(Nat.le_of_ble_eq_true rfl), (Nat.le_of_ble_eq_true rfl)⟩) hR hS (fun r_7 w_7 H locs h hR _ hS => ?_)
  refine lv_if_ne (tgt := 35) hx hb dX8_wouldBring_10 (by decide) (fun c_10 => ?_) (fun c_10 => ?_)
  · have h := h.1 c_10
    refine lv_iconst (v := (0 : Int32)) hx hb dX8_wouldBring_35 (by decide) ?_
    refine lv_goto (tgt := 55) hx hb dX8_wouldBring_36 (by decide) ?_
    refine W.widen (k := 0) (n := 0) (Nat.le_of_ble_eq_true rfl) (Nat.le_of_ble_eq_true rfl) ?_
    exact W.iret (v := (0 : Int32)) hx hb hr (fun t ht hW9 => ⟨⟨(0 : Int32), w_7, rfl, h, rpt ht hR⟩, hS.F ht⟩) hS.2.2 dX8_wouldBring_55
  · have h := h.2 c_10
    refine lv_aload_n hx hb dX8_wouldBring_13 rfl (lv_at hl 0 rfl) ?_
    refine lv_iload_n hx hb dX8_wouldBring_14 rfl (lv_at hl 2 rfl) ?_
    refine lv_iconst (v := (0 : Int32)) hx hb dX8_wouldBring_15 (by decide) ?_
    refine lv_iconst (v := (3 : Int32)) hx hb dX8_wouldBring_16 (by decide) ?_
    refine ce_qi (fw := fun u => u) (fy := fun _ => y) (cr_S (n := 3) (As := [.int (p2), .int ((0 : Int32)), .int ((3 : Int32))]) (rest := [.ref (y.2 20 0)]) ⟨hx, hb, hml, hown, hts⟩ hK hR (m_X8_isIn hM h) q2020 q2021 q85 q2022 rfl rfl hds_X8_isIn ⟨Nat.le_of_ble_eq_true rfl, Nat.le_of_ble_eq_true rfl⟩ rfl rfl hl.1 rfl (lv_room (Nat.le_of_ble_eq_true rfl)) dX8_wouldBring_17 ⟨(Nat.le_of_ble_eq_true rfl), (Nat.le_of_ble_eq_true rfl)⟩) hR hS (fun r_17 w_17 H locs h hR _ hS => ?_)
    refine lv_if_ne (tgt := 27) hx hb dX8_wouldBring_20 (by decide) (fun c_20 => ?_) (fun c_20 => ?_)
    · have h := h.1 c_20
      refine lv_iconst (v := (0 : Int32)) hx hb dX8_wouldBring_27 (by decide) ?_
      refine lv_iconst (v := (2 : Int32)) hx hb dX8_wouldBring_28 (by decide) ?_
      refine ce_qi (fw := fun u => u) (fy := fun _ => y) (cr_V (n := 2) (As := [.int ((0 : Int32)), .int ((2 : Int32))]) (rest := []) ⟨hx, hb, hml, hown, hts⟩ hK hR (m_X8_refuse hM l0 h) q2027 q2029 qs38 q85 q2030 rfl rfl hd_X8_refuse ⟨Nat.le_of_ble_eq_true rfl, Nat.le_of_ble_eq_true rfl⟩ (rv hK hR l0 (ci := 11) rfl rfl) rfl rfl hl.1 rfl (lv_room (Nat.le_of_ble_eq_true rfl)) dX8_wouldBring_29 ⟨(Nat.le_of_ble_eq_true rfl), (Nat.le_of_ble_eq_true rfl)⟩) hR hS (fun r_29 w_29 H locs h hR _ hS => ?_)
      refine lv_if_eq (tgt := 39) hx hb dX8_wouldBring_32 (by decide) (fun c_32 => ?_) (fun c_32 => ?_)
      · have h := h.1 c_32
        refine lv_aload_n hx hb dX8_wouldBring_39 rfl (lv_at hl 0 rfl) ?_
        refine lv_aload_n hx hb dX8_wouldBring_40 rfl (lv_at hl 0 rfl) ?_
        refine g20_5 hx hb hts hown hK hR l0 q1950 dX8_wouldBring_41 ?_
        refine lv_iload_n hx hb dX8_wouldBring_44 rfl (lv_at hl 1 rfl) ?_
        have o_45 := h.1
        have h := h.2
        refine jr_get (a := y.2 27 ((p1).toNatClampNeg)) ⟨hx, hb, hml, hown, hts⟩ hK hR ⟨fun _ _ _ _ _ => rfl, fun _ _ _ _ _ => rfl⟩ hM.lsL ⟨hM.arL (Nat.lt_of_le_of_lt (Nat.zero_le _) (vp_lt o_45)), (Nat.le_trans hM.mL8 (by decide))⟩ o_45 (hM.elL (vp_lt o_45)) q2101 ⟨Nat.le_of_ble_eq_true rfl, Nat.le_of_ble_eq_true rfl⟩ hl.1 (Nat.le_of_ble_eq_true rfl) dX8_wouldBring_45 ⟨(Nat.le_of_ble_eq_true rfl), (Nat.le_of_ble_eq_true rfl)⟩ ?_
        refine jr_castS (ci := 14) hx hb hown hK hts (hR.role (hM.lot (vp_lt o_45))) rfl q2253 dX8_wouldBring_48 ?_
        refine lv_iload_n hx hb dX8_wouldBring_51 rfl (lv_at hl 2 rfl) ?_
        refine ce_qi (fw := fun u => u) (fy := fun _ => y) (cr_V (n := 2) (As := [.ref (y.2 27 ((p1).toNatClampNeg)), .int (p2)]) (rest := []) ⟨hx, hb, hml, hown, hts⟩ hK hR (m_X8_wouldBringNow hM l0 (hM.lot (vp_lt o_45)) h) q2589 q2591 qs69 q85 q2592 rfl rfl hd_X8_wouldBringNow ⟨Nat.le_of_ble_eq_true rfl, Nat.le_of_ble_eq_true rfl⟩ (rv hK hR l0 (ci := 11) rfl rfl) rfl rfl hl.1 rfl (lv_room (Nat.le_of_ble_eq_true rfl)) dX8_wouldBring_52 ⟨(Nat.le_of_ble_eq_true rfl), (Nat.le_of_ble_eq_true rfl)⟩) hR hS (fun r_52 w_52 H locs h hR _ hS => ?_)
        refine W.widen (k := 0) (n := 0) (Nat.le_of_ble_eq_true rfl) (Nat.le_of_ble_eq_true rfl) ?_
        exact W.iret (v := r_52) hx hb hr (fun t ht hW9 => ⟨⟨r_52, w_52, rfl, h, rpt ht hR⟩, hS.F ht⟩) hS.2.2 dX8_wouldBring_55
      · have h := h.2 c_32
        refine lv_iconst (v := (0 : Int32)) hx hb dX8_wouldBring_35 (by decide) ?_
        refine lv_goto (tgt := 55) hx hb dX8_wouldBring_36 (by decide) ?_
        refine W.widen (k := 0) (n := 0) (Nat.le_of_ble_eq_true rfl) (Nat.le_of_ble_eq_true rfl) ?_
        exact W.iret (v := (0 : Int32)) hx hb hr (fun t ht hW9 => ⟨⟨(0 : Int32), w_29, rfl, h, rpt ht hR⟩, hS.F ht⟩) hS.2.2 dX8_wouldBring_55
    · have h := h.2 c_20
      refine lv_iconst (v := (1 : Int32)) hx hb dX8_wouldBring_23 (by decide) ?_
      refine lv_goto (tgt := 28) hx hb dX8_wouldBring_24 (by decide) ?_
      refine lv_iconst (v := (2 : Int32)) hx hb dX8_wouldBring_28 (by decide) ?_
      refine ce_qi (fw := fun u => u) (fy := fun _ => y) (cr_V (n := 2) (As := [.int ((1 : Int32)), .int ((2 : Int32))]) (rest := []) ⟨hx, hb, hml, hown, hts⟩ hK hR (m_X8_refuse hM l0 h) q2027 q2029 qs38 q85 q2030 rfl rfl hd_X8_refuse ⟨Nat.le_of_ble_eq_true rfl, Nat.le_of_ble_eq_true rfl⟩ (rv hK hR l0 (ci := 11) rfl rfl) rfl rfl hl.1 rfl (lv_room (Nat.le_of_ble_eq_true rfl)) dX8_wouldBring_29 ⟨(Nat.le_of_ble_eq_true rfl), (Nat.le_of_ble_eq_true rfl)⟩) hR hS (fun r_29_a w_29_a H locs h hR _ hS => ?_)
      refine lv_if_eq (tgt := 39) hx hb dX8_wouldBring_32 (by decide) (fun c_32_a => ?_) (fun c_32_a => ?_)
      · have h := h.1 c_32_a
        refine lv_aload_n hx hb dX8_wouldBring_39 rfl (lv_at hl 0 rfl) ?_
        refine lv_aload_n hx hb dX8_wouldBring_40 rfl (lv_at hl 0 rfl) ?_
        refine g20_5 hx hb hts hown hK hR l0 q1950 dX8_wouldBring_41 ?_
        refine lv_iload_n hx hb dX8_wouldBring_44 rfl (lv_at hl 1 rfl) ?_
        have o_45_a := h.1
        have h := h.2
        refine jr_get (a := y.2 27 ((p1).toNatClampNeg)) ⟨hx, hb, hml, hown, hts⟩ hK hR ⟨fun _ _ _ _ _ => rfl, fun _ _ _ _ _ => rfl⟩ hM.lsL ⟨hM.arL (Nat.lt_of_le_of_lt (Nat.zero_le _) (vp_lt o_45_a)), (Nat.le_trans hM.mL8 (by decide))⟩ o_45_a (hM.elL (vp_lt o_45_a)) q2101 ⟨Nat.le_of_ble_eq_true rfl, Nat.le_of_ble_eq_true rfl⟩ hl.1 (Nat.le_of_ble_eq_true rfl) dX8_wouldBring_45 ⟨(Nat.le_of_ble_eq_true rfl), (Nat.le_of_ble_eq_true rfl)⟩ ?_
        refine jr_castS (ci := 14) hx hb hown hK hts (hR.role (hM.lot (vp_lt o_45_a))) rfl q2253 dX8_wouldBring_48 ?_
        refine lv_iload_n hx hb dX8_wouldBring_51 rfl (lv_at hl 2 rfl) ?_
        refine ce_qi (fw := fun u => u) (fy := fun _ => y) (cr_V (n := 2) (As := [.ref (y.2 27 ((p1).toNatClampNeg)), .int (p2)]) (rest := []) ⟨hx, hb, hml, hown, hts⟩ hK hR (m_X8_wouldBringNow hM l0 (hM.lot (vp_lt o_45_a)) h) q2589 q2591 qs69 q85 q2592 rfl rfl hd_X8_wouldBringNow ⟨Nat.le_of_ble_eq_true rfl, Nat.le_of_ble_eq_true rfl⟩ (rv hK hR l0 (ci := 11) rfl rfl) rfl rfl hl.1 rfl (lv_room (Nat.le_of_ble_eq_true rfl)) dX8_wouldBring_52 ⟨(Nat.le_of_ble_eq_true rfl), (Nat.le_of_ble_eq_true rfl)⟩) hR hS (fun r_52_a w_52_a H locs h hR _ hS => ?_)
        refine W.widen (k := 0) (n := 0) (Nat.le_of_ble_eq_true rfl) (Nat.le_of_ble_eq_true rfl) ?_
        exact W.iret (v := r_52_a) hx hb hr (fun t ht hW9 => ⟨⟨r_52_a, w_52_a, rfl, h, rpt ht hR⟩, hS.F ht⟩) hS.2.2 dX8_wouldBring_55
      · have h := h.2 c_32_a
        refine lv_iconst (v := (0 : Int32)) hx hb dX8_wouldBring_35 (by decide) ?_
        refine lv_goto (tgt := 55) hx hb dX8_wouldBring_36 (by decide) ?_
        refine W.widen (k := 0) (n := 0) (Nat.le_of_ble_eq_true rfl) (Nat.le_of_ble_eq_true rfl) ?_
        exact W.iret (v := (0 : Int32)) hx hb hr (fun t ht hW9 => ⟨⟨(0 : Int32), w_29_a, rfl, h, rpt ht hR⟩, hS.F ht⟩) hS.2.2 dX8_wouldBring_55
abbrev rm_X8_bestForce : Room := { frames := 6, cells := 0, slots := 0, locals := 168 }
def sp_X8_bestForce (κ : Kx) (y : Ly) (post : Int32 → Wd → Prop) (w : Wd) (p1 : Int32) : Prop := sp_X8_isNoLot κ y (fun r_3 w_3 => sp_X8_start κ y (fun r_7 w_7 => ((r_7 = 0) → ((vp_in (p1) (mL y)) ∧ (sp_X8_bestForceNow κ y (fun r_29 w_29 => post (r_29) w_29) w_7 (((p1).toNatClampNeg))))) ∧ ((¬ (r_7 = 0)) → (post ((0 : Int32)) w_7))) w_3 r_3 (1 : Int32)) w p1
theorem hd_X8_bestForce : yX8_bestForce.cls = RX8 ∧ yX8_bestForce.cls ≠ "java/lang/invoke/MethodHandle" ∧ yX8_bestForce.cls ≠ "java/lang/invoke/VarHandle" ∧ (parseMethodDescriptor yX8_bestForce.desc).map (fun d => d.parameters.length) = some 1 := by decide +kernel
set_option maxHeartbeats 4000000 in
theorem m_X8_bestForce {l : Launch} {κ : Kx} {y : Ly} {X : XR} {post : Int32 → Wd → Prop} {w : Wd} {p1 : Int32}  (hM : WFm κ y) (l0 : live y 20 0) (h : sp_X8_bestForce κ y post w p1) : Met l yX8_bestForce (ws_ yX8_bestForce cX8_bestForce 2 (Option.some Jvm.ClassFile.FieldType.int)) rm_X8_bestForce (va_Pc [.ref (y.2 20 0), .int (p1)] (RC κ w y X)) (va_Qi post (fun w t => Rp κ w y X [] t.heap) (Af κ)) 0 0 (Af κ) := by
  unfold sp_X8_bestForce at h
  refine Met.ofW (cc := cX8_bestForce) (maxL := 2) (ret := (Option.some Jvm.ClassFile.FieldType.int)) (by decide) rfl ?_
  intro p e s m args below meth c s₁ B hml hv
  obtain ⟨rfl, hR, hK⟩ := hv
  have hx := B.exec
  have hb := B.bytes
  have hr := B.returns
  have hts := atoms_spec (ws := ws_ yX8_bestForce cX8_bestForce 2 (Option.some Jvm.ClassFile.FieldType.int)) B.pre
  have hts : ∀ w ∈ lw_all, w.before _ s = true := fun w h => hts w (List.mem_cons_of_mem _ h)
  have hown : s.vm.findClass RX8 = some m.cls := findClass_of_methodNamed B.named
  have hlocks := B.notSynchronized
  have hS : va_S (Af κ) s.heap s.heap [] := va_S.rf
  have hl := lv_entry ([.ref (y.2 20 0), .int (p1)]) (n := 2) (Nat.le_of_ble_eq_true rfl)
  rw [lg_entry_eq]
  generalize (lg_sl ([.ref (y.2 20 0), .int (p1)]) ++ List.replicate (2 - (lg_sl ([.ref (y.2 20 0), .int (p1)])).length) Slot.unset).toArray = ls at hl ⊢
  have hl : lv_has ls 2 [(0, .ref (y.2 20 0)), (1, .int (p1))] := hl
  refine lv_aload_n hx hb dX8_bestForce_0 rfl (lv_at hl 0 rfl) ?_
  refine lv_aload_n hx hb dX8_bestForce_1 rfl (lv_at hl 0 rfl) ?_
  refine lv_iload_n hx hb dX8_bestForce_2 rfl (lv_at hl 1 rfl) ?_
  refine ce_qi (fw := fun u => u) (fy := fun _ => y) (cr_V (n := 1) (As := [.int (p1)]) (rest := [.ref (y.2 20 0)]) ⟨hx, hb, hml, hown, hts⟩ hK hR (m_X8_isNoLot hM l0 h) q2308 q2310 qs44 q85 q2311 rfl rfl hd_X8_isNoLot ⟨Nat.le_of_ble_eq_true rfl, Nat.le_of_ble_eq_true rfl⟩ (rv hK hR l0 (ci := 11) rfl rfl) rfl rfl hl.1 rfl (lv_room (Nat.le_of_ble_eq_true rfl)) dX8_bestForce_3 ⟨(Nat.le_of_ble_eq_true rfl), (Nat.le_of_ble_eq_true rfl)⟩) hR hS (fun r_3 w_3 H locs h hR _ hS => ?_)
  refine lv_iconst (v := (1 : Int32)) hx hb dX8_bestForce_6 (by decide) ?_
  refine ce_qi (fw := fun u => u) (fy := fun _ => y) (cr_V (n := 2) (As := [.int (r_3), .int ((1 : Int32))]) (rest := []) ⟨hx, hb, hml, hown, hts⟩ hK hR (m_X8_start hM l0 h) q2023 q2025 qs37 q85 q2026 rfl rfl hd_X8_start ⟨Nat.le_of_ble_eq_true rfl, Nat.le_of_ble_eq_true rfl⟩ (rv hK hR l0 (ci := 11) rfl rfl) rfl rfl hl.1 rfl (lv_room (Nat.le_of_ble_eq_true rfl)) dX8_bestForce_7 ⟨(Nat.le_of_ble_eq_true rfl), (Nat.le_of_ble_eq_true rfl)⟩) hR hS (fun r_7 w_7 H locs h hR _ hS => ?_)
  refine lv_if_eq (tgt := 17) hx hb dX8_bestForce_10 (by decide) (fun c_10 => ?_) (fun c_10 => ?_)
  · have h := h.1 c_10
    refine lv_aload_n hx hb dX8_bestForce_17 rfl (lv_at hl 0 rfl) ?_
    refine lv_aload_n hx hb dX8_bestForce_18 rfl (lv_at hl 0 rfl) ?_
    refine g20_5 hx hb hts hown hK hR l0 q1950 dX8_bestForce_19 ?_
    refine lv_iload_n hx hb dX8_bestForce_22 rfl (lv_at hl 1 rfl) ?_
    have o_23 := h.1
    have h := h.2
    refine jr_get (a := y.2 27 ((p1).toNatClampNeg)) ⟨hx, hb, hml, hown, hts⟩ hK hR ⟨fun _ _ _ _ _ => rfl, fun _ _ _ _ _ => rfl⟩ hM.lsL ⟨hM.arL (Nat.lt_of_le_of_lt (Nat.zero_le _) (vp_lt o_23)), (Nat.le_trans hM.mL8 (by decide))⟩ o_23 (hM.elL (vp_lt o_23)) q2101 ⟨Nat.le_of_ble_eq_true rfl, Nat.le_of_ble_eq_true rfl⟩ hl.1 (Nat.le_of_ble_eq_true rfl) dX8_bestForce_23 ⟨(Nat.le_of_ble_eq_true rfl), (Nat.le_of_ble_eq_true rfl)⟩ ?_
    refine jr_castS (ci := 14) hx hb hown hK hts (hR.role (hM.lot (vp_lt o_23))) rfl q2253 dX8_bestForce_26 ?_
    refine ce_qi (fw := fun u => u) (fy := fun _ => y) (cr_V (n := 1) (As := [.ref (y.2 27 ((p1).toNatClampNeg))]) (rest := []) ⟨hx, hb, hml, hown, hts⟩ hK hR (m_X8_bestForceNow hM l0 (hM.lot (vp_lt o_23)) h) q2597 q2599 qs70 q85 q2600 rfl rfl hd_X8_bestForceNow ⟨Nat.le_of_ble_eq_true rfl, Nat.le_of_ble_eq_true rfl⟩ (rv hK hR l0 (ci := 11) rfl rfl) rfl rfl hl.1 rfl (lv_room (Nat.le_of_ble_eq_true rfl)) dX8_bestForce_29 ⟨(Nat.le_of_ble_eq_true rfl), (Nat.le_of_ble_eq_true rfl)⟩) hR hS (fun r_29 w_29 H locs h hR _ hS => ?_)
    refine W.widen (k := 0) (n := 0) (Nat.le_of_ble_eq_true rfl) (Nat.le_of_ble_eq_true rfl) ?_
    exact W.iret (v := r_29) hx hb hr (fun t ht hW9 => ⟨⟨r_29, w_29, rfl, h, rpt ht hR⟩, hS.F ht⟩) hS.2.2 dX8_bestForce_32
  · have h := h.2 c_10
    refine lv_iconst (v := (0 : Int32)) hx hb dX8_bestForce_13 (by decide) ?_
    refine lv_goto (tgt := 32) hx hb dX8_bestForce_14 (by decide) ?_
    refine W.widen (k := 0) (n := 0) (Nat.le_of_ble_eq_true rfl) (Nat.le_of_ble_eq_true rfl) ?_
    exact W.iret (v := (0 : Int32)) hx hb hr (fun t ht hW9 => ⟨⟨(0 : Int32), w_7, rfl, h, rpt ht hR⟩, hS.F ht⟩) hS.2.2 dX8_bestForce_32
abbrev rm_X8_direct : Room := { frames := 6, cells := 9, slots := 36, locals := 164 }
def sp_X8_direct (κ : Kx) (y : Ly) (post : Int32 → Wd → Prop) (w : Wd) (p1 : Int32) : Prop := sp_X8_isNoDuty κ y (fun r_2 w_2 => sp_X8_start κ y (fun r_6 w_6 => ((r_6 = 0) → (sp_X8_directNow κ y (fun r_18 w_18 => post (r_18) w_18) w_6 p1)) ∧ ((¬ (r_6 = 0)) → (post ((0 : Int32)) w_6))) w_2 r_2 (1 : Int32)) w p1
theorem hd_X8_direct : yX8_direct.cls = RX8 ∧ yX8_direct.cls ≠ "java/lang/invoke/MethodHandle" ∧ yX8_direct.cls ≠ "java/lang/invoke/VarHandle" ∧ (parseMethodDescriptor yX8_direct.desc).map (fun d => d.parameters.length) = some 1 := by decide +kernel
set_option maxHeartbeats 4000000 in
theorem m_X8_direct {l : Launch} {κ : Kx} {y : Ly} {X : XR} {post : Int32 → Wd → Prop} {w : Wd} {p1 : Int32}  (hM : WFm κ y) (l0 : live y 20 0) (h : sp_X8_direct κ y post w p1) : Met l yX8_direct (ws_ yX8_direct cX8_direct 2 (Option.some Jvm.ClassFile.FieldType.int)) rm_X8_direct (va_Pc [.ref (y.2 20 0), .int (p1)] (RC κ w y X)) (va_Qi post (fun w t => Rp κ w y X [] t.heap) (Af κ)) 9 36 (Af κ) := by
  unfold sp_X8_direct at h
  refine Met.ofW (cc := cX8_direct) (maxL := 2) (ret := (Option.some Jvm.ClassFile.FieldType.int)) (by decide) rfl ?_
  intro p e s m args below meth c s₁ B hml hv
  obtain ⟨rfl, hR, hK⟩ := hv
  have hx := B.exec
  have hb := B.bytes
  have hr := B.returns
  have hts := atoms_spec (ws := ws_ yX8_direct cX8_direct 2 (Option.some Jvm.ClassFile.FieldType.int)) B.pre
  have hts : ∀ w ∈ lw_all, w.before _ s = true := fun w h => hts w (List.mem_cons_of_mem _ h)
  have hown : s.vm.findClass RX8 = some m.cls := findClass_of_methodNamed B.named
  have hlocks := B.notSynchronized
  have hS : va_S (Af κ) s.heap s.heap [] := va_S.rf
  have hl := lv_entry ([.ref (y.2 20 0), .int (p1)]) (n := 2) (Nat.le_of_ble_eq_true rfl)
  rw [lg_entry_eq]
  generalize (lg_sl ([.ref (y.2 20 0), .int (p1)]) ++ List.replicate (2 - (lg_sl ([.ref (y.2 20 0), .int (p1)])).length) Slot.unset).toArray = ls at hl ⊢
  have hl : lv_has ls 2 [(0, .ref (y.2 20 0)), (1, .int (p1))] := hl
  refine lv_aload_n hx hb dX8_direct_0 rfl (lv_at hl 0 rfl) ?_
  refine lv_iload_n hx hb dX8_direct_1 rfl (lv_at hl 1 rfl) ?_
  refine ce_qi (fw := fun u => u) (fy := fun _ => y) (cr_S (n := 1) (As := [.int (p1)]) (rest := [.ref (y.2 20 0)]) ⟨hx, hb, hml, hown, hts⟩ hK hR (m_X8_isNoDuty hM h) q2130 q2131 q85 q2132 rfl rfl hds_X8_isNoDuty ⟨Nat.le_of_ble_eq_true rfl, Nat.le_of_ble_eq_true rfl⟩ rfl rfl hl.1 rfl (lv_room (Nat.le_of_ble_eq_true rfl)) dX8_direct_2 ⟨(Nat.le_of_ble_eq_true rfl), (Nat.le_of_ble_eq_true rfl)⟩) hR hS (fun r_2 w_2 H locs h hR _ hS => ?_)
  refine lv_iconst (v := (1 : Int32)) hx hb dX8_direct_5 (by decide) ?_
  refine ce_qi (fw := fun u => u) (fy := fun _ => y) (cr_V (n := 2) (As := [.int (r_2), .int ((1 : Int32))]) (rest := []) ⟨hx, hb, hml, hown, hts⟩ hK hR (m_X8_start hM l0 h) q2023 q2025 qs37 q85 q2026 rfl rfl hd_X8_start ⟨Nat.le_of_ble_eq_true rfl, Nat.le_of_ble_eq_true rfl⟩ (rv hK hR l0 (ci := 11) rfl rfl) rfl rfl hl.1 rfl (lv_room (Nat.le_of_ble_eq_true rfl)) dX8_direct_6 ⟨(Nat.le_of_ble_eq_true rfl), (Nat.le_of_ble_eq_true rfl)⟩) hR hS (fun r_6 w_6 H locs h hR _ hS => ?_)
  refine lv_if_eq (tgt := 16) hx hb dX8_direct_9 (by decide) (fun c_9 => ?_) (fun c_9 => ?_)
  · have h := h.1 c_9
    refine lv_aload_n hx hb dX8_direct_16 rfl (lv_at hl 0 rfl) ?_
    refine lv_iload_n hx hb dX8_direct_17 rfl (lv_at hl 1 rfl) ?_
    refine ce_qi (fw := fun u => u) (fy := fun _ => y) (cr_V (n := 1) (As := [.int (p1)]) (rest := []) ⟨hx, hb, hml, hown, hts⟩ hK hR (m_X8_directNow hM l0 h) q2613 q2615 qs71 q85 q2616 rfl rfl hd_X8_directNow ⟨Nat.le_of_ble_eq_true rfl, Nat.le_of_ble_eq_true rfl⟩ (rv hK hR l0 (ci := 11) rfl rfl) rfl rfl hl.1 rfl (lv_room (Nat.le_of_ble_eq_true rfl)) dX8_direct_18 ⟨(Nat.le_of_ble_eq_true rfl), (Nat.le_of_ble_eq_true rfl)⟩) hR hS (fun r_18 w_18 H locs h hR _ hS => ?_)
    refine W.widen (k := 9) (n := 36) (Nat.le_of_ble_eq_true rfl) (Nat.le_of_ble_eq_true rfl) ?_
    exact W.iret (v := r_18) hx hb hr (fun t ht hW9 => ⟨⟨r_18, w_18, rfl, h, rpt ht hR⟩, hS.F ht⟩) hS.2.2 dX8_direct_21
  · have h := h.2 c_9
    refine lv_iconst (v := (0 : Int32)) hx hb dX8_direct_12 (by decide) ?_
    refine lv_goto (tgt := 21) hx hb dX8_direct_13 (by decide) ?_
    refine W.widen (k := 9) (n := 36) (Nat.le_of_ble_eq_true rfl) (Nat.le_of_ble_eq_true rfl) ?_
    exact W.iret (v := (0 : Int32)) hx hb hr (fun t ht hW9 => ⟨⟨(0 : Int32), w_6, rfl, h, rpt ht hR⟩, hS.F ht⟩) hS.2.2 dX8_direct_21
abbrev rm_X8_wouldWin : Room := { frames := 7, cells := 5, slots := 20, locals := 161 }
def sp_X8_wouldWin (κ : Kx) (y : Ly) (post : Int32 → Wd → Prop) (w : Wd) (p1 : Int32) : Prop := sp_X8_isNoLot κ y (fun r_3 w_3 => sp_X8_start κ y (fun r_7 w_7 => ((¬ r_7 = 0) → (post ((0 : Int32)) w_7)) ∧ ((r_7 = 0) → ((vp_in (p1) (mL y)) ∧ (((gv w_7 27 (((p1).toNatClampNeg)) 4 = 0) → (sp_X8_refuse κ y (fun r_37 w_37 => ((r_37 = 0) → ((vp_in (p1) (mL y)) ∧ (sp_X8_best κ y (fun r_60 w_60 => post (r_60) w_60) w_37 (((p1).toNatClampNeg)) (-1 : Int32)))) ∧ ((¬ (r_37 = 0)) → (post ((0 : Int32)) w_37))) w_7 (0 : Int32) (2 : Int32))) ∧ ((¬ (gv w_7 27 (((p1).toNatClampNeg)) 4 = 0)) → (sp_X8_refuse κ y (fun r_37_a w_37_a => ((r_37_a = 0) → ((vp_in (p1) (mL y)) ∧ (sp_X8_best κ y (fun r_60_a w_60_a => post (r_60_a) w_60_a) w_37_a (((p1).toNatClampNeg)) (-1 : Int32)))) ∧ ((¬ (r_37_a = 0)) → (post ((0 : Int32)) w_37_a))) w_7 (1 : Int32) (2 : Int32))))))) w_3 r_3 (1 : Int32)) w p1
theorem hd_X8_wouldWin : yX8_wouldWin.cls = RX8 ∧ yX8_wouldWin.cls ≠ "java/lang/invoke/MethodHandle" ∧ yX8_wouldWin.cls ≠ "java/lang/invoke/VarHandle" ∧ (parseMethodDescriptor yX8_wouldWin.desc).map (fun d => d.parameters.length) = some 1 := by decide +kernel
set_option maxHeartbeats 4000000 in
theorem m_X8_wouldWin {l : Launch} {κ : Kx} {y : Ly} {X : XR} {post : Int32 → Wd → Prop} {w : Wd} {p1 : Int32}  (hM : WFm κ y) (l0 : live y 20 0) (h : sp_X8_wouldWin κ y post w p1) : Met l yX8_wouldWin (ws_ yX8_wouldWin cX8_wouldWin 2 (Option.some Jvm.ClassFile.FieldType.int)) rm_X8_wouldWin (va_Pc [.ref (y.2 20 0), .int (p1)] (RC κ w y X)) (va_Qi post (fun w t => Rp κ w y X [] t.heap) (Af κ)) 5 20 (Af κ) := by
  unfold sp_X8_wouldWin at h
  refine Met.ofW (cc := cX8_wouldWin) (maxL := 2) (ret := (Option.some Jvm.ClassFile.FieldType.int)) (by decide) rfl ?_
  intro p e s m args below meth c s₁ B hml hv
  obtain ⟨rfl, hR, hK⟩ := hv
  have hx := B.exec
  have hb := B.bytes
  have hr := B.returns
  have hts := atoms_spec (ws := ws_ yX8_wouldWin cX8_wouldWin 2 (Option.some Jvm.ClassFile.FieldType.int)) B.pre
  have hts : ∀ w ∈ lw_all, w.before _ s = true := fun w h => hts w (List.mem_cons_of_mem _ h)
  have hown : s.vm.findClass RX8 = some m.cls := findClass_of_methodNamed B.named
  have hlocks := B.notSynchronized
  have hS : va_S (Af κ) s.heap s.heap [] := va_S.rf
  have hl := lv_entry ([.ref (y.2 20 0), .int (p1)]) (n := 2) (Nat.le_of_ble_eq_true rfl)
  rw [lg_entry_eq]
  generalize (lg_sl ([.ref (y.2 20 0), .int (p1)]) ++ List.replicate (2 - (lg_sl ([.ref (y.2 20 0), .int (p1)])).length) Slot.unset).toArray = ls at hl ⊢
  have hl : lv_has ls 2 [(0, .ref (y.2 20 0)), (1, .int (p1))] := hl
  refine lv_aload_n hx hb dX8_wouldWin_0 rfl (lv_at hl 0 rfl) ?_
  refine lv_aload_n hx hb dX8_wouldWin_1 rfl (lv_at hl 0 rfl) ?_
  refine lv_iload_n hx hb dX8_wouldWin_2 rfl (lv_at hl 1 rfl) ?_
  refine ce_qi (fw := fun u => u) (fy := fun _ => y) (cr_V (n := 1) (As := [.int (p1)]) (rest := [.ref (y.2 20 0)]) ⟨hx, hb, hml, hown, hts⟩ hK hR (m_X8_isNoLot hM l0 h) q2308 q2310 qs44 q85 q2311 rfl rfl hd_X8_isNoLot ⟨Nat.le_of_ble_eq_true rfl, Nat.le_of_ble_eq_true rfl⟩ (rv hK hR l0 (ci := 11) rfl rfl) rfl rfl hl.1 rfl (lv_room (Nat.le_of_ble_eq_true rfl)) dX8_wouldWin_3 ⟨(Nat.le_of_ble_eq_true rfl), (Nat.le_of_ble_eq_true rfl)⟩) hR hS (fun r_3 w_3 H locs h hR _ hS => ?_)
  refine lv_iconst (v := (1 : Int32)) hx hb dX8_wouldWin_6 (by decide) ?_
  refine ce_qi (fw := fun u => u) (fy := fun _ => y) (cr_V (n := 2) (As := [.int (r_3), .int ((1 : Int32))]) (rest := []) ⟨hx, hb, hml, hown, hts⟩ hK hR (m_X8_start hM l0 h) q2023 q2025 qs37 q85 q2026 rfl rfl hd_X8_start ⟨Nat.le_of_ble_eq_true rfl, Nat.le_of_ble_eq_true rfl⟩ (rv hK hR l0 (ci := 11) rfl rfl) rfl rfl hl.1 rfl (lv_room (Nat.le_of_ble_eq_true rfl)) dX8_wouldWin_7 ⟨(Nat.le_of_ble_eq_true rfl), (Nat.le_of_ble_eq_true rfl)⟩) hR hS (fun r_7 w_7 H locs h hR _ hS => ?_)
  refine lv_if_ne (tgt := 43) hx hb dX8_wouldWin_10 (by decide) (fun c_10 => ?_) (fun c_10 => ?_)
  · have h := h.1 c_10
    refine lv_iconst (v := (0 : Int32)) hx hb dX8_wouldWin_43 (by decide) ?_
    refine lv_goto (tgt := 63) hx hb dX8_wouldWin_44 (by decide) ?_
    refine W.widen (k := 5) (n := 20) (Nat.le_of_ble_eq_true rfl) (Nat.le_of_ble_eq_true rfl) ?_
    exact W.iret (v := (0 : Int32)) hx hb hr (fun t ht hW9 => ⟨⟨(0 : Int32), w_7, rfl, h, rpt ht hR⟩, hS.F ht⟩) hS.2.2 dX8_wouldWin_63
  · have h := h.2 c_10
    refine lv_aload_n hx hb dX8_wouldWin_13 rfl (lv_at hl 0 rfl) ?_
    refine lv_aload_n hx hb dX8_wouldWin_14 rfl (lv_at hl 0 rfl) ?_
    refine g20_5 hx hb hts hown hK hR l0 q1950 dX8_wouldWin_15 ?_
    refine lv_iload_n hx hb dX8_wouldWin_18 rfl (lv_at hl 1 rfl) ?_
    have o_19 := h.1
    have h := h.2
    refine jr_get (a := y.2 27 ((p1).toNatClampNeg)) ⟨hx, hb, hml, hown, hts⟩ hK hR ⟨fun _ _ _ _ _ => rfl, fun _ _ _ _ _ => rfl⟩ hM.lsL ⟨hM.arL (Nat.lt_of_le_of_lt (Nat.zero_le _) (vp_lt o_19)), (Nat.le_trans hM.mL8 (by decide))⟩ o_19 (hM.elL (vp_lt o_19)) q2101 ⟨Nat.le_of_ble_eq_true rfl, Nat.le_of_ble_eq_true rfl⟩ hl.1 (Nat.le_of_ble_eq_true rfl) dX8_wouldWin_19 ⟨(Nat.le_of_ble_eq_true rfl), (Nat.le_of_ble_eq_true rfl)⟩ ?_
    refine jr_castS (ci := 14) hx hb hown hK hts (hR.role (hM.lot (vp_lt o_19))) rfl q2253 dX8_wouldWin_22 ?_
    refine g27_4 hx hb hts hown hK hR (hM.lot (vp_lt o_19)) q2264 dX8_wouldWin_25 ?_
    refine lv_if_eq (tgt := 35) hx hb dX8_wouldWin_28 (by decide) (fun c_28 => ?_) (fun c_28 => ?_)
    · have h := h.1 c_28
      refine lv_iconst (v := (0 : Int32)) hx hb dX8_wouldWin_35 (by decide) ?_
      refine lv_iconst (v := (2 : Int32)) hx hb dX8_wouldWin_36 (by decide) ?_
      refine ce_qi (fw := fun u => u) (fy := fun _ => y) (cr_V (n := 2) (As := [.int ((0 : Int32)), .int ((2 : Int32))]) (rest := []) ⟨hx, hb, hml, hown, hts⟩ hK hR (m_X8_refuse hM l0 h) q2027 q2029 qs38 q85 q2030 rfl rfl hd_X8_refuse ⟨Nat.le_of_ble_eq_true rfl, Nat.le_of_ble_eq_true rfl⟩ (rv hK hR l0 (ci := 11) rfl rfl) rfl rfl hl.1 rfl (lv_room (Nat.le_of_ble_eq_true rfl)) dX8_wouldWin_37 ⟨(Nat.le_of_ble_eq_true rfl), (Nat.le_of_ble_eq_true rfl)⟩) hR hS (fun r_37 w_37 H locs h hR _ hS => ?_)
      refine lv_if_eq (tgt := 47) hx hb dX8_wouldWin_40 (by decide) (fun c_40 => ?_) (fun c_40 => ?_)
      · have h := h.1 c_40
        refine lv_aload_n hx hb dX8_wouldWin_47 rfl (lv_at hl 0 rfl) ?_
        refine lv_aload_n hx hb dX8_wouldWin_48 rfl (lv_at hl 0 rfl) ?_
        refine g20_5 hx hb hts hown hK hR l0 q1950 dX8_wouldWin_49 ?_
        refine lv_iload_n hx hb dX8_wouldWin_52 rfl (lv_at hl 1 rfl) ?_
        have o_53 := h.1
        have h := h.2
        refine jr_get (a := y.2 27 ((p1).toNatClampNeg)) ⟨hx, hb, hml, hown, hts⟩ hK hR ⟨fun _ _ _ _ _ => rfl, fun _ _ _ _ _ => rfl⟩ hM.lsL ⟨hM.arL (Nat.lt_of_le_of_lt (Nat.zero_le _) (vp_lt o_53)), (Nat.le_trans hM.mL8 (by decide))⟩ o_53 (hM.elL (vp_lt o_53)) q2101 ⟨Nat.le_of_ble_eq_true rfl, Nat.le_of_ble_eq_true rfl⟩ hl.1 (Nat.le_of_ble_eq_true rfl) dX8_wouldWin_53 ⟨(Nat.le_of_ble_eq_true rfl), (Nat.le_of_ble_eq_true rfl)⟩ ?_
        refine jr_castS (ci := 14) hx hb hown hK hts (hR.role (hM.lot (vp_lt o_53))) rfl q2253 dX8_wouldWin_56 ?_
        refine lv_iconst (v := (-1 : Int32)) hx hb dX8_wouldWin_59 (by decide) ?_
        refine ce_qi (fw := fun u => u) (fy := fun _ => y) (cr_V (n := 2) (As := [.ref (y.2 27 ((p1).toNatClampNeg)), .int ((-1 : Int32))]) (rest := []) ⟨hx, hb, hml, hown, hts⟩ hK hR (m_X8_best hM l0 (hM.lot (vp_lt o_53)) h) q2328 q2330 qs47 q85 q2331 rfl rfl hd_X8_best ⟨Nat.le_of_ble_eq_true rfl, Nat.le_of_ble_eq_true rfl⟩ (rv hK hR l0 (ci := 11) rfl rfl) rfl rfl hl.1 rfl (lv_room (Nat.le_of_ble_eq_true rfl)) dX8_wouldWin_60 ⟨(Nat.le_of_ble_eq_true rfl), (Nat.le_of_ble_eq_true rfl)⟩) hR hS (fun r_60 w_60 H locs h hR _ hS => ?_)
        refine W.widen (k := 5) (n := 20) (Nat.le_of_ble_eq_true rfl) (Nat.le_of_ble_eq_true rfl) ?_
        exact W.iret (v := r_60) hx hb hr (fun t ht hW9 => ⟨⟨r_60, w_60, rfl, h, rpt ht hR⟩, hS.F ht⟩) hS.2.2 dX8_wouldWin_63
      · have h := h.2 c_40
        refine lv_iconst (v := (0 : Int32)) hx hb dX8_wouldWin_43 (by decide) ?_
        refine lv_goto (tgt := 63) hx hb dX8_wouldWin_44 (by decide) ?_
        refine W.widen (k := 5) (n := 20) (Nat.le_of_ble_eq_true rfl) (Nat.le_of_ble_eq_true rfl) ?_
        exact W.iret (v := (0 : Int32)) hx hb hr (fun t ht hW9 => ⟨⟨(0 : Int32), w_37, rfl, h, rpt ht hR⟩, hS.F ht⟩) hS.2.2 dX8_wouldWin_63
    · have h := h.2 c_28
      refine lv_iconst (v := (1 : Int32)) hx hb dX8_wouldWin_31 (by decide) ?_
      refine lv_goto (tgt := 36) hx hb dX8_wouldWin_32 (by decide) ?_
      refine lv_iconst (v := (2 : Int32)) hx hb dX8_wouldWin_36 (by decide) ?_
      refine ce_qi (fw := fun u => u) (fy := fun _ => y) (cr_V (n := 2) (As := [.int ((1 : Int32)), .int ((2 : Int32))]) (rest := []) ⟨hx, hb, hml, hown, hts⟩ hK hR (m_X8_refuse hM l0 h) q2027 q2029 qs38 q85 q2030 rfl rfl hd_X8_refuse ⟨Nat.le_of_ble_eq_true rfl, Nat.le_of_ble_eq_true rfl⟩ (rv hK hR l0 (ci := 11) rfl rfl) rfl rfl hl.1 rfl (lv_room (Nat.le_of_ble_eq_true rfl)) dX8_wouldWin_37 ⟨(Nat.le_of_ble_eq_true rfl), (Nat.le_of_ble_eq_true rfl)⟩) hR hS (fun r_37_a w_37_a H locs h hR _ hS => ?_)
      refine lv_if_eq (tgt := 47) hx hb dX8_wouldWin_40 (by decide) (fun c_40_a => ?_) (fun c_40_a => ?_)
      · have h := h.1 c_40_a
        refine lv_aload_n hx hb dX8_wouldWin_47 rfl (lv_at hl 0 rfl) ?_
        refine lv_aload_n hx hb dX8_wouldWin_48 rfl (lv_at hl 0 rfl) ?_
        refine g20_5 hx hb hts hown hK hR l0 q1950 dX8_wouldWin_49 ?_
        refine lv_iload_n hx hb dX8_wouldWin_52 rfl (lv_at hl 1 rfl) ?_
        have o_53_a := h.1
        have h := h.2
        refine jr_get (a := y.2 27 ((p1).toNatClampNeg)) ⟨hx, hb, hml, hown, hts⟩ hK hR ⟨fun _ _ _ _ _ => rfl, fun _ _ _ _ _ => rfl⟩ hM.lsL ⟨hM.arL (Nat.lt_of_le_of_lt (Nat.zero_le _) (vp_lt o_53_a)), (Nat.le_trans hM.mL8 (by decide))⟩ o_53_a (hM.elL (vp_lt o_53_a)) q2101 ⟨Nat.le_of_ble_eq_true rfl, Nat.le_of_ble_eq_true rfl⟩ hl.1 (Nat.le_of_ble_eq_true rfl) dX8_wouldWin_53 ⟨(Nat.le_of_ble_eq_true rfl), (Nat.le_of_ble_eq_true rfl)⟩ ?_
        refine jr_castS (ci := 14) hx hb hown hK hts (hR.role (hM.lot (vp_lt o_53_a))) rfl q2253 dX8_wouldWin_56 ?_
        refine lv_iconst (v := (-1 : Int32)) hx hb dX8_wouldWin_59 (by decide) ?_
        refine ce_qi (fw := fun u => u) (fy := fun _ => y) (cr_V (n := 2) (As := [.ref (y.2 27 ((p1).toNatClampNeg)), .int ((-1 : Int32))]) (rest := []) ⟨hx, hb, hml, hown, hts⟩ hK hR (m_X8_best hM l0 (hM.lot (vp_lt o_53_a)) h) q2328 q2330 qs47 q85 q2331 rfl rfl hd_X8_best ⟨Nat.le_of_ble_eq_true rfl, Nat.le_of_ble_eq_true rfl⟩ (rv hK hR l0 (ci := 11) rfl rfl) rfl rfl hl.1 rfl (lv_room (Nat.le_of_ble_eq_true rfl)) dX8_wouldWin_60 ⟨(Nat.le_of_ble_eq_true rfl), (Nat.le_of_ble_eq_true rfl)⟩) hR hS (fun r_60_a w_60_a H locs h hR _ hS => ?_)
        refine W.widen (k := 5) (n := 20) (Nat.le_of_ble_eq_true rfl) (Nat.le_of_ble_eq_true rfl) ?_
        exact W.iret (v := r_60_a) hx hb hr (fun t ht hW9 => ⟨⟨r_60_a, w_60_a, rfl, h, rpt ht hR⟩, hS.F ht⟩) hS.2.2 dX8_wouldWin_63
      · have h := h.2 c_40_a
        refine lv_iconst (v := (0 : Int32)) hx hb dX8_wouldWin_43 (by decide) ?_
        refine lv_goto (tgt := 63) hx hb dX8_wouldWin_44 (by decide) ?_
        refine W.widen (k := 5) (n := 20) (Nat.le_of_ble_eq_true rfl) (Nat.le_of_ble_eq_true rfl) ?_
        exact W.iret (v := (0 : Int32)) hx hb hr (fun t ht hW9 => ⟨⟨(0 : Int32), w_37_a, rfl, h, rpt ht hR⟩, hS.F ht⟩) hS.2.2 dX8_wouldWin_63
abbrev rm_X8_isSound : Room := { frames := 6, cells := 6, slots := 24, locals := 140 }
def sp_X8_isSound (κ : Kx) (y : Ly) (post : Int32 → Wd → Prop) (w : Wd)  : Prop := ∀ w_2 : Wd, w_2 = sv w 20 0 0 ((0 : Int32)) → sp_X8_isSoundNow κ y (fun r_6 w_6 => (nbo (r_6)) ∧ (post (r_6) w_6)) w_2 
theorem hd_X8_isSound : yX8_isSound.cls = RX8 ∧ yX8_isSound.cls ≠ "java/lang/invoke/MethodHandle" ∧ yX8_isSound.cls ≠ "java/lang/invoke/VarHandle" ∧ (parseMethodDescriptor yX8_isSound.desc).map (fun d => d.parameters.length) = some 0 := by decide +kernel
set_option maxHeartbeats 4000000 in
theorem m_X8_isSound {l : Launch} {κ : Kx} {y : Ly} {X : XR} {post : Int32 → Wd → Prop} {w : Wd}   (hM : WFm κ y) (l0 : live y 20 0) (h : sp_X8_isSound κ y post w ) : Met l yX8_isSound (ws_ yX8_isSound cX8_isSound 1 (Option.some Jvm.ClassFile.FieldType.boolean)) rm_X8_isSound (va_Pc [.ref (y.2 20 0)] (RC κ w y X)) (va_Qi post (fun w t => Rp κ w y X [] t.heap) (Af κ)) 6 24 (Af κ) := by
  unfold sp_X8_isSound at h
  refine Met.ofW (cc := cX8_isSound) (maxL := 1) (ret := (Option.some Jvm.ClassFile.FieldType.boolean)) (by decide) rfl ?_
  intro p e s m args below meth c s₁ B hml hv
  obtain ⟨rfl, hR, hK⟩ := hv
  have hx := B.exec
  have hb := B.bytes
  have hr := B.returns
  have hts := atoms_spec (ws := ws_ yX8_isSound cX8_isSound 1 (Option.some Jvm.ClassFile.FieldType.boolean)) B.pre
  have hts : ∀ w ∈ lw_all, w.before _ s = true := fun w h => hts w (List.mem_cons_of_mem _ h)
  have hown : s.vm.findClass RX8 = some m.cls := findClass_of_methodNamed B.named
  have hlocks := B.notSynchronized
  have hS : va_S (Af κ) s.heap s.heap [] := va_S.rf
  have hl := lv_entry ([.ref (y.2 20 0)]) (n := 1) (Nat.le_of_ble_eq_true rfl)
  rw [lg_entry_eq]
  generalize (lg_sl ([.ref (y.2 20 0)]) ++ List.replicate (1 - (lg_sl ([.ref (y.2 20 0)])).length) Slot.unset).toArray = ls at hl ⊢
  have hl : lv_has ls 1 [(0, .ref (y.2 20 0))] := hl
  refine lv_aload_n hx hb dX8_isSound_0 rfl (lv_at hl 0 rfl) ?_
  refine lv_iconst (v := (0 : Int32)) hx hb dX8_isSound_1 (by decide) ?_
  refine p20_0 hx hb hts hown hK hR hS l0 q1945 dX8_isSound_2 (fun H locs w_2 ew_2 hR hS => ?_)
  have h := h w_2 ew_2
  refine lv_aload_n hx hb dX8_isSound_5 rfl (lv_at hl 0 rfl) ?_
  refine ce_qi (fw := fun u => u) (fy := fun _ => y) (cr_V (n := 0) (As := []) (rest := []) ⟨hx, hb, hml, hown, hts⟩ hK hR (m_X8_isSoundNow hM l0 h) q2625 q2627 qs72 q85 q2628 rfl rfl hd_X8_isSoundNow ⟨Nat.le_of_ble_eq_true rfl, Nat.le_of_ble_eq_true rfl⟩ (rv hK hR l0 (ci := 11) rfl rfl) rfl rfl hl.1 rfl (lv_room (Nat.le_of_ble_eq_true rfl)) dX8_isSound_6 ⟨(Nat.le_of_ble_eq_true rfl), (Nat.le_of_ble_eq_true rfl)⟩) hR hS (fun r_6 w_6 H locs h hR _ hS => ?_)
  have o_9 := h.1
  have h := h.2
  refine W.widen (k := 6) (n := 24) (Nat.le_of_ble_eq_true rfl) (Nat.le_of_ble_eq_true rfl) ?_
  exact W.zret (v := r_6) hx hb hr o_9.n (fun t ht hW9 => ⟨⟨r_6, w_6, rfl, h, rpt ht hR⟩, hS.F ht⟩) hS.2.2 dX8_isSound_9
abbrev rm_X8_award : Room := { frames := 7, cells := 16, slots := 64, locals := 161 }
def st_X8_award_166 (κ : Kx) (y : Ly) (post : Int32 → Wd → Prop) (ex : Wd → Prop) (rec : Wd → Int32 → Prop) (i2 : Nat) (v3 : Int32) (i4 : Nat) (v6 : Int32) (w : Wd) (v7 : Int32) : Prop := ((v6 = 0) → (ex w )) ∧ ((¬ (v6 = 0)) → (((nI (mC y) ≤ v7) → (ex w )) ∧ ((¬ (nI (mC y) ≤ v7)) → (∀ j283 : Wd → Prop, (j283 = fun (w283 : Wd) => ∀ x_283 : Int32, x_283 = v7 + (1 : Int32) → rec w283 x_283) → (((v7 = v3) → (j283 w )) ∧ ((¬ (v7 = v3)) → ((vp_in (v7) (mC y)) ∧ (((¬ gv w 26 (((v7).toNatClampNeg)) 2 = gv w 26 i4 2) → (j283 w )) ∧ ((gv w 26 (((v7).toNatClampNeg)) 2 = gv w 26 i4 2) → (sp_X8_counts κ y (fun r_216 w_216 => ((¬ r_216 = 0) → ((vp_in (v3) 4) ∧ (∀ x_247 : Int32, x_247 = jmin (gv w_216 26 i4 1) (((gv w_216 28 i2 (v3).toNatClampNeg) - (gv w_216 27 i2 3)) / (10 : Int32)) → ∀ w_258 : Wd, w_258 = sv w_216 26 i4 1 ((gv w_216 26 i4 1) - x_247) → (vp_in (v7) (mC y)) ∧ (∀ w_280 : Wd, w_280 = sv w_258 26 (((v7).toNatClampNeg)) 1 ((gv w_258 26 (((v7).toNatClampNeg)) 1) + x_247) → j283 w_280 )))) ∧ ((r_216 = 0) → (j283 w_216 ))) w i2 v7))))))))))
def sp_X8_award_166 (κ : Kx) (y : Ly) (post : Int32 → Wd → Prop) (ex : Wd → Prop) (i2 : Nat) (v3 : Int32) (i4 : Nat) (v6 : Int32) : Nat → Wd → Int32 → Prop
  | 0 => fun _ _ => False
  | n + 1 => fun w v7 => st_X8_award_166 κ y post ex (sp_X8_award_166 κ y post ex i2 v3 i4 v6 n) i2 v3 i4 v6 w v7
set_option maxHeartbeats 4000000 in
theorem lp_X8_award_166 {p : Program} {l : Launch} {e : Env} {s : State} {m : MethodId} {args : Array Value} {below : List Frame} {meth : Method} {c : Code} {κ : Kx} {y : Ly} {X : XR} {post : Int32 → Wd → Prop} {i2 : Nat} {v3 : Int32} {i4 : Nat} {v6 : Int32} (hx : p.tables.exec = Jvm.exec) (hb : c.code = cX8_award) (hr : meth.sig.returnType = (Option.some Jvm.ClassFile.FieldType.int)) (hml : c.maxLocals = 9) (hown : s.vm.findClass RX8 = some m.cls) (hts : ∀ w ∈ lw_all, w.before args s = true) (hlocks : meth.locks = false) (hK : KK κ s) (hM : WFm κ y) (l0 : live y 20 0) (l2 : live y 27 i2) (l4 : live y 26 i4) {C1 S1 : Nat} (hC : C1 ≤ 16) (hSl : S1 ≤ 64) {ex : Wd → Prop}
    (kx : ∀ (w : Wd)  (H : Heap) (locs : List Loc) (ls : Array Slot) (cells slots : Nat) , ex w  → Rp κ w y X [] H → va_S (Af κ) s.heap H locs → lv_has ls 9 [(0, .ref (y.2 20 0)), (2, .ref (y.2 27 i2)), (3, .int (v3))] → cells ≤ C1 → slots ≤ S1 → W p l e (headSpec (ws_ yX8_award cX8_award 9 (Option.some Jvm.ClassFile.FieldType.int)) rm_X8_award).room s m args below meth c H locs cells slots (MQ below (va_Qi post (fun w t => Rp κ w y X [] t.heap) (Af κ)) args s 16 64 (Af κ)) (F0 m 289 ls [])) :
    ∀ (f : Nat) (w : Wd) (v7 : Int32) (H : Heap) (locs : List Loc) (ls : Array Slot) (cells slots : Nat)  , sp_X8_award_166 κ y post ex i2 v3 i4 v6 f w v7 → Rp κ w y X [] H → va_S (Af κ) s.heap H locs → lv_has ls 9 [(0, .ref (y.2 20 0)), (2, .ref (y.2 27 i2)), (3, .int (v3)), (4, .ref (y.2 26 i4)), (6, .int (v6)), (7, .int (v7))] → cells + f * 1 ≤ C1 → slots + f * 4 ≤ S1 → W p l e (headSpec (ws_ yX8_award cX8_award 9 (Option.some Jvm.ClassFile.FieldType.int)) rm_X8_award).room s m args below meth c H locs cells slots (MQ below (va_Qi post (fun w t => Rp κ w y X [] t.heap) (Af κ)) args s 16 64 (Af κ)) (F0 m 166 ls []) := by
  intro f
  induction f with
  | zero =>
    intro w v7 H locs ls cells slots  h
    exact False.elim h
  | succ f ih =>
    intro w v7 H locs ls cells slots  h hR hS hl hc hs
    have h : st_X8_award_166 κ y post ex (sp_X8_award_166 κ y post ex i2 v3 i4 v6 f) i2 v3 i4 v6 w v7 := h
    unfold st_X8_award_166 at h
    refine lv_iload hx hb dX8_award_166 (lv_at hl 4 rfl) ?_
    refine lv_if_eq (tgt := 289) hx hb dX8_award_168 (by decide) (fun c_168 => ?_) (fun c_168 => ?_)
    · have h := h.1 c_168
      exact kx w  _ _ _ _ _ h hR hS (lv_sub hl [0, 1, 2] rfl) (by omega) (by omega)
    · have h := h.2 c_168
      refine lv_iload hx hb dX8_award_171 (lv_at hl 5 rfl) ?_
      refine lv_aload_n hx hb dX8_award_173 rfl (lv_at hl 0 rfl) ?_
      refine g20_4 hx hb hts hown hK hR l0 q1949 dX8_award_174 ?_
      refine jr_size ⟨hx, hb, hml, hown, hts⟩ hK hR ⟨fun _ _ _ _ _ => rfl, fun _ _ _ _ _ => rfl⟩ hM.lsC q2031 ⟨Nat.le_of_ble_eq_true rfl, Nat.le_of_ble_eq_true rfl⟩ hl.1 (Nat.le_of_ble_eq_true rfl) dX8_award_177 ⟨(Nat.le_trans (show cells + 0 ≤ C1 from by omega) hC), (Nat.le_trans (show slots + 0 ≤ S1 from by omega) hSl)⟩ ?_
      refine lv_icmp_ge (tgt := 289) hx hb dX8_award_180 (by decide) (fun c_180 => ?_) (fun c_180 => ?_)
      · have h := h.1 c_180
        exact kx w  _ _ _ _ _ h hR hS (lv_sub hl [0, 1, 2] rfl) (by omega) (by omega)
      · have h := h.2 c_180
        refine lv_iload hx hb dX8_award_183 (lv_at hl 5 rfl) ?_
        refine lv_iload_n hx hb dX8_award_185 rfl (lv_at hl 2 rfl) ?_
        refine jn_elim h (fun j283 ej283 h => ?_)
        have Jj283 : ∀ (w283 : Wd) (H : Heap) (locs : List Loc) (ls : Array Slot), j283 w283  → Rp κ w283 y X [] H → va_S (Af κ) s.heap H locs → lv_has ls 9 [(0, .ref (y.2 20 0)), (2, .ref (y.2 27 i2)), (3, .int (v3)), (4, .ref (y.2 26 i4)), (6, .int (v6)), (7, .int (v7))] → W p l e (headSpec (ws_ yX8_award cX8_award 9 (Option.some Jvm.ClassFile.FieldType.int)) rm_X8_award).room s m args below meth c H locs (cells + 1) (slots + 4) (MQ below (va_Qi post (fun w t => Rp κ w y X [] t.heap) (Af κ)) args s 16 64 (Af κ)) (F0 m 283 ls []) := by
          clear h
          intro w283  H locs ls h hR hS hl
          subst ej283
          obtain ⟨x_283, ex_283⟩ : ∃ z : Int32, z = v7 + (1 : Int32) := ⟨_, rfl⟩
          have h := h x_283 ex_283
          refine lv_iinc (v := x_283) (lv' := [(7, .int (x_283)), (0, .ref (y.2 20 0)), (2, .ref (y.2 27 i2)), (3, .int (v3)), (4, .ref (y.2 26 i4)), (6, .int (v6))]) hx hb dX8_award_283 hl (k := 5) rfl (by rw [ex_283]; rfl) (by decide) rfl (fun ls hl => ?_)
          refine lv_goto (tgt := 166) hx hb dX8_award_286 (by decide) ?_
          exact ih w283 x_283 _ _ _ _ _  h hR hS (lv_sub hl [1, 2, 3, 4, 5, 0] rfl) (by omega) (by omega)
        refine lv_icmp_eq (tgt := 283) hx hb dX8_award_186 (by decide) (fun c_186 => ?_) (fun c_186 => ?_)
        · have h := h.1 c_186
          refine W.widen (k := cells + 1) (n := slots + 4) (by omega) (by omega) ?_
          exact Jj283 w  _ _ _ h hR hS (lv_sub hl [0, 1, 2, 3, 4, 5] rfl)
        · have h := h.2 c_186
          refine lv_aload_n hx hb dX8_award_189 rfl (lv_at hl 0 rfl) ?_
          refine g20_4 hx hb hts hown hK hR l0 q1949 dX8_award_190 ?_
          refine lv_iload hx hb dX8_award_193 (lv_at hl 5 rfl) ?_
          have o_195 := h.1
          have h := h.2
          refine jr_get (a := y.2 26 ((v7).toNatClampNeg)) ⟨hx, hb, hml, hown, hts⟩ hK hR ⟨fun _ _ _ _ _ => rfl, fun _ _ _ _ _ => rfl⟩ hM.lsC ⟨hM.arC (Nat.lt_of_le_of_lt (Nat.zero_le _) (vp_lt o_195)), (Nat.le_trans hM.mC4 (by decide))⟩ o_195 (hM.elC (vp_lt o_195)) q2101 ⟨Nat.le_of_ble_eq_true rfl, Nat.le_of_ble_eq_true rfl⟩ hl.1 (Nat.le_of_ble_eq_true rfl) dX8_award_195 ⟨(Nat.le_trans (show cells + 0 ≤ C1 from by omega) hC), (Nat.le_trans (show slots + 0 ≤ S1 from by omega) hSl)⟩ ?_
          refine jr_castS (ci := 13) hx hb hown hK hts (hR.role (hM.com (vp_lt o_195))) rfl q2141 dX8_award_198 ?_
          refine g26_2 hx hb hts hown hK hR (hM.com (vp_lt o_195)) q2151 dX8_award_201 ?_
          refine lv_aload hx hb dX8_award_204 (lv_at hl 3 rfl) ?_
          refine g26_2 hx hb hts hown hK hR l4 q2151 dX8_award_206 ?_
          refine lv_icmp_ne (tgt := 283) hx hb dX8_award_209 (by decide) (fun c_209 => ?_) (fun c_209 => ?_)
          · have h := h.1 c_209
            refine W.widen (k := cells + 1) (n := slots + 4) (by omega) (by omega) ?_
            exact Jj283 w  _ _ _ h hR hS (lv_sub hl [0, 1, 2, 3, 4, 5] rfl)
          · have h := h.2 c_209
            refine lv_aload_n hx hb dX8_award_212 rfl (lv_at hl 0 rfl) ?_
            refine lv_aload_n hx hb dX8_award_213 rfl (lv_at hl 1 rfl) ?_
            refine lv_iload hx hb dX8_award_214 (lv_at hl 5 rfl) ?_
            refine ce_qi (fw := fun u => u) (fy := fun _ => y) (cr_V (n := 2) (As := [.ref (y.2 27 i2), .int (v7)]) (rest := []) ⟨hx, hb, hml, hown, hts⟩ hK hR (m_X8_counts hM l0 l2 h) q2332 q2334 qs48 q85 q2335 rfl rfl hd_X8_counts ⟨Nat.le_of_ble_eq_true rfl, Nat.le_of_ble_eq_true rfl⟩ (rv hK hR l0 (ci := 11) rfl rfl) rfl rfl hl.1 rfl (lv_room (Nat.le_of_ble_eq_true rfl)) dX8_award_216 ⟨(Nat.le_trans (show cells + 1 ≤ C1 from by omega) hC), (Nat.le_trans (show slots + 4 ≤ S1 from by omega) hSl)⟩) hR hS (fun r_216 w_216 H locs h hR _ hS => ?_)
            refine lv_if_ne (tgt := 225) hx hb dX8_award_219 (by decide) (fun c_219 => ?_) (fun c_219 => ?_)
            · have h := h.1 c_219
              refine lv_aload hx hb dX8_award_225 (lv_at hl 3 rfl) ?_
              refine g26_1 hx hb hts hown hK hR l4 q2150 dX8_award_227 ?_
              refine lv_aload_n hx hb dX8_award_230 rfl (lv_at hl 1 rfl) ?_
              refine g27_11 hx hb hts hown hK hR l2 q2274 dX8_award_231 ?_
              refine lv_iload_n hx hb dX8_award_234 rfl (lv_at hl 2 rfl) ?_
              have o_235 := h.1
              have h := h.2
              refine a28 hx hb hK hR (hM.bid l2) o_235 dX8_award_235 ?_
              refine lv_aload_n hx hb dX8_award_236 rfl (lv_at hl 1 rfl) ?_
              refine g27_3 hx hb hts hown hK hR l2 q2262 dX8_award_237 ?_
              refine lv_isub hx hb dX8_award_240 ?_
              refine lv_bipush (v := (10 : Int32)) hx hb dX8_award_241 (by decide) ?_
              refine lv_idiv hx hb dX8_award_243 (by decide) ?_
              refine va_mmin hx hb (hml.trans hl.1.symm) hown (hts _ q2113) (hts _ q322) (hts _ q95) (hts _ q323) (Nat.le_of_ble_eq_true rfl) (Nat.le_of_ble_eq_true rfl) (Nat.le_trans (show cells + 1 + 0 ≤ C1 from by omega) hC) (Nat.le_trans (show slots + 4 + 0 ≤ S1 from by omega) hSl) dX8_award_244 ?_
              refine lv_topi (fun x_247 ex_247 => ?_)
              have h := h x_247 ex_247
              refine lv_istore (lv' := [(8, .int (x_247)), (0, .ref (y.2 20 0)), (2, .ref (y.2 27 i2)), (3, .int (v3)), (4, .ref (y.2 26 i4)), (6, .int (v6)), (7, .int (v7))]) hx hb dX8_award_247 hl (by decide) rfl (fun ls hl => ?_)
              refine lv_aload hx hb dX8_award_249 (lv_at hl 4 rfl) ?_
              refine lv_dup hx hb dX8_award_251 rfl ?_
              refine g26_1 hx hb hts hown hK hR l4 q2150 dX8_award_252 ?_
              refine lv_iload hx hb dX8_award_255 (lv_at hl 0 rfl) ?_
              refine lv_isub hx hb dX8_award_257 ?_
              refine p26_1 hx hb hts hown hK hR hS l4 q2150 dX8_award_258 (fun H locs w_258 ew_258 hR hS => ?_)
              have h := h w_258 ew_258
              refine lv_aload_n hx hb dX8_award_261 rfl (lv_at hl 1 rfl) ?_
              refine g20_4 hx hb hts hown hK hR l0 q1949 dX8_award_262 ?_
              refine lv_iload hx hb dX8_award_265 (lv_at hl 6 rfl) ?_
              have o_267 := h.1
              have h := h.2
              refine jr_get (a := y.2 26 ((v7).toNatClampNeg)) ⟨hx, hb, hml, hown, hts⟩ hK hR ⟨fun _ _ _ _ _ => rfl, fun _ _ _ _ _ => rfl⟩ hM.lsC ⟨hM.arC (Nat.lt_of_le_of_lt (Nat.zero_le _) (vp_lt o_267)), (Nat.le_trans hM.mC4 (by decide))⟩ o_267 (hM.elC (vp_lt o_267)) q2101 ⟨Nat.le_of_ble_eq_true rfl, Nat.le_of_ble_eq_true rfl⟩ hl.1 (Nat.le_of_ble_eq_true rfl) dX8_award_267 ⟨(Nat.le_trans (show cells + 1 + 0 ≤ C1 from by omega) hC), (Nat.le_trans (show slots + 4 + 0 ≤ S1 from by omega) hSl)⟩ ?_
              refine jr_castS (ci := 13) hx hb hown hK hts (hR.role (hM.com (vp_lt o_267))) rfl q2141 dX8_award_270 ?_
              refine lv_dup hx hb dX8_award_273 rfl ?_
              refine g26_1 hx hb hts hown hK hR (hM.com (vp_lt o_267)) q2150 dX8_award_274 ?_
              refine lv_iload hx hb dX8_award_277 (lv_at hl 0 rfl) ?_
              refine lv_iadd hx hb dX8_award_279 ?_
              refine p26_1 hx hb hts hown hK hR hS (hM.com (vp_lt o_267)) q2150 dX8_award_280 (fun H locs w_280 ew_280 hR hS => ?_)
              have h := h w_280 ew_280
              refine W.widen (k := cells + 1) (n := slots + 4) (by omega) (by omega) ?_
              exact Jj283 w_280  _ _ _ h hR hS (lv_sub hl [1, 2, 3, 4, 5, 6] rfl)
            · have h := h.2 c_219
              refine lv_goto (tgt := 283) hx hb dX8_award_222 (by decide) ?_
              refine W.widen (k := cells + 1) (n := slots + 4) (by omega) (by omega) ?_
              exact Jj283 w_216  _ _ _ h hR hS (lv_sub hl [0, 1, 2, 3, 4, 5] rfl)
def sp_X8_award (κ : Kx) (y : Ly) (post : Int32 → Wd → Prop) (w : Wd) (p1 : Int32) : Prop := sp_X8_isNoLot κ y (fun r_3 w_3 => sp_X8_start κ y (fun r_7 w_7 => ((¬ r_7 = 0) → (post ((0 : Int32)) w_7)) ∧ ((r_7 = 0) → ((vp_in (p1) (mL y)) ∧ (∀ j36 : Wd → Int32 → Prop, (j36 = fun (w36 : Wd) (s0_36 : Int32) => sp_X8_refuse κ y (fun r_37 w_37 => ((r_37 = 0) → ((vp_in (p1) (mL y)) ∧ (sp_X8_best κ y (fun r_60 w_60 => ((¬ r_60 = (-1 : Int32)) → ((vp_in (r_60) (mC y)) ∧ (sp_X8_best κ y (fun r_92 w_92 => ∀ j139 : Wd → Int32 → Prop, (j139 = fun (w139 : Wd) (s0_139 : Int32) => ∀ j160 : Wd → Int32 → Prop, (j160 = fun (w160 : Wd) (s0_160 : Int32) => ∀ w_160 : Wd, w_160 = sv w160 27 (((p1).toNatClampNeg)) 6 (s0_160) → sp_X8_award_166 κ y post (fun w_166  => ∀ w_291 : Wd, w_291 = sv w_166 27 (((p1).toNatClampNeg)) 4 ((1 : Int32)) → ∀ w_296 : Wd, w_296 = sv w_291 27 (((p1).toNatClampNeg)) 5 (r_60) → ∀ w_304 : Wd, w_304 = sv w_296 27 (((p1).toNatClampNeg)) 7 (gv w_296 27 (((p1).toNatClampNeg)) 2) → sp_X8_fallDue κ y (fun w_309 => post (r_60) w_309) w_304 (((p1).toNatClampNeg))) (((p1).toNatClampNeg)) r_60 (((r_60).toNatClampNeg)) s0_139 5 w_160 (0 : Int32)) → (((s0_139 = 0) → ((vp_in (r_60) 4) ∧ (j160 w139 (gv w139 28 (((((p1).toNatClampNeg)))) (r_60).toNatClampNeg)))) ∧ ((¬ (s0_139 = 0)) → (j160 w139 (gv w139 27 (((p1).toNatClampNeg)) 3))))) → (((r_92 = (-1 : Int32)) → (j139 w_92 (0 : Int32))) ∧ ((¬ (r_92 = (-1 : Int32))) → (((gv w_92 26 (((r_60).toNatClampNeg)) 2 ≤ 0) → (j139 w_92 (0 : Int32))) ∧ ((¬ (gv w_92 26 (((r_60).toNatClampNeg)) 2 ≤ 0)) → ((vp_in (r_92) (mC y)) ∧ (((¬ gv w_92 26 (((r_92).toNatClampNeg)) 2 = gv w_92 26 (((r_60).toNatClampNeg)) 2) → (j139 w_92 (0 : Int32))) ∧ ((gv w_92 26 (((r_92).toNatClampNeg)) 2 = gv w_92 26 (((r_60).toNatClampNeg)) 2) → (j139 w_92 (1 : Int32)))))))))) w_60 (((p1).toNatClampNeg)) r_60))) ∧ ((r_60 = (-1 : Int32)) → (∀ w_71 : Wd, w_71 = sv w_60 27 (((p1).toNatClampNeg)) 4 ((3 : Int32)) → post ((-1 : Int32)) w_71))) w_37 (((p1).toNatClampNeg)) (-1 : Int32)))) ∧ ((¬ (r_37 = 0)) → (post ((0 : Int32)) w_37))) w36 s0_36 (2 : Int32)) → (((gv w_7 27 (((p1).toNatClampNeg)) 4 = 0) → (j36 w_7 (0 : Int32))) ∧ ((¬ (gv w_7 27 (((p1).toNatClampNeg)) 4 = 0)) → (j36 w_7 (1 : Int32)))))))) w_3 r_3 (1 : Int32)) w p1
theorem hd_X8_award : yX8_award.cls = RX8 ∧ yX8_award.cls ≠ "java/lang/invoke/MethodHandle" ∧ yX8_award.cls ≠ "java/lang/invoke/VarHandle" ∧ (parseMethodDescriptor yX8_award.desc).map (fun d => d.parameters.length) = some 1 := by decide +kernel
set_option maxHeartbeats 4000000 in
theorem m_X8_award {l : Launch} {κ : Kx} {y : Ly} {X : XR} {post : Int32 → Wd → Prop} {w : Wd} {p1 : Int32}  (hM : WFm κ y) (l0 : live y 20 0) (h : sp_X8_award κ y post w p1) : Met l yX8_award (ws_ yX8_award cX8_award 9 (Option.some Jvm.ClassFile.FieldType.int)) rm_X8_award (va_Pc [.ref (y.2 20 0), .int (p1)] (RC κ w y X)) (va_Qi post (fun w t => Rp κ w y X [] t.heap) (Af κ)) 16 64 (Af κ) := by
  unfold sp_X8_award at h
  refine Met.ofW (cc := cX8_award) (maxL := 9) (ret := (Option.some Jvm.ClassFile.FieldType.int)) (by decide) rfl ?_
  intro p e s m args below meth c s₁ B hml hv
  obtain ⟨rfl, hR, hK⟩ := hv
  have hx := B.exec
  have hb := B.bytes
  have hr := B.returns
  have hts := atoms_spec (ws := ws_ yX8_award cX8_award 9 (Option.some Jvm.ClassFile.FieldType.int)) B.pre
  have hts : ∀ w ∈ lw_all, w.before _ s = true := fun w h => hts w (List.mem_cons_of_mem _ h)
  have hown : s.vm.findClass RX8 = some m.cls := findClass_of_methodNamed B.named
  have hlocks := B.notSynchronized
  have hS : va_S (Af κ) s.heap s.heap [] := va_S.rf
  have hl := lv_entry ([.ref (y.2 20 0), .int (p1)]) (n := 9) (Nat.le_of_ble_eq_true rfl)
  rw [lg_entry_eq]
  generalize (lg_sl ([.ref (y.2 20 0), .int (p1)]) ++ List.replicate (9 - (lg_sl ([.ref (y.2 20 0), .int (p1)])).length) Slot.unset).toArray = ls at hl ⊢
  have hl : lv_has ls 9 [(0, .ref (y.2 20 0)), (1, .int (p1))] := hl
  refine lv_aload_n hx hb dX8_award_0 rfl (lv_at hl 0 rfl) ?_
  refine lv_aload_n hx hb dX8_award_1 rfl (lv_at hl 0 rfl) ?_
  refine lv_iload_n hx hb dX8_award_2 rfl (lv_at hl 1 rfl) ?_
  refine ce_qi (fw := fun u => u) (fy := fun _ => y) (cr_V (n := 1) (As := [.int (p1)]) (rest := [.ref (y.2 20 0)]) ⟨hx, hb, hml, hown, hts⟩ hK hR (m_X8_isNoLot hM l0 h) q2308 q2310 qs44 q85 q2311 rfl rfl hd_X8_isNoLot ⟨Nat.le_of_ble_eq_true rfl, Nat.le_of_ble_eq_true rfl⟩ (rv hK hR l0 (ci := 11) rfl rfl) rfl rfl hl.1 rfl (lv_room (Nat.le_of_ble_eq_true rfl)) dX8_award_3 ⟨(Nat.le_of_ble_eq_true rfl), (Nat.le_of_ble_eq_true rfl)⟩) hR hS (fun r_3 w_3 H locs h hR _ hS => ?_)
  refine lv_iconst (v := (1 : Int32)) hx hb dX8_award_6 (by decide) ?_
  refine ce_qi (fw := fun u => u) (fy := fun _ => y) (cr_V (n := 2) (As := [.int (r_3), .int ((1 : Int32))]) (rest := []) ⟨hx, hb, hml, hown, hts⟩ hK hR (m_X8_start hM l0 h) q2023 q2025 qs37 q85 q2026 rfl rfl hd_X8_start ⟨Nat.le_of_ble_eq_true rfl, Nat.le_of_ble_eq_true rfl⟩ (rv hK hR l0 (ci := 11) rfl rfl) rfl rfl hl.1 rfl (lv_room (Nat.le_of_ble_eq_true rfl)) dX8_award_7 ⟨(Nat.le_of_ble_eq_true rfl), (Nat.le_of_ble_eq_true rfl)⟩) hR hS (fun r_7 w_7 H locs h hR _ hS => ?_)
  refine lv_if_ne (tgt := 43) hx hb dX8_award_10 (by decide) (fun c_10 => ?_) (fun c_10 => ?_)
  · have h := h.1 c_10
    refine lv_iconst (v := (0 : Int32)) hx hb dX8_award_43 (by decide) ?_
    refine W.widen (k := 16) (n := 64) (Nat.le_of_ble_eq_true rfl) (Nat.le_of_ble_eq_true rfl) ?_
    exact W.iret (v := (0 : Int32)) hx hb hr (fun t ht hW9 => ⟨⟨(0 : Int32), w_7, rfl, h, rpt ht hR⟩, hS.F ht⟩) hS.2.2 dX8_award_44
  · have h := h.2 c_10
    refine lv_aload_n hx hb dX8_award_13 rfl (lv_at hl 0 rfl) ?_
    refine lv_aload_n hx hb dX8_award_14 rfl (lv_at hl 0 rfl) ?_
    refine g20_5 hx hb hts hown hK hR l0 q1950 dX8_award_15 ?_
    refine lv_iload_n hx hb dX8_award_18 rfl (lv_at hl 1 rfl) ?_
    have o_19 := h.1
    have h := h.2
    refine jr_get (a := y.2 27 ((p1).toNatClampNeg)) ⟨hx, hb, hml, hown, hts⟩ hK hR ⟨fun _ _ _ _ _ => rfl, fun _ _ _ _ _ => rfl⟩ hM.lsL ⟨hM.arL (Nat.lt_of_le_of_lt (Nat.zero_le _) (vp_lt o_19)), (Nat.le_trans hM.mL8 (by decide))⟩ o_19 (hM.elL (vp_lt o_19)) q2101 ⟨Nat.le_of_ble_eq_true rfl, Nat.le_of_ble_eq_true rfl⟩ hl.1 (Nat.le_of_ble_eq_true rfl) dX8_award_19 ⟨(Nat.le_of_ble_eq_true rfl), (Nat.le_of_ble_eq_true rfl)⟩ ?_
    refine jr_castS (ci := 14) hx hb hown hK hts (hR.role (hM.lot (vp_lt o_19))) rfl q2253 dX8_award_22 ?_
    refine g27_4 hx hb hts hown hK hR (hM.lot (vp_lt o_19)) q2264 dX8_award_25 ?_
    refine jn_elim h (fun j36 ej36 h => ?_)
    have Jj36 : ∀ (w36 : Wd) (s0_36 : Int32) (H : Heap) (locs : List Loc) (ls : Array Slot), j36 w36 s0_36 → Rp κ w36 y X [] H → va_S (Af κ) s.heap H locs → lv_has ls 9 [(0, .ref (y.2 20 0)), (1, .int (p1))] → W p l e (headSpec (ws_ yX8_award cX8_award 9 (Option.some Jvm.ClassFile.FieldType.int)) rm_X8_award).room s m ([.ref (y.2 20 0), .int (p1)] : List Value).toArray below meth c H locs (0) (0) (MQ below (va_Qi post (fun w t => Rp κ w y X [] t.heap) (Af κ)) ([.ref (y.2 20 0), .int (p1)] : List Value).toArray s 16 64 (Af κ)) (F0 m 36 ls [.int (s0_36), .ref (y.2 20 0)]) := by
      clear h
      intro w36 s0_36 H locs ls h hR hS hl
      subst ej36
      refine lv_iconst (v := (2 : Int32)) hx hb dX8_award_36 (by decide) ?_
      refine ce_qi (fw := fun u => u) (fy := fun _ => y) (cr_V (n := 2) (As := [.int (s0_36), .int ((2 : Int32))]) (rest := []) ⟨hx, hb, hml, hown, hts⟩ hK hR (m_X8_refuse hM l0 h) q2027 q2029 qs38 q85 q2030 rfl rfl hd_X8_refuse ⟨Nat.le_of_ble_eq_true rfl, Nat.le_of_ble_eq_true rfl⟩ (rv hK hR l0 (ci := 11) rfl rfl) rfl rfl hl.1 rfl (lv_room (Nat.le_of_ble_eq_true rfl)) dX8_award_37 ⟨(Nat.le_of_ble_eq_true rfl), (Nat.le_of_ble_eq_true rfl)⟩) hR hS (fun r_37 w_37 H locs h hR _ hS => ?_)
      refine lv_if_eq (tgt := 45) hx hb dX8_award_40 (by decide) (fun c_40 => ?_) (fun c_40 => ?_)
      · have h := h.1 c_40
        refine lv_aload_n hx hb dX8_award_45 rfl (lv_at hl 0 rfl) ?_
        refine g20_5 hx hb hts hown hK hR l0 q1950 dX8_award_46 ?_
        refine lv_iload_n hx hb dX8_award_49 rfl (lv_at hl 1 rfl) ?_
        have o_50 := h.1
        have h := h.2
        refine jr_get (a := y.2 27 ((p1).toNatClampNeg)) ⟨hx, hb, hml, hown, hts⟩ hK hR ⟨fun _ _ _ _ _ => rfl, fun _ _ _ _ _ => rfl⟩ hM.lsL ⟨hM.arL (Nat.lt_of_le_of_lt (Nat.zero_le _) (vp_lt o_50)), (Nat.le_trans hM.mL8 (by decide))⟩ o_50 (hM.elL (vp_lt o_50)) q2101 ⟨Nat.le_of_ble_eq_true rfl, Nat.le_of_ble_eq_true rfl⟩ hl.1 (Nat.le_of_ble_eq_true rfl) dX8_award_50 ⟨(Nat.le_of_ble_eq_true rfl), (Nat.le_of_ble_eq_true rfl)⟩ ?_
        refine jr_castS (ci := 14) hx hb hown hK hts (hR.role (hM.lot (vp_lt o_50))) rfl q2253 dX8_award_53 ?_
        refine lv_astore_n (lv' := [(2, .ref (y.2 27 ((p1).toNatClampNeg))), (0, .ref (y.2 20 0)), (1, .int (p1))]) hx hb dX8_award_56 rfl hl (by decide) rfl (fun ls hl => ?_)
        refine lv_aload_n hx hb dX8_award_57 rfl (lv_at hl 1 rfl) ?_
        refine lv_aload_n hx hb dX8_award_58 rfl (lv_at hl 0 rfl) ?_
        refine lv_iconst (v := (-1 : Int32)) hx hb dX8_award_59 (by decide) ?_
        refine ce_qi (fw := fun u => u) (fy := fun _ => y) (cr_V (n := 2) (As := [.ref (y.2 27 ((p1).toNatClampNeg)), .int ((-1 : Int32))]) (rest := []) ⟨hx, hb, hml, hown, hts⟩ hK hR (m_X8_best hM l0 (hM.lot (vp_lt o_50)) h) q2328 q2330 qs47 q85 q2331 rfl rfl hd_X8_best ⟨Nat.le_of_ble_eq_true rfl, Nat.le_of_ble_eq_true rfl⟩ (rv hK hR l0 (ci := 11) rfl rfl) rfl rfl hl.1 rfl (lv_room (Nat.le_of_ble_eq_true rfl)) dX8_award_60 ⟨(Nat.le_of_ble_eq_true rfl), (Nat.le_of_ble_eq_true rfl)⟩) hR hS (fun r_60 w_60 H locs h hR _ hS => ?_)
        refine lv_istore_n (lv' := [(3, .int (r_60)), (2, .ref (y.2 27 ((p1).toNatClampNeg))), (0, .ref (y.2 20 0)), (1, .int (p1))]) hx hb dX8_award_63 rfl hl (by decide) rfl (fun ls hl => ?_)
        refine lv_iload_n hx hb dX8_award_64 rfl (lv_at hl 0 rfl) ?_
        refine lv_iconst (v := (-1 : Int32)) hx hb dX8_award_65 (by decide) ?_
        refine lv_icmp_ne (tgt := 76) hx hb dX8_award_66 (by decide) (fun c_66 => ?_) (fun c_66 => ?_)
        · have h := h.1 c_66
          refine lv_aload_n hx hb dX8_award_76 rfl (lv_at hl 2 rfl) ?_
          refine g20_4 hx hb hts hown hK hR l0 q1949 dX8_award_77 ?_
          refine lv_iload_n hx hb dX8_award_80 rfl (lv_at hl 0 rfl) ?_
          have o_81 := h.1
          have h := h.2
          refine jr_get (a := y.2 26 ((r_60).toNatClampNeg)) ⟨hx, hb, hml, hown, hts⟩ hK hR ⟨fun _ _ _ _ _ => rfl, fun _ _ _ _ _ => rfl⟩ hM.lsC ⟨hM.arC (Nat.lt_of_le_of_lt (Nat.zero_le _) (vp_lt o_81)), (Nat.le_trans hM.mC4 (by decide))⟩ o_81 (hM.elC (vp_lt o_81)) q2101 ⟨Nat.le_of_ble_eq_true rfl, Nat.le_of_ble_eq_true rfl⟩ hl.1 (Nat.le_of_ble_eq_true rfl) dX8_award_81 ⟨(Nat.le_of_ble_eq_true rfl), (Nat.le_of_ble_eq_true rfl)⟩ ?_
          refine jr_castS (ci := 13) hx hb hown hK hts (hR.role (hM.com (vp_lt o_81))) rfl q2141 dX8_award_84 ?_
          refine lv_astore (lv' := [(4, .ref (y.2 26 ((r_60).toNatClampNeg))), (3, .int (r_60)), (2, .ref (y.2 27 ((p1).toNatClampNeg))), (0, .ref (y.2 20 0)), (1, .int (p1))]) hx hb dX8_award_87 hl (by decide) rfl (fun ls hl => ?_)
          refine lv_aload_n hx hb dX8_award_89 rfl (lv_at hl 3 rfl) ?_
          refine lv_aload_n hx hb dX8_award_90 rfl (lv_at hl 2 rfl) ?_
          refine lv_iload_n hx hb dX8_award_91 rfl (lv_at hl 1 rfl) ?_
          refine ce_qi (fw := fun u => u) (fy := fun _ => y) (cr_V (n := 2) (As := [.ref (y.2 27 ((p1).toNatClampNeg)), .int (r_60)]) (rest := []) ⟨hx, hb, hml, hown, hts⟩ hK hR (m_X8_best hM l0 (hM.lot (vp_lt o_50)) h) q2328 q2330 qs47 q85 q2331 rfl rfl hd_X8_best ⟨Nat.le_of_ble_eq_true rfl, Nat.le_of_ble_eq_true rfl⟩ (rv hK hR l0 (ci := 11) rfl rfl) rfl rfl hl.1 rfl (lv_room (Nat.le_of_ble_eq_true rfl)) dX8_award_92 ⟨(Nat.le_of_ble_eq_true rfl), (Nat.le_of_ble_eq_true rfl)⟩) hR hS (fun r_92 w_92 H locs h hR _ hS => ?_)
          refine lv_istore (lv' := [(5, .int (r_92)), (4, .ref (y.2 26 ((r_60).toNatClampNeg))), (3, .int (r_60)), (2, .ref (y.2 27 ((p1).toNatClampNeg))), (0, .ref (y.2 20 0)), (1, .int (p1))]) hx hb dX8_award_95 hl (by decide) rfl (fun ls hl => ?_)
          refine lv_iload hx hb dX8_award_97 (lv_at hl 0 rfl) ?_
          refine lv_iconst (v := (-1 : Int32)) hx hb dX8_award_99 (by decide) ?_
          refine jn_elim h (fun j139 ej139 h => ?_)
          have Jj139 : ∀ (w139 : Wd) (s0_139 : Int32) (H : Heap) (locs : List Loc) (ls : Array Slot), j139 w139 s0_139 → Rp κ w139 y X [] H → va_S (Af κ) s.heap H locs → lv_has ls 9 [(4, .ref (y.2 26 ((r_60).toNatClampNeg))), (3, .int (r_60)), (2, .ref (y.2 27 ((p1).toNatClampNeg))), (0, .ref (y.2 20 0))] → W p l e (headSpec (ws_ yX8_award cX8_award 9 (Option.some Jvm.ClassFile.FieldType.int)) rm_X8_award).room s m ([.ref (y.2 20 0), .int (p1)] : List Value).toArray below meth c H locs (10) (40) (MQ below (va_Qi post (fun w t => Rp κ w y X [] t.heap) (Af κ)) ([.ref (y.2 20 0), .int (p1)] : List Value).toArray s 16 64 (Af κ)) (F0 m 139 ls [.int (s0_139)]) := by
            clear h
            intro w139 s0_139 H locs ls h hR hS hl
            subst ej139
            refine lv_istore (lv' := [(6, .int (s0_139)), (4, .ref (y.2 26 ((r_60).toNatClampNeg))), (3, .int (r_60)), (2, .ref (y.2 27 ((p1).toNatClampNeg))), (0, .ref (y.2 20 0))]) hx hb dX8_award_139 hl (by decide) rfl (fun ls hl => ?_)
            refine lv_aload_n hx hb dX8_award_141 rfl (lv_at hl 3 rfl) ?_
            refine lv_iload hx hb dX8_award_142 (lv_at hl 0 rfl) ?_
            refine jn_elim h (fun j160 ej160 h => ?_)
            have Jj160 : ∀ (w160 : Wd) (s0_160 : Int32) (H : Heap) (locs : List Loc) (ls : Array Slot), j160 w160 s0_160 → Rp κ w160 y X [] H → va_S (Af κ) s.heap H locs → lv_has ls 9 [(6, .int (s0_139)), (4, .ref (y.2 26 ((r_60).toNatClampNeg))), (3, .int (r_60)), (2, .ref (y.2 27 ((p1).toNatClampNeg))), (0, .ref (y.2 20 0))] → W p l e (headSpec (ws_ yX8_award cX8_award 9 (Option.some Jvm.ClassFile.FieldType.int)) rm_X8_award).room s m ([.ref (y.2 20 0), .int (p1)] : List Value).toArray below meth c H locs (10) (40) (MQ below (va_Qi post (fun w t => Rp κ w y X [] t.heap) (Af κ)) ([.ref (y.2 20 0), .int (p1)] : List Value).toArray s 16 64 (Af κ)) (F0 m 160 ls [.int (s0_160), .ref (y.2 27 ((p1).toNatClampNeg))]) := by
              clear h
              intro w160 s0_160 H locs ls h hR hS hl
              subst ej160
              refine p27_6 hx hb hts hown hK hR hS (hM.lot (vp_lt o_50)) q2267 dX8_award_160 (fun H locs w_160 ew_160 hR hS => ?_)
              have h := h w_160 ew_160
              refine lv_iconst (v := (0 : Int32)) hx hb dX8_award_163 (by decide) ?_
              refine lv_istore (lv' := [(7, .int ((0 : Int32))), (6, .int (s0_139)), (4, .ref (y.2 26 ((r_60).toNatClampNeg))), (3, .int (r_60)), (2, .ref (y.2 27 ((p1).toNatClampNeg))), (0, .ref (y.2 20 0))]) hx hb dX8_award_164 hl (by decide) rfl (fun ls hl => ?_)
              refine lp_X8_award_166 (C1 := 15) (S1 := 60) hx hb hr hml hown hts hlocks hK hM l0 (hM.lot (vp_lt o_50)) (hM.com (vp_lt o_81)) (Nat.le_of_ble_eq_true rfl) (Nat.le_of_ble_eq_true rfl) (fun w_166  H locs ls cells9 slots9 h hR hS hl hc9 hs9 => ?_) 5 w_160 (0 : Int32) _ _ _ _ _  h hR hS (lv_sub hl [5, 4, 3, 2, 1, 0] rfl) (by omega) (by omega)
              refine W.widen (k := 15) (n := 60) hc9 hs9 ?_
              refine lv_aload_n hx hb dX8_award_289 rfl (lv_at hl 1 rfl) ?_
              refine lv_iconst (v := (1 : Int32)) hx hb dX8_award_290 (by decide) ?_
              refine p27_4 hx hb hts hown hK hR hS (hM.lot (vp_lt o_50)) q2264 dX8_award_291 (fun H locs w_291 ew_291 hR hS => ?_)
              have h := h w_291 ew_291
              refine lv_aload_n hx hb dX8_award_294 rfl (lv_at hl 1 rfl) ?_
              refine lv_iload_n hx hb dX8_award_295 rfl (lv_at hl 2 rfl) ?_
              refine p27_5 hx hb hts hown hK hR hS (hM.lot (vp_lt o_50)) q2266 dX8_award_296 (fun H locs w_296 ew_296 hR hS => ?_)
              have h := h w_296 ew_296
              refine lv_aload_n hx hb dX8_award_299 rfl (lv_at hl 1 rfl) ?_
              refine lv_aload_n hx hb dX8_award_300 rfl (lv_at hl 1 rfl) ?_
              refine g27_2 hx hb hts hown hK hR (hM.lot (vp_lt o_50)) q2261 dX8_award_301 ?_
              refine p27_7 hx hb hts hown hK hR hS (hM.lot (vp_lt o_50)) q2268 dX8_award_304 (fun H locs w_304 ew_304 hR hS => ?_)
              have h := h w_304 ew_304
              refine lv_aload_n hx hb dX8_award_307 rfl (lv_at hl 0 rfl) ?_
              refine lv_aload_n hx hb dX8_award_308 rfl (lv_at hl 1 rfl) ?_
              refine ce_qv (fw := fun u => u) (fy := fun _ => y) (cr_V (n := 1) (As := [.ref (y.2 27 ((p1).toNatClampNeg))]) (rest := []) ⟨hx, hb, hml, hown, hts⟩ hK hR (m_X8_fallDue hM l0 (hM.lot (vp_lt o_50)) h) q2336 q2338 qs49 q85 q2339 rfl rfl hd_X8_fallDue ⟨Nat.le_of_ble_eq_true rfl, Nat.le_of_ble_eq_true rfl⟩ (rv hK hR l0 (ci := 11) rfl rfl) rfl rfl hl.1 rfl (lv_room (Nat.le_of_ble_eq_true rfl)) dX8_award_309 ⟨(Nat.le_of_ble_eq_true rfl), (Nat.le_of_ble_eq_true rfl)⟩) hR hS (fun w_309 H locs h hR _ hS => ?_)
              refine lv_iload_n hx hb dX8_award_312 rfl (lv_at hl 2 rfl) ?_
              refine W.widen (k := 16) (n := 64) (Nat.le_of_ble_eq_true rfl) (Nat.le_of_ble_eq_true rfl) ?_
              exact W.iret (v := r_60) hx hb hr (fun t ht hW9 => ⟨⟨r_60, w_309, rfl, h, rpt ht hR⟩, hS.F ht⟩) hS.2.2 dX8_award_313
            refine lv_if_eq (tgt := 154) hx hb dX8_award_144 (by decide) (fun c_144 => ?_) (fun c_144 => ?_)
            · have h := h.1 c_144
              refine lv_aload_n hx hb dX8_award_154 rfl (lv_at hl 3 rfl) ?_
              refine g27_11 hx hb hts hown hK hR (hM.lot (vp_lt o_50)) q2274 dX8_award_155 ?_
              refine lv_iload_n hx hb dX8_award_158 rfl (lv_at hl 2 rfl) ?_
              have o_159 := h.1
              have h := h.2
              refine a28 hx hb hK hR (hM.bid (hM.lot (vp_lt o_50))) o_159 dX8_award_159 ?_
              refine W.widen (k := 10) (n := 40) (Nat.le_of_ble_eq_true rfl) (Nat.le_of_ble_eq_true rfl) ?_
              exact Jj160 w139 (gv w139 28 (((((p1).toNatClampNeg)))) (r_60).toNatClampNeg) _ _ _ h hR hS (lv_sub hl [0, 1, 2, 3, 4] rfl)
            · have h := h.2 c_144
              refine lv_aload_n hx hb dX8_award_147 rfl (lv_at hl 3 rfl) ?_
              refine g27_3 hx hb hts hown hK hR (hM.lot (vp_lt o_50)) q2262 dX8_award_148 ?_
              refine lv_goto (tgt := 160) hx hb dX8_award_151 (by decide) ?_
              refine W.widen (k := 10) (n := 40) (Nat.le_of_ble_eq_true rfl) (Nat.le_of_ble_eq_true rfl) ?_
              exact Jj160 w139 (gv w139 27 (((p1).toNatClampNeg)) 3) _ _ _ h hR hS (lv_sub hl [0, 1, 2, 3, 4] rfl)
          refine lv_icmp_eq (tgt := 138) hx hb dX8_award_100 (by decide) (fun c_100 => ?_) (fun c_100 => ?_)
          · have h := h.1 c_100
            refine lv_iconst (v := (0 : Int32)) hx hb dX8_award_138 (by decide) ?_
            refine W.widen (k := 10) (n := 40) (Nat.le_of_ble_eq_true rfl) (Nat.le_of_ble_eq_true rfl) ?_
            exact Jj139 w_92 (0 : Int32) _ _ _ h hR hS (lv_sub hl [1, 2, 3, 4] rfl)
          · have h := h.2 c_100
            refine lv_aload hx hb dX8_award_103 (lv_at hl 1 rfl) ?_
            refine g26_2 hx hb hts hown hK hR (hM.com (vp_lt o_81)) q2151 dX8_award_105 ?_
            refine lv_if_le (tgt := 138) hx hb dX8_award_108 (by decide) (fun c_108 => ?_) (fun c_108 => ?_)
            · have h := h.1 c_108
              refine lv_iconst (v := (0 : Int32)) hx hb dX8_award_138 (by decide) ?_
              refine W.widen (k := 10) (n := 40) (Nat.le_of_ble_eq_true rfl) (Nat.le_of_ble_eq_true rfl) ?_
              exact Jj139 w_92 (0 : Int32) _ _ _ h hR hS (lv_sub hl [1, 2, 3, 4] rfl)
            · have h := h.2 c_108
              refine lv_aload_n hx hb dX8_award_111 rfl (lv_at hl 4 rfl) ?_
              refine g20_4 hx hb hts hown hK hR l0 q1949 dX8_award_112 ?_
              refine lv_iload hx hb dX8_award_115 (lv_at hl 0 rfl) ?_
              have o_117 := h.1
              have h := h.2
              refine jr_get (a := y.2 26 ((r_92).toNatClampNeg)) ⟨hx, hb, hml, hown, hts⟩ hK hR ⟨fun _ _ _ _ _ => rfl, fun _ _ _ _ _ => rfl⟩ hM.lsC ⟨hM.arC (Nat.lt_of_le_of_lt (Nat.zero_le _) (vp_lt o_117)), (Nat.le_trans hM.mC4 (by decide))⟩ o_117 (hM.elC (vp_lt o_117)) q2101 ⟨Nat.le_of_ble_eq_true rfl, Nat.le_of_ble_eq_true rfl⟩ hl.1 (Nat.le_of_ble_eq_true rfl) dX8_award_117 ⟨(Nat.le_of_ble_eq_true rfl), (Nat.le_of_ble_eq_true rfl)⟩ ?_
              refine jr_castS (ci := 13) hx hb hown hK hts (hR.role (hM.com (vp_lt o_117))) rfl q2141 dX8_award_120 ?_
              refine g26_2 hx hb hts hown hK hR (hM.com (vp_lt o_117)) q2151 dX8_award_123 ?_
              refine lv_aload hx hb dX8_award_126 (lv_at hl 1 rfl) ?_
              refine g26_2 hx hb hts hown hK hR (hM.com (vp_lt o_81)) q2151 dX8_award_128 ?_
              refine lv_icmp_ne (tgt := 138) hx hb dX8_award_131 (by decide) (fun c_131 => ?_) (fun c_131 => ?_)
              · have h := h.1 c_131
                refine lv_iconst (v := (0 : Int32)) hx hb dX8_award_138 (by decide) ?_
                refine W.widen (k := 10) (n := 40) (Nat.le_of_ble_eq_true rfl) (Nat.le_of_ble_eq_true rfl) ?_
                exact Jj139 w_92 (0 : Int32) _ _ _ h hR hS (lv_sub hl [1, 2, 3, 4] rfl)
              · have h := h.2 c_131
                refine lv_iconst (v := (1 : Int32)) hx hb dX8_award_134 (by decide) ?_
                refine lv_goto (tgt := 139) hx hb dX8_award_135 (by decide) ?_
                refine W.widen (k := 10) (n := 40) (Nat.le_of_ble_eq_true rfl) (Nat.le_of_ble_eq_true rfl) ?_
                exact Jj139 w_92 (1 : Int32) _ _ _ h hR hS (lv_sub hl [1, 2, 3, 4] rfl)
        · have h := h.2 c_66
          refine lv_aload_n hx hb dX8_award_69 rfl (lv_at hl 1 rfl) ?_
          refine lv_iconst (v := (3 : Int32)) hx hb dX8_award_70 (by decide) ?_
          refine p27_4 hx hb hts hown hK hR hS (hM.lot (vp_lt o_50)) q2264 dX8_award_71 (fun H locs w_71 ew_71 hR hS => ?_)
          have h := h w_71 ew_71
          refine lv_iconst (v := (-1 : Int32)) hx hb dX8_award_74 (by decide) ?_
          refine W.widen (k := 16) (n := 64) (Nat.le_of_ble_eq_true rfl) (Nat.le_of_ble_eq_true rfl) ?_
          exact W.iret (v := (-1 : Int32)) hx hb hr (fun t ht hW9 => ⟨⟨(-1 : Int32), w_71, rfl, h, rpt ht hR⟩, hS.F ht⟩) hS.2.2 dX8_award_75
      · have h := h.2 c_40
        refine lv_iconst (v := (0 : Int32)) hx hb dX8_award_43 (by decide) ?_
        refine W.widen (k := 16) (n := 64) (Nat.le_of_ble_eq_true rfl) (Nat.le_of_ble_eq_true rfl) ?_
        exact W.iret (v := (0 : Int32)) hx hb hr (fun t ht hW9 => ⟨⟨(0 : Int32), w_37, rfl, h, rpt ht hR⟩, hS.F ht⟩) hS.2.2 dX8_award_44
    refine lv_if_eq (tgt := 35) hx hb dX8_award_28 (by decide) (fun c_28 => ?_) (fun c_28 => ?_)
    · have h := h.1 c_28
      refine lv_iconst (v := (0 : Int32)) hx hb dX8_award_35 (by decide) ?_
      refine W.widen (k := 0) (n := 0) (Nat.le_of_ble_eq_true rfl) (Nat.le_of_ble_eq_true rfl) ?_
      exact Jj36 w_7 (0 : Int32) _ _ _ h hR hS (lv_sub hl [0, 1] rfl)
    · have h := h.2 c_28
      refine lv_iconst (v := (1 : Int32)) hx hb dX8_award_31 (by decide) ?_
      refine lv_goto (tgt := 36) hx hb dX8_award_32 (by decide) ?_
      refine W.widen (k := 0) (n := 0) (Nat.le_of_ble_eq_true rfl) (Nat.le_of_ble_eq_true rfl) ?_
      exact Jj36 w_7 (1 : Int32) _ _ _ h hR hS (lv_sub hl [0, 1] rfl)
abbrev rm_X8_collect : Room := { frames := 5, cells := 9, slots := 54, locals := 171 }
def st_X8_collect_20 (κ : Kx) (post : Wd → Ly → Prop) (ex : Wd → Ly → Prop) (rec : Wd → Ly → Int32 → Prop) (i1 : Nat) (v2 : Int32) (w : Wd) (y : Ly) (v3 : Int32) : Prop := ((nI (mV y) ≤ v3) → (ex w y )) ∧ ((¬ (nI (mV y) ≤ v3)) → (sp_X8_has κ y (fun r_36 w_36 => ((r_36 = 0) → (∀ x_66 : Int32, x_66 = v3 + (1 : Int32) → rec w_36 y x_66)) ∧ ((¬ (r_36 = 0)) → ((vp_in (v3) (mV y)) ∧ (((¬ gv w_36 21 (((v3).toNatClampNeg)) 10 = 0) → (∀ x_66_a : Int32, x_66_a = v3 + (1 : Int32) → rec w_36 y x_66_a)) ∧ ((gv w_36 21 (((v3).toNatClampNeg)) 10 = 0) → (sp_X8_collect_2 κ y (fun  w_63 y_63 => ∀ x_66_b : Int32, x_66_b = v3 + (1 : Int32) → rec w_63 y_63 x_66_b) w_36 i1 v2 v3)))))) w (gv w 27 i1 1) v3))
def sp_X8_collect_20 (κ : Kx) (post : Wd → Ly → Prop) (ex : Wd → Ly → Prop) (i1 : Nat) (v2 : Int32) : Nat → Wd → Ly → Int32 → Prop
  | 0 => fun _ _ _ => False
  | n + 1 => fun w y v3 => st_X8_collect_20 κ post ex (sp_X8_collect_20 κ post ex i1 v2 n) i1 v2 w y v3
set_option maxHeartbeats 4000000 in
theorem lp_X8_collect_20 {p : Program} {l : Launch} {e : Env} {s : State} {m : MethodId} {args : Array Value} {below : List Frame} {meth : Method} {c : Code} {κ : Kx} {y0 : Ly} {X : XR} {post : Wd → Ly → Prop} {i1 : Nat} {v2 : Int32} (hx : p.tables.exec = Jvm.exec) (hb : c.code = cX8_collect) (hr : meth.sig.returnType = (Option.none : Option Jvm.ClassFile.FieldType)) (hml : c.maxLocals = 4) (hown : s.vm.findClass RX8 = some m.cls) (hts : ∀ w ∈ lw_all, w.before args s = true) (hlocks : meth.locks = false) (hK : KK κ s)   {C1 S1 : Nat} (hC : C1 ≤ 9) (hSl : S1 ≤ 54) {ex : Wd → Ly → Prop}
    (kx : ∀ (w : Wd) (y : Ly)  (H : Heap) (locs : List Loc) (ls : Array Slot) (cells slots : Nat) (hM : WFm κ y) (hLe : LeS y0 y) , ex w y  → Rp κ w y X [] H → va_S (Af κ) s.heap H locs → lv_has ls 4 [(1, .ref (y.2 27 i1))] → cells ≤ C1 → slots ≤ S1 → W p l e (headSpec (ws_ yX8_collect cX8_collect 4 (Option.none : Option Jvm.ClassFile.FieldType)) rm_X8_collect).room s m args below meth c H locs cells slots (MQ below (va_Qv (fun (u : Wd × Ly) => post u.1 u.2) (fun (u : Wd × Ly) t => Rp κ u.1 u.2 X [] t.heap ∧ WFm κ u.2 ∧ LeS y0 u.2) (Af κ)) args s 9 54 (Af κ)) (F0 m 72 ls [])) :
    ∀ (f : Nat) (w : Wd) (y : Ly) (v3 : Int32) (H : Heap) (locs : List Loc) (ls : Array Slot) (cells slots : Nat) (hM : WFm κ y) (hLe : LeS y0 y) (l0 : live y 20 0) (l1 : live y 27 i1) , sp_X8_collect_20 κ post ex i1 v2 f w y v3 → Rp κ w y X [] H → va_S (Af κ) s.heap H locs → lv_has ls 4 [(0, .ref (y.2 20 0)), (1, .ref (y.2 27 i1)), (2, .int (v2)), (3, .int (v3))] → cells + f * 1 ≤ C1 → slots + f * 6 ≤ S1 → W p l e (headSpec (ws_ yX8_collect cX8_collect 4 (Option.none : Option Jvm.ClassFile.FieldType)) rm_X8_collect).room s m args below meth c H locs cells slots (MQ below (va_Qv (fun (u : Wd × Ly) => post u.1 u.2) (fun (u : Wd × Ly) t => Rp κ u.1 u.2 X [] t.heap ∧ WFm κ u.2 ∧ LeS y0 u.2) (Af κ)) args s 9 54 (Af κ)) (F0 m 20 ls []) := by
  intro f
  induction f with
  | zero =>
    intro w y v3 H locs ls cells slots hM hLe l0 l1 h
    exact False.elim h
  | succ f ih =>
    intro w y v3 H locs ls cells slots hM hLe l0 l1 h hR hS hl hc hs
    have h : st_X8_collect_20 κ post ex (sp_X8_collect_20 κ post ex i1 v2 f) i1 v2 w y v3 := h
    unfold st_X8_collect_20 at h
    refine lv_iload_n hx hb dX8_collect_20 rfl (lv_at hl 3 rfl) ?_
    refine lv_aload_n hx hb dX8_collect_21 rfl (lv_at hl 0 rfl) ?_
    refine g20_3 hx hb hts hown hK hR l0 q1948 dX8_collect_22 ?_
    refine jr_size ⟨hx, hb, hml, hown, hts⟩ hK hR ⟨fun _ _ _ _ _ => rfl, fun _ _ _ _ _ => rfl⟩ hM.lsV q2031 ⟨Nat.le_of_ble_eq_true rfl, Nat.le_of_ble_eq_true rfl⟩ hl.1 (Nat.le_of_ble_eq_true rfl) dX8_collect_25 ⟨(Nat.le_trans (show cells + 0 ≤ C1 from by omega) hC), (Nat.le_trans (show slots + 0 ≤ S1 from by omega) hSl)⟩ ?_
    refine lv_icmp_ge (tgt := 72) hx hb dX8_collect_28 (by decide) (fun c_28 => ?_) (fun c_28 => ?_)
    · have h := h.1 c_28
      exact kx w y  _ _ _ _ _ hM hLe h hR hS (lv_sub hl [1] rfl) (by omega) (by omega)
    · have h := h.2 c_28
      refine lv_aload_n hx hb dX8_collect_31 rfl (lv_at hl 1 rfl) ?_
      refine g27_1 hx hb hts hown hK hR l1 q2260 dX8_collect_32 ?_
      refine lv_iload_n hx hb dX8_collect_35 rfl (lv_at hl 3 rfl) ?_
      refine ce_qi (fw := fun u => u) (fy := fun _ => y) (cr_S (n := 2) (As := [.int (gv w 27 i1 1), .int (v3)]) (rest := []) ⟨hx, hb, hml, hown, hts⟩ hK hR (m_X8_has hM h) q2102 q2103 q85 q2104 rfl rfl hds_X8_has ⟨Nat.le_of_ble_eq_true rfl, Nat.le_of_ble_eq_true rfl⟩ rfl rfl hl.1 rfl (lv_room (Nat.le_of_ble_eq_true rfl)) dX8_collect_36 ⟨(Nat.le_trans (show cells + 0 ≤ C1 from by omega) hC), (Nat.le_trans (show slots + 0 ≤ S1 from by omega) hSl)⟩) hR hS (fun r_36 w_36 H locs h hR _ hS => ?_)
      refine lv_if_eq (tgt := 66) hx hb dX8_collect_39 (by decide) (fun c_39 => ?_) (fun c_39 => ?_)
      · have h := h.1 c_39
        obtain ⟨x_66, ex_66⟩ : ∃ z : Int32, z = v3 + (1 : Int32) := ⟨_, rfl⟩
        have h := h x_66 ex_66
        refine lv_iinc (v := x_66) (lv' := [(3, .int (x_66)), (0, .ref (y.2 20 0)), (1, .ref (y.2 27 i1)), (2, .int (v2))]) hx hb dX8_collect_66 hl (k := 3) rfl (by rw [ex_66]; rfl) (by decide) rfl (fun ls hl => ?_)
        refine lv_goto (tgt := 20) hx hb dX8_collect_69 (by decide) ?_
        exact ih w_36 y x_66 _ _ _ _ _ hM hLe l0 l1  h hR hS (lv_sub hl [1, 2, 3, 0] rfl) (by omega) (by omega)
      · have h := h.2 c_39
        refine lv_aload_n hx hb dX8_collect_42 rfl (lv_at hl 0 rfl) ?_
        refine g20_3 hx hb hts hown hK hR l0 q1948 dX8_collect_43 ?_
        refine lv_iload_n hx hb dX8_collect_46 rfl (lv_at hl 3 rfl) ?_
        have o_47 := h.1
        have h := h.2
        refine jr_get (a := y.2 21 ((v3).toNatClampNeg)) ⟨hx, hb, hml, hown, hts⟩ hK hR ⟨fun _ _ _ _ _ => rfl, fun _ _ _ _ _ => rfl⟩ hM.lsV ⟨hM.arV (Nat.lt_of_le_of_lt (Nat.zero_le _) (vp_lt o_47)), (Nat.le_trans hM.mV8 (by decide))⟩ o_47 (hM.elV (vp_lt o_47)) q2101 ⟨Nat.le_of_ble_eq_true rfl, Nat.le_of_ble_eq_true rfl⟩ hl.1 (Nat.le_of_ble_eq_true rfl) dX8_collect_47 ⟨(Nat.le_trans (show cells + 0 ≤ C1 from by omega) hC), (Nat.le_trans (show slots + 0 ≤ S1 from by omega) hSl)⟩ ?_
        refine jr_castS (ci := 12) hx hb hown hK hts (hR.role (hM.vil (vp_lt o_47))) rfl q2032 dX8_collect_50 ?_
        refine g21_10 hx hb hts hown hK hR (hM.vil (vp_lt o_47)) q2051 dX8_collect_53 ?_
        refine lv_if_ne (tgt := 66) hx hb dX8_collect_56 (by decide) (fun c_56 => ?_) (fun c_56 => ?_)
        · have h := h.1 c_56
          obtain ⟨x_66_a, ex_66_a⟩ : ∃ z : Int32, z = v3 + (1 : Int32) := ⟨_, rfl⟩
          have h := h x_66_a ex_66_a
          refine lv_iinc (v := x_66_a) (lv' := [(3, .int (x_66_a)), (0, .ref (y.2 20 0)), (1, .ref (y.2 27 i1)), (2, .int (v2))]) hx hb dX8_collect_66 hl (k := 3) rfl (by rw [ex_66_a]; rfl) (by decide) rfl (fun ls hl => ?_)
          refine lv_goto (tgt := 20) hx hb dX8_collect_69 (by decide) ?_
          exact ih w_36 y x_66_a _ _ _ _ _ hM hLe l0 l1  h hR hS (lv_sub hl [1, 2, 3, 0] rfl) (by omega) (by omega)
        · have h := h.2 c_56
          refine lv_aload_n hx hb dX8_collect_59 rfl (lv_at hl 0 rfl) ?_
          refine lv_aload_n hx hb dX8_collect_60 rfl (lv_at hl 1 rfl) ?_
          refine lv_iload_n hx hb dX8_collect_61 rfl (lv_at hl 2 rfl) ?_
          refine lv_iload_n hx hb dX8_collect_62 rfl (lv_at hl 3 rfl) ?_
          have lv_63 := l0
          have lv_63_a := l1
          refine cey_qv (fw := fun u : Wd × Ly => u.1) (fy := fun u : Wd × Ly => u.2) (P := fun u : Wd × Ly => WFm κ u.2 ∧ LeS y u.2) (cr_V (n := 3) (As := [.ref (y.2 27 i1), .int (v2), .int (v3)]) (rest := []) ⟨hx, hb, hml, hown, hts⟩ hK hR (m_X8_collect_2 hM l0 l1 h) q2468 q2470 qs55 q85 q2471 rfl rfl hd_X8_collect_2 ⟨Nat.le_of_ble_eq_true rfl, Nat.le_of_ble_eq_true rfl⟩ (rv hK hR l0 (ci := 11) rfl rfl) rfl rfl hl.1 rfl (lv_room (Nat.le_of_ble_eq_true rfl)) dX8_collect_63 ⟨(Nat.le_trans (show cells + 1 ≤ C1 from by omega) hC), (Nat.le_trans (show slots + 6 ≤ S1 from by omega) hSl)⟩) hR hS (fun  u9 H locs h p9 hR _ hS => ?_)
          obtain ⟨w_63, y_63⟩ := u9
          obtain ⟨hM_y_63, hL1_y_63⟩ := p9
          dsimp only at h hR hM_y_63 hL1_y_63
          have lw_63 := hL1_y_63.live (k := 20) rfl lv_63
          have lw_63_a := hL1_y_63.live (k := 27) rfl lv_63_a
          have hl : lv_has ls 4 [(0, .ref (y_63.2 20 0)), (1, .ref (y_63.2 27 i1)), (2, .int (v2)), (3, .int (v3))] := by
            rw [hL1_y_63.2 20 rfl, hL1_y_63.2 27 rfl]
            exact hl
          have hLe_y_63 : LeS _ y_63 := (hLe.trans hL1_y_63)
          obtain ⟨x_66_b, ex_66_b⟩ : ∃ z : Int32, z = v3 + (1 : Int32) := ⟨_, rfl⟩
          have h := h x_66_b ex_66_b
          refine lv_iinc (v := x_66_b) (lv' := [(3, .int (x_66_b)), (0, .ref (y_63.2 20 0)), (1, .ref (y_63.2 27 i1)), (2, .int (v2))]) hx hb dX8_collect_66 hl (k := 3) rfl (by rw [ex_66_b]; rfl) (by decide) rfl (fun ls hl => ?_)
          refine lv_goto (tgt := 20) hx hb dX8_collect_69 (by decide) ?_
          exact ih w_63 y_63 x_66_b _ _ _ _ _ hM_y_63 hLe_y_63 lw_63 lw_63_a  h hR hS (lv_sub hl [1, 2, 3, 0] rfl) (by omega) (by omega)
def sp_X8_collect (κ : Kx) (y : Ly) (post : Wd → Ly → Prop) (w : Wd) (a1 : Nat) : Prop := ((gv w 27 a1 4 = (1 : Int32)) → ((a1 < mL y) ∧ (∀ x_17 : Int32, x_17 = nI a1 → sp_X8_collect_20 κ post (fun w_20 y_20  => ∀ w_79 : Wd, w_79 = sv w_20 27 a1 7 ((gv w_20 27 a1 7) - (1 : Int32)) → ((¬ gv w_79 27 a1 7 = 0) → (post w_79 y_20)) ∧ ((gv w_79 27 a1 7 = 0) → (∀ w_91 : Wd, w_91 = sv w_79 27 a1 4 ((2 : Int32)) → post w_91 y_20))) a1 x_17 9 w y (0 : Int32)))) ∧ ((¬ (gv w 27 a1 4 = (1 : Int32))) → (post w y))
theorem hd_X8_collect : yX8_collect.cls = RX8 ∧ yX8_collect.cls ≠ "java/lang/invoke/MethodHandle" ∧ yX8_collect.cls ≠ "java/lang/invoke/VarHandle" ∧ (parseMethodDescriptor yX8_collect.desc).map (fun d => d.parameters.length) = some 1 := by decide +kernel
set_option maxHeartbeats 4000000 in
theorem m_X8_collect {l : Launch} {κ : Kx} {y : Ly} {X : XR} {post : Wd → Ly → Prop} {w : Wd} {a1 : Nat}  (hM : WFm κ y) (l0 : live y 20 0) (l1 : live y 27 a1) (h : sp_X8_collect κ y post w a1) : Met l yX8_collect (ws_ yX8_collect cX8_collect 4 (Option.none : Option Jvm.ClassFile.FieldType)) rm_X8_collect (va_Pc [.ref (y.2 20 0), .ref (y.2 27 a1)] (RC κ w y X)) (va_Qv (fun (u : Wd × Ly) => post u.1 u.2) (fun (u : Wd × Ly) t => Rp κ u.1 u.2 X [] t.heap ∧ WFm κ u.2 ∧ LeS y u.2) (Af κ)) 9 54 (Af κ) := by
  unfold sp_X8_collect at h
  refine Met.ofW (cc := cX8_collect) (maxL := 4) (ret := (Option.none : Option Jvm.ClassFile.FieldType)) (by decide) rfl ?_
  intro p e s m args below meth c s₁ B hml hv
  obtain ⟨rfl, hR, hK⟩ := hv
  have hx := B.exec
  have hb := B.bytes
  have hr := B.returns
  have hts := atoms_spec (ws := ws_ yX8_collect cX8_collect 4 (Option.none : Option Jvm.ClassFile.FieldType)) B.pre
  have hts : ∀ w ∈ lw_all, w.before _ s = true := fun w h => hts w (List.mem_cons_of_mem _ h)
  have hown : s.vm.findClass RX8 = some m.cls := findClass_of_methodNamed B.named
  have hlocks := B.notSynchronized
  have hLe : LeS y y := LeS.rf
  have hS : va_S (Af κ) s.heap s.heap [] := va_S.rf
  have hl := lv_entry ([.ref (y.2 20 0), .ref (y.2 27 a1)]) (n := 4) (Nat.le_of_ble_eq_true rfl)
  rw [lg_entry_eq]
  generalize (lg_sl ([.ref (y.2 20 0), .ref (y.2 27 a1)]) ++ List.replicate (4 - (lg_sl ([.ref (y.2 20 0), .ref (y.2 27 a1)])).length) Slot.unset).toArray = ls at hl ⊢
  have hl : lv_has ls 4 [(0, .ref (y.2 20 0)), (1, .ref (y.2 27 a1))] := hl
  refine lv_aload_n hx hb dX8_collect_0 rfl (lv_at hl 1 rfl) ?_
  refine g27_4 hx hb hts hown hK hR l1 q2264 dX8_collect_1 ?_
  refine lv_iconst (v := (1 : Int32)) hx hb dX8_collect_4 (by decide) ?_
  refine lv_icmp_eq (tgt := 9) hx hb dX8_collect_5 (by decide) (fun c_5 => ?_) (fun c_5 => ?_)
  · have h := h.1 c_5
    refine lv_aload_n hx hb dX8_collect_9 rfl (lv_at hl 0 rfl) ?_
    refine g20_5 hx hb hts hown hK hR l0 q1950 dX8_collect_10 ?_
    refine lv_aload_n hx hb dX8_collect_13 rfl (lv_at hl 1 rfl) ?_
    have o_14 := h.1
    have h := h.2
    refine jr_indexOf ⟨hx, hb, hml, hown, hts⟩ hK hR hM o_14 q2416 ⟨Nat.le_of_ble_eq_true rfl, Nat.le_of_ble_eq_true rfl⟩ hl.1 (Nat.le_of_ble_eq_true rfl) dX8_collect_14 ⟨(Nat.le_of_ble_eq_true rfl), (Nat.le_of_ble_eq_true rfl)⟩ ?_
    refine lv_topi (fun x_17 ex_17 => ?_)
    have h := h x_17 ex_17
    refine lv_istore_n (lv' := [(2, .int (x_17)), (0, .ref (y.2 20 0)), (1, .ref (y.2 27 a1))]) hx hb dX8_collect_17 rfl hl (by decide) rfl (fun ls hl => ?_)
    refine lv_iconst (v := (0 : Int32)) hx hb dX8_collect_18 (by decide) ?_
    refine lv_istore_n (lv' := [(3, .int ((0 : Int32))), (2, .int (x_17)), (0, .ref (y.2 20 0)), (1, .ref (y.2 27 a1))]) hx hb dX8_collect_19 rfl hl (by decide) rfl (fun ls hl => ?_)
    have lv_20 := l0
    have lv_20_a := l1
    refine lp_X8_collect_20 (C1 := 9) (S1 := 54) hx hb hr hml hown hts hlocks hK  (Nat.le_of_ble_eq_true rfl) (Nat.le_of_ble_eq_true rfl) (fun w_20 y_20  H locs ls cells9 slots9 hM_y_20 hLe_y_20 h hR hS hl hc9 hs9 => ?_) 9 w y (0 : Int32) _ _ _ _ _ hM hLe l0 l1  h hR hS (lv_sub hl [2, 3, 1, 0] rfl) (by omega) (by omega)
    have hL1_y_20 := hLe.symm.trans hLe_y_20
    refine W.widen (k := 9) (n := 54) hc9 hs9 ?_
    have lw_20 := hL1_y_20.live (k := 27) rfl lv_20_a
    refine lv_aload_n hx hb dX8_collect_72 rfl (lv_at hl 0 rfl) ?_
    refine lv_dup hx hb dX8_collect_73 rfl ?_
    refine g27_7 hx hb hts hown hK hR lw_20 q2268 dX8_collect_74 ?_
    refine lv_iconst (v := (1 : Int32)) hx hb dX8_collect_77 (by decide) ?_
    refine lv_isub hx hb dX8_collect_78 ?_
    refine p27_7 hx hb hts hown hK hR hS lw_20 q2268 dX8_collect_79 (fun H locs w_79 ew_79 hR hS => ?_)
    have h := h w_79 ew_79
    refine lv_aload_n hx hb dX8_collect_82 rfl (lv_at hl 0 rfl) ?_
    refine g27_7 hx hb hts hown hK hR lw_20 q2268 dX8_collect_83 ?_
    refine lv_if_ne (tgt := 94) hx hb dX8_collect_86 (by decide) (fun c_86 => ?_) (fun c_86 => ?_)
    · have h := h.1 c_86
      refine W.widen (k := 9) (n := 54) (Nat.le_of_ble_eq_true rfl) (Nat.le_of_ble_eq_true rfl) ?_
      exact W.vret hx hb hr (fun t ht hW9 => ⟨⟨(w_79, y_20), rfl, h, ⟨rpt ht hR, hM_y_20, hLe_y_20⟩⟩, hS.F ht⟩) hS.2.2 dX8_collect_94
    · have h := h.2 c_86
      refine lv_aload_n hx hb dX8_collect_89 rfl (lv_at hl 0 rfl) ?_
      refine lv_iconst (v := (2 : Int32)) hx hb dX8_collect_90 (by decide) ?_
      refine p27_4 hx hb hts hown hK hR hS lw_20 q2264 dX8_collect_91 (fun H locs w_91 ew_91 hR hS => ?_)
      have h := h w_91 ew_91
      refine W.widen (k := 9) (n := 54) (Nat.le_of_ble_eq_true rfl) (Nat.le_of_ble_eq_true rfl) ?_
      exact W.vret hx hb hr (fun t ht hW9 => ⟨⟨(w_91, y_20), rfl, h, ⟨rpt ht hR, hM_y_20, hLe_y_20⟩⟩, hS.F ht⟩) hS.2.2 dX8_collect_94
  · have h := h.2 c_5
    refine W.widen (k := 9) (n := 54) (Nat.le_of_ble_eq_true rfl) (Nat.le_of_ble_eq_true rfl) ?_
    exact W.vret hx hb hr (fun t ht hW9 => ⟨⟨(w, y), rfl, h, ⟨rpt ht hR, hM, hLe⟩⟩, hS.F ht⟩) hS.2.2 dX8_collect_8
abbrev rm_X8_pass : Room := { frames := 6, cells := 2751, slots := 14406, locals := 194 }
def st_X8_pass_94 (κ : Kx) (post : Int32 → Wd → Ly → Prop) (ex : Wd → Ly → Prop) (rec : Wd → Ly → Int32 → Prop) (v1 : Int32) (v2 : Int32) (v3 : Int32) (w : Wd) (y : Ly) (v4 : Int32) : Prop := ((¬ v3 = (2 : Int32)) → (ex w y )) ∧ ((v3 = (2 : Int32)) → (((nI (mL y) ≤ v4) → (ex w y )) ∧ ((¬ (nI (mL y) ≤ v4)) → ((vp_in (v4) (mL y)) ∧ (sp_X8_collect κ y (fun  w_124 y_124 => ∀ x_127 : Int32, x_127 = v4 + (1 : Int32) → rec w_124 y_124 x_127) w (((v4).toNatClampNeg)))))))
def sp_X8_pass_94 (κ : Kx) (post : Int32 → Wd → Ly → Prop) (ex : Wd → Ly → Prop) (v1 : Int32) (v2 : Int32) (v3 : Int32) : Nat → Wd → Ly → Int32 → Prop
  | 0 => fun _ _ _ => False
  | n + 1 => fun w y v4 => st_X8_pass_94 κ post ex (sp_X8_pass_94 κ post ex v1 v2 v3 n) v1 v2 v3 w y v4
set_option maxHeartbeats 4000000 in
theorem lp_X8_pass_94 {p : Program} {l : Launch} {e : Env} {s : State} {m : MethodId} {args : Array Value} {below : List Frame} {meth : Method} {c : Code} {κ : Kx} {y0 : Ly} {X : XR} {post : Int32 → Wd → Ly → Prop} {v1 : Int32} {v2 : Int32} {v3 : Int32} (hx : p.tables.exec = Jvm.exec) (hb : c.code = cX8_pass) (hr : meth.sig.returnType = (Option.some Jvm.ClassFile.FieldType.int)) (hml : c.maxLocals = 6) (hown : s.vm.findClass RX8 = some m.cls) (hts : ∀ w ∈ lw_all, w.before args s = true) (hlocks : meth.locks = false) (hK : KK κ s)   {C1 S1 : Nat} (hC : C1 ≤ 2751) (hSl : S1 ≤ 14406) {ex : Wd → Ly → Prop}
    (kx : ∀ (w : Wd) (y : Ly)  (H : Heap) (locs : List Loc) (ls : Array Slot) (cells slots : Nat) (hM : WFm κ y) (hLe : LeS y0 y) , ex w y  → Rp κ w y X [] H → va_S (Af κ) s.heap H locs → lv_has ls 6 [(0, .ref (y.2 20 0)), (1, .int (v1)), (2, .int (v2)), (3, .int (v3))] → cells ≤ C1 → slots ≤ S1 → W p l e (headSpec (ws_ yX8_pass cX8_pass 6 (Option.some Jvm.ClassFile.FieldType.int)) rm_X8_pass).room s m args below meth c H locs cells slots (MQ below (va_Qi (fun r (u : Wd × Ly) => post r u.1 u.2) (fun (u : Wd × Ly) t => Rp κ u.1 u.2 X [] t.heap ∧ WFm κ u.2 ∧ LeS y0 u.2) (Af κ)) args s 2751 14406 (Af κ)) (F0 m 133 ls [])) :
    ∀ (f : Nat) (w : Wd) (y : Ly) (v4 : Int32) (H : Heap) (locs : List Loc) (ls : Array Slot) (cells slots : Nat) (hM : WFm κ y) (hLe : LeS y0 y) (l0 : live y 20 0) , sp_X8_pass_94 κ post ex v1 v2 v3 f w y v4 → Rp κ w y X [] H → va_S (Af κ) s.heap H locs → lv_has ls 6 [(0, .ref (y.2 20 0)), (1, .int (v1)), (2, .int (v2)), (3, .int (v3)), (4, .int (v4))] → cells + f * 9 ≤ C1 → slots + f * 54 ≤ S1 → W p l e (headSpec (ws_ yX8_pass cX8_pass 6 (Option.some Jvm.ClassFile.FieldType.int)) rm_X8_pass).room s m args below meth c H locs cells slots (MQ below (va_Qi (fun r (u : Wd × Ly) => post r u.1 u.2) (fun (u : Wd × Ly) t => Rp κ u.1 u.2 X [] t.heap ∧ WFm κ u.2 ∧ LeS y0 u.2) (Af κ)) args s 2751 14406 (Af κ)) (F0 m 94 ls []) := by
  intro f
  induction f with
  | zero =>
    intro w y v4 H locs ls cells slots hM hLe l0 h
    exact False.elim h
  | succ f ih =>
    intro w y v4 H locs ls cells slots hM hLe l0 h hR hS hl hc hs
    have h : st_X8_pass_94 κ post ex (sp_X8_pass_94 κ post ex v1 v2 v3 f) v1 v2 v3 w y v4 := h
    unfold st_X8_pass_94 at h
    refine lv_iload_n hx hb dX8_pass_94 rfl (lv_at hl 3 rfl) ?_
    refine lv_iconst (v := (2 : Int32)) hx hb dX8_pass_95 (by decide) ?_
    refine lv_icmp_ne (tgt := 133) hx hb dX8_pass_96 (by decide) (fun c_96 => ?_) (fun c_96 => ?_)
    · have h := h.1 c_96
      exact kx w y  _ _ _ _ _ hM hLe h hR hS (lv_sub hl [0, 1, 2, 3] rfl) (by omega) (by omega)
    · have h := h.2 c_96
      refine lv_iload hx hb dX8_pass_99 (lv_at hl 4 rfl) ?_
      refine lv_aload_n hx hb dX8_pass_101 rfl (lv_at hl 0 rfl) ?_
      refine g20_5 hx hb hts hown hK hR l0 q1950 dX8_pass_102 ?_
      refine jr_size ⟨hx, hb, hml, hown, hts⟩ hK hR ⟨fun _ _ _ _ _ => rfl, fun _ _ _ _ _ => rfl⟩ hM.lsL q2031 ⟨Nat.le_of_ble_eq_true rfl, Nat.le_of_ble_eq_true rfl⟩ hl.1 (Nat.le_of_ble_eq_true rfl) dX8_pass_105 ⟨(Nat.le_trans (show cells + 0 ≤ C1 from by omega) hC), (Nat.le_trans (show slots + 0 ≤ S1 from by omega) hSl)⟩ ?_
      refine lv_icmp_ge (tgt := 133) hx hb dX8_pass_108 (by decide) (fun c_108 => ?_) (fun c_108 => ?_)
      · have h := h.1 c_108
        exact kx w y  _ _ _ _ _ hM hLe h hR hS (lv_sub hl [0, 1, 2, 3] rfl) (by omega) (by omega)
      · have h := h.2 c_108
        refine lv_aload_n hx hb dX8_pass_111 rfl (lv_at hl 0 rfl) ?_
        refine lv_aload_n hx hb dX8_pass_112 rfl (lv_at hl 0 rfl) ?_
        refine g20_5 hx hb hts hown hK hR l0 q1950 dX8_pass_113 ?_
        refine lv_iload hx hb dX8_pass_116 (lv_at hl 4 rfl) ?_
        have o_118 := h.1
        have h := h.2
        refine jr_get (a := y.2 27 ((v4).toNatClampNeg)) ⟨hx, hb, hml, hown, hts⟩ hK hR ⟨fun _ _ _ _ _ => rfl, fun _ _ _ _ _ => rfl⟩ hM.lsL ⟨hM.arL (Nat.lt_of_le_of_lt (Nat.zero_le _) (vp_lt o_118)), (Nat.le_trans hM.mL8 (by decide))⟩ o_118 (hM.elL (vp_lt o_118)) q2101 ⟨Nat.le_of_ble_eq_true rfl, Nat.le_of_ble_eq_true rfl⟩ hl.1 (Nat.le_of_ble_eq_true rfl) dX8_pass_118 ⟨(Nat.le_trans (show cells + 0 ≤ C1 from by omega) hC), (Nat.le_trans (show slots + 0 ≤ S1 from by omega) hSl)⟩ ?_
        refine jr_castS (ci := 14) hx hb hown hK hts (hR.role (hM.lot (vp_lt o_118))) rfl q2253 dX8_pass_121 ?_
        have lv_124 := l0
        have lv_124_a := (hM.lot (vp_lt o_118))
        refine cey_qv (fw := fun u : Wd × Ly => u.1) (fy := fun u : Wd × Ly => u.2) (P := fun u : Wd × Ly => WFm κ u.2 ∧ LeS y u.2) (cr_V (n := 1) (As := [.ref (y.2 27 ((v4).toNatClampNeg))]) (rest := []) ⟨hx, hb, hml, hown, hts⟩ hK hR (m_X8_collect hM l0 (hM.lot (vp_lt o_118)) h) q2412 q2414 qs54 q85 q2415 rfl rfl hd_X8_collect ⟨Nat.le_of_ble_eq_true rfl, Nat.le_of_ble_eq_true rfl⟩ (rv hK hR l0 (ci := 11) rfl rfl) rfl rfl hl.1 rfl (lv_room (Nat.le_of_ble_eq_true rfl)) dX8_pass_124 ⟨(Nat.le_trans (show cells + 9 ≤ C1 from by omega) hC), (Nat.le_trans (show slots + 54 ≤ S1 from by omega) hSl)⟩) hR hS (fun  u9 H locs h p9 hR _ hS => ?_)
        obtain ⟨w_124, y_124⟩ := u9
        obtain ⟨hM_y_124, hL1_y_124⟩ := p9
        dsimp only at h hR hM_y_124 hL1_y_124
        have lw_124 := hL1_y_124.live (k := 20) rfl lv_124
        have hl : lv_has ls 6 [(0, .ref (y_124.2 20 0)), (1, .int (v1)), (2, .int (v2)), (3, .int (v3)), (4, .int (v4))] := by
          rw [hL1_y_124.2 20 rfl]
          exact hl
        have hLe_y_124 : LeS _ y_124 := (hLe.trans hL1_y_124)
        obtain ⟨x_127, ex_127⟩ : ∃ z : Int32, z = v4 + (1 : Int32) := ⟨_, rfl⟩
        have h := h x_127 ex_127
        refine lv_iinc (v := x_127) (lv' := [(4, .int (x_127)), (0, .ref (y_124.2 20 0)), (1, .int (v1)), (2, .int (v2)), (3, .int (v3))]) hx hb dX8_pass_127 hl (k := 4) rfl (by rw [ex_127]; rfl) (by decide) rfl (fun ls hl => ?_)
        refine lv_goto (tgt := 94) hx hb dX8_pass_130 (by decide) ?_
        exact ih w_124 y_124 x_127 _ _ _ _ _ hM_y_124 hLe_y_124 lw_124  h hR hS (lv_sub hl [1, 2, 3, 4, 0] rfl) (by omega) (by omega)
def st_X8_pass_136 (κ : Kx) (post : Int32 → Wd → Ly → Prop) (ex : Wd → Ly → Prop) (rec : Wd → Ly → Int32 → Prop) (v1 : Int32) (v2 : Int32) (v3 : Int32) (w : Wd) (y : Ly) (v4 : Int32) : Prop := ((¬ v3 = (2 : Int32)) → (ex w y )) ∧ ((v3 = (2 : Int32)) → ((((3 : Int32) ≤ v4) → (ex w y )) ∧ ((¬ ((3 : Int32) ≤ v4)) → ((vp_in (v4) 3) ∧ (∀ j163 : Wd → Ly → Prop, (j163 = fun (w163 : Wd) (yj163 : Ly) => ∀ x_163 : Int32, x_163 = v4 + (1 : Int32) → rec w163 yj163 x_163) → (((gv w 34 0 (v4).toNatClampNeg = 0) → (j163 w y )) ∧ ((¬ (gv w 34 0 (v4).toNatClampNeg = 0)) → (sp_X8_clerk κ y (fun w_160 => j163 w_160 y ) w v4))))))))
def sp_X8_pass_136 (κ : Kx) (post : Int32 → Wd → Ly → Prop) (ex : Wd → Ly → Prop) (v1 : Int32) (v2 : Int32) (v3 : Int32) : Nat → Wd → Ly → Int32 → Prop
  | 0 => fun _ _ _ => False
  | n + 1 => fun w y v4 => st_X8_pass_136 κ post ex (sp_X8_pass_136 κ post ex v1 v2 v3 n) v1 v2 v3 w y v4
set_option maxHeartbeats 4000000 in
theorem lp_X8_pass_136 {p : Program} {l : Launch} {e : Env} {s : State} {m : MethodId} {args : Array Value} {below : List Frame} {meth : Method} {c : Code} {κ : Kx} {y0 : Ly} {X : XR} {post : Int32 → Wd → Ly → Prop} {v1 : Int32} {v2 : Int32} {v3 : Int32} (hx : p.tables.exec = Jvm.exec) (hb : c.code = cX8_pass) (hr : meth.sig.returnType = (Option.some Jvm.ClassFile.FieldType.int)) (hml : c.maxLocals = 6) (hown : s.vm.findClass RX8 = some m.cls) (hts : ∀ w ∈ lw_all, w.before args s = true) (hlocks : meth.locks = false) (hK : KK κ s)   {C1 S1 : Nat} (hC : C1 ≤ 2751) (hSl : S1 ≤ 14406) {ex : Wd → Ly → Prop}
    (kx : ∀ (w : Wd) (y : Ly)  (H : Heap) (locs : List Loc) (ls : Array Slot) (cells slots : Nat) (hM : WFm κ y) (hLe : LeS y0 y) , ex w y  → Rp κ w y X [] H → va_S (Af κ) s.heap H locs → lv_has ls 6 [(0, .ref (y.2 20 0)), (1, .int (v1)), (2, .int (v2)), (3, .int (v3))] → cells ≤ C1 → slots ≤ S1 → W p l e (headSpec (ws_ yX8_pass cX8_pass 6 (Option.some Jvm.ClassFile.FieldType.int)) rm_X8_pass).room s m args below meth c H locs cells slots (MQ below (va_Qi (fun r (u : Wd × Ly) => post r u.1 u.2) (fun (u : Wd × Ly) t => Rp κ u.1 u.2 X [] t.heap ∧ WFm κ u.2 ∧ LeS y0 u.2) (Af κ)) args s 2751 14406 (Af κ)) (F0 m 169 ls [])) :
    ∀ (f : Nat) (w : Wd) (y : Ly) (v4 : Int32) (H : Heap) (locs : List Loc) (ls : Array Slot) (cells slots : Nat) (hM : WFm κ y) (hLe : LeS y0 y) (l0 : live y 20 0) , sp_X8_pass_136 κ post ex v1 v2 v3 f w y v4 → Rp κ w y X [] H → va_S (Af κ) s.heap H locs → lv_has ls 6 [(0, .ref (y.2 20 0)), (1, .int (v1)), (2, .int (v2)), (3, .int (v3)), (4, .int (v4))] → cells + f * 9 ≤ C1 → slots + f * 36 ≤ S1 → W p l e (headSpec (ws_ yX8_pass cX8_pass 6 (Option.some Jvm.ClassFile.FieldType.int)) rm_X8_pass).room s m args below meth c H locs cells slots (MQ below (va_Qi (fun r (u : Wd × Ly) => post r u.1 u.2) (fun (u : Wd × Ly) t => Rp κ u.1 u.2 X [] t.heap ∧ WFm κ u.2 ∧ LeS y0 u.2) (Af κ)) args s 2751 14406 (Af κ)) (F0 m 136 ls []) := by
  intro f
  induction f with
  | zero =>
    intro w y v4 H locs ls cells slots hM hLe l0 h
    exact False.elim h
  | succ f ih =>
    intro w y v4 H locs ls cells slots hM hLe l0 h hR hS hl hc hs
    have h : st_X8_pass_136 κ post ex (sp_X8_pass_136 κ post ex v1 v2 v3 f) v1 v2 v3 w y v4 := h
    unfold st_X8_pass_136 at h
    refine lv_iload_n hx hb dX8_pass_136 rfl (lv_at hl 3 rfl) ?_
    refine lv_iconst (v := (2 : Int32)) hx hb dX8_pass_137 (by decide) ?_
    refine lv_icmp_ne (tgt := 169) hx hb dX8_pass_138 (by decide) (fun c_138 => ?_) (fun c_138 => ?_)
    · have h := h.1 c_138
      exact kx w y  _ _ _ _ _ hM hLe h hR hS (lv_sub hl [0, 1, 2, 3] rfl) (by omega) (by omega)
    · have h := h.2 c_138
      refine lv_iload hx hb dX8_pass_141 (lv_at hl 4 rfl) ?_
      refine lv_iconst (v := (3 : Int32)) hx hb dX8_pass_143 (by decide) ?_
      refine lv_icmp_ge (tgt := 169) hx hb dX8_pass_144 (by decide) (fun c_144 => ?_) (fun c_144 => ?_)
      · have h := h.1 c_144
        exact kx w y  _ _ _ _ _ hM hLe h hR hS (lv_sub hl [0, 1, 2, 3] rfl) (by omega) (by omega)
      · have h := h.2 c_144
        refine lv_aload_n hx hb dX8_pass_147 rfl (lv_at hl 0 rfl) ?_
        refine g20_10 hx hb hts hown hK hR l0 q1955 dX8_pass_148 ?_
        refine lv_iload hx hb dX8_pass_151 (lv_at hl 4 rfl) ?_
        have o_153 := h.1
        have h := h.2
        refine a34 hx hb hK hR hM.r34 o_153 dX8_pass_153 ?_
        refine jn_elim h (fun j163 ej163 h => ?_)
        have Jj163 : ∀ (w163 : Wd) (yj163 : Ly) (hM_yj163 : WFm κ yj163) (hL1_yj163 : LeS y yj163) (H : Heap) (locs : List Loc) (ls : Array Slot), j163 w163 yj163  → Rp κ w163 yj163 X [] H → va_S (Af κ) s.heap H locs → lv_has ls 6 [(0, .ref (yj163.2 20 0)), (1, .int (v1)), (2, .int (v2)), (3, .int (v3)), (4, .int (v4))] → W p l e (headSpec (ws_ yX8_pass cX8_pass 6 (Option.some Jvm.ClassFile.FieldType.int)) rm_X8_pass).room s m args below meth c H locs (cells + 9) (slots + 36) (MQ below (va_Qi (fun r (u : Wd × Ly) => post r u.1 u.2) (fun (u : Wd × Ly) t => Rp κ u.1 u.2 X [] t.heap ∧ WFm κ u.2 ∧ LeS y0 u.2) (Af κ)) args s 2751 14406 (Af κ)) (F0 m 163 ls []) := by
          clear h
          intro w163 yj163  hM_yj163 hL1_yj163 H locs ls h hR hS hl
          subst ej163
          have lv_163 := l0
          have hLe_yj163 := hLe.trans hL1_yj163
          have lw_163 := hL1_yj163.live (k := 20) rfl lv_163
          obtain ⟨x_163, ex_163⟩ : ∃ z : Int32, z = v4 + (1 : Int32) := ⟨_, rfl⟩
          have h := h x_163 ex_163
          refine lv_iinc (v := x_163) (lv' := [(4, .int (x_163)), (0, .ref (yj163.2 20 0)), (1, .int (v1)), (2, .int (v2)), (3, .int (v3))]) hx hb dX8_pass_163 hl (k := 4) rfl (by rw [ex_163]; rfl) (by decide) rfl (fun ls hl => ?_)
          refine lv_goto (tgt := 136) hx hb dX8_pass_166 (by decide) ?_
          exact ih w163 yj163 x_163 _ _ _ _ _ hM_yj163 hLe_yj163 lw_163  h hR hS (lv_sub hl [1, 2, 3, 4, 0] rfl) (by omega) (by omega)
        refine lv_if_eq (tgt := 163) hx hb dX8_pass_154 (by decide) (fun c_154 => ?_) (fun c_154 => ?_)
        · have h := h.1 c_154
          refine W.widen (k := cells + 9) (n := slots + 36) (by omega) (by omega) ?_
          exact Jj163 w y  hM (hLe.symm.trans hLe) _ _ _ h hR hS (lv_sub hl [0, 1, 2, 3, 4] rfl)
        · have h := h.2 c_154
          refine lv_aload_n hx hb dX8_pass_157 rfl (lv_at hl 0 rfl) ?_
          refine lv_iload hx hb dX8_pass_158 (lv_at hl 4 rfl) ?_
          refine ce_qv (fw := fun u => u) (fy := fun _ => y) (cr_V (n := 1) (As := [.int (v4)]) (rest := []) ⟨hx, hb, hml, hown, hts⟩ hK hR (m_X8_clerk hM l0 h) q2482 q2484 qs57 q85 q2485 rfl rfl hd_X8_clerk ⟨Nat.le_of_ble_eq_true rfl, Nat.le_of_ble_eq_true rfl⟩ (rv hK hR l0 (ci := 11) rfl rfl) rfl rfl hl.1 rfl (lv_room (Nat.le_of_ble_eq_true rfl)) dX8_pass_160 ⟨(Nat.le_trans (show cells + 9 ≤ C1 from by omega) hC), (Nat.le_trans (show slots + 36 ≤ S1 from by omega) hSl)⟩) hR hS (fun w_160 H locs h hR _ hS => ?_)
          refine W.widen (k := cells + 9) (n := slots + 36) (by omega) (by omega) ?_
          exact Jj163 w_160 y  hM (hLe.symm.trans hLe) _ _ _ h hR hS (lv_sub hl [0, 1, 2, 3, 4] rfl)
def st_X8_pass_178 (κ : Kx) (post : Int32 → Wd → Ly → Prop) (ex : Wd → Ly → Prop) (rec : Wd → Ly → Nat → Int32 → Prop) (v1 : Int32) (v2 : Int32) (v3 : Int32) (w : Wd) (y : Ly) (c4 : Nat) (z4 : Int32) : Prop := ((¬ (¬ c4 = mV y)) → (ex w y )) ∧ (((¬ c4 = mV y)) → (sp_X8_live κ y (fun w_203 => rec w_203 y (c4 + 1) (nI c4)) w c4))
def sp_X8_pass_178 (κ : Kx) (post : Int32 → Wd → Ly → Prop) (ex : Wd → Ly → Prop) (v1 : Int32) (v2 : Int32) (v3 : Int32) : Nat → Wd → Ly → Nat → Int32 → Prop
  | 0 => fun _ _ _ _ => False
  | n + 1 => fun w y c4 z4 => st_X8_pass_178 κ post ex (sp_X8_pass_178 κ post ex v1 v2 v3 n) v1 v2 v3 w y c4 z4
set_option maxHeartbeats 4000000 in
theorem lp_X8_pass_178 {p : Program} {l : Launch} {e : Env} {s : State} {m : MethodId} {args : Array Value} {below : List Frame} {meth : Method} {c : Code} {κ : Kx} {y0 : Ly} {X : XR} {post : Int32 → Wd → Ly → Prop} {q4 : Nat} {v1 : Int32} {v2 : Int32} {v3 : Int32} (hx : p.tables.exec = Jvm.exec) (hb : c.code = cX8_pass) (hr : meth.sig.returnType = (Option.some Jvm.ClassFile.FieldType.int)) (hml : c.maxLocals = 6) (hown : s.vm.findClass RX8 = some m.cls) (hts : ∀ w ∈ lw_all, w.before args s = true) (hlocks : meth.locks = false) (hK : KK κ s)   {C1 S1 : Nat} (hC : C1 ≤ 2751) (hSl : S1 ≤ 14406) {ex : Wd → Ly → Prop}
    (kx : ∀ (w : Wd) (y : Ly)  (H : Heap) (locs : List Loc) (ls : Array Slot) (cells slots : Nat) (hM : WFm κ y) (hLe : LeS y0 y) , ex w y  → Rp κ w y X [] H → va_S (Af κ) s.heap H locs → lv_has ls 6 [(0, .ref (y.2 20 0)), (1, .int (v1)), (2, .int (v2)), (3, .int (v3))] → cells ≤ C1 → slots ≤ S1 → W p l e (headSpec (ws_ yX8_pass cX8_pass 6 (Option.some Jvm.ClassFile.FieldType.int)) rm_X8_pass).room s m args below meth c H locs cells slots (MQ below (va_Qi (fun r (u : Wd × Ly) => post r u.1 u.2) (fun (u : Wd × Ly) t => Rp κ u.1 u.2 X [] t.heap ∧ WFm κ u.2 ∧ LeS y0 u.2) (Af κ)) args s 2751 14406 (Af κ)) (F0 m 209 ls [])) :
    ∀ (f : Nat) (w : Wd) (y : Ly) (c4 : Nat) (z4 : Int32) (H : Heap) (locs : List Loc) (ls : Array Slot) (cells slots : Nat) (hM : WFm κ y) (hLe : LeS y0 y) (l0 : live y 20 0) (hc4 : c4 ≤ mV y), sp_X8_pass_178 κ post ex v1 v2 v3 f w y c4 z4 → Rp κ w y X [(q4, itC y 50 0 c4 z4)] H → va_S (Af κ) s.heap H locs → lv_has ls 6 [(0, .ref (y.2 20 0)), (1, .int (v1)), (2, .int (v2)), (3, .int (v3)), (4, .ref (q4))] → cells + f * 0 ≤ C1 → slots + f * 0 ≤ S1 → W p l e (headSpec (ws_ yX8_pass cX8_pass 6 (Option.some Jvm.ClassFile.FieldType.int)) rm_X8_pass).room s m args below meth c H locs cells slots (MQ below (va_Qi (fun r (u : Wd × Ly) => post r u.1 u.2) (fun (u : Wd × Ly) t => Rp κ u.1 u.2 X [] t.heap ∧ WFm κ u.2 ∧ LeS y0 u.2) (Af κ)) args s 2751 14406 (Af κ)) (F0 m 178 ls []) := by
  intro f
  induction f with
  | zero =>
    intro w y c4 z4 H locs ls cells slots hM hLe l0 hc4 h
    exact False.elim h
  | succ f ih =>
    intro w y c4 z4 H locs ls cells slots hM hLe l0 hc4 h hR hS hl hc hs
    have h : st_X8_pass_178 κ post ex (sp_X8_pass_178 κ post ex v1 v2 v3 f) v1 v2 v3 w y c4 z4 := h
    unfold st_X8_pass_178 at h
    refine lv_aload hx hb dX8_pass_178 (lv_at hl 4 rfl) ?_
    refine jr_hasNext (t := 0) ⟨hx, hb, hml, hown, hts⟩ hK hR rfl ⟨fun _ _ _ _ _ => rfl, fun _ _ _ _ _ => rfl⟩ hM.lsV (by omega) (Nat.le_trans hM.mV8 (by decide)) q2250 ⟨Nat.le_of_ble_eq_true rfl, Nat.le_of_ble_eq_true rfl⟩ hl.1 (Nat.le_of_ble_eq_true rfl) dX8_pass_180 ⟨(Nat.le_trans (show cells + 0 ≤ C1 from by omega) hC), (Nat.le_trans (show slots + 0 ≤ S1 from by omega) hSl)⟩ ?_
    refine lv_if_eq (tgt := 209) hx hb dX8_pass_185 (by decide) (fun c_185 => ?_) (fun c_185 => ?_)
    · replace c_185 : ¬ (¬ c4 = mV y) := bi_0.mp c_185
      have h := h.1 c_185
      have hR := hR.sub (L' := []) [] rfl rfl
      exact kx w y  _ _ _ _ _ hM hLe h hR hS (lv_sub hl [0, 1, 2, 3] rfl) (by omega) (by omega)
    · replace c_185 : (¬ c4 = mV y) := bi_n0.mp c_185
      have h := h.2 c_185
      refine lv_aload hx hb dX8_pass_188 (lv_at hl 4 rfl) ?_
      have hn_190 : c4 < mV y := by omega
      refine jr_next (t := 0) (a := y.2 21 c4) ⟨hx, hb, hml, hown, hts⟩ hK hR hS rfl ⟨fun _ _ _ _ _ => rfl, fun _ _ _ _ _ => rfl⟩ hM.lsV ⟨hM.arV (Nat.lt_of_le_of_lt (Nat.zero_le _) hn_190), (Nat.le_trans hM.mV8 (by decide))⟩ hn_190 (hM.elV hn_190) q2252 ⟨Nat.le_of_ble_eq_true rfl, Nat.le_of_ble_eq_true rfl⟩ hl.1 (Nat.le_of_ble_eq_true rfl) dX8_pass_190 ⟨(Nat.le_trans (show cells + 0 ≤ C1 from by omega) hC), (Nat.le_trans (show slots + 0 ≤ S1 from by omega) hSl)⟩ (fun H locs hR hS => ?_)
      have hR : Rp κ w y X [(q4, itC y 50 0 (c4 + 1) (nI c4))] H := hR
      refine jr_castS (ci := 12) hx hb hown hK hts (hR.role (hM.vil hn_190)) rfl q2032 dX8_pass_195 ?_
      refine lv_astore (lv' := [(5, .ref (y.2 21 c4)), (0, .ref (y.2 20 0)), (1, .int (v1)), (2, .int (v2)), (3, .int (v3)), (4, .ref (q4))]) hx hb dX8_pass_198 hl (by decide) rfl (fun ls hl => ?_)
      refine lv_aload_n hx hb dX8_pass_200 rfl (lv_at hl 1 rfl) ?_
      refine lv_aload hx hb dX8_pass_201 (lv_at hl 0 rfl) ?_
      refine ce_qv (fw := fun u => u) (fy := fun _ => y) (cr_V (n := 1) (As := [.ref (y.2 21 c4)]) (rest := []) ⟨hx, hb, hml, hown, hts⟩ hK hR (m_X8_live hM l0 (hM.vil hn_190) h) q2494 q2496 qs60 q85 q2497 rfl rfl hd_X8_live ⟨Nat.le_of_ble_eq_true rfl, Nat.le_of_ble_eq_true rfl⟩ (rv hK hR l0 (ci := 11) rfl rfl) rfl rfl hl.1 rfl (lv_room (Nat.le_of_ble_eq_true rfl)) dX8_pass_203 ⟨(Nat.le_trans (show cells + 0 ≤ C1 from by omega) hC), (Nat.le_trans (show slots + 0 ≤ S1 from by omega) hSl)⟩) hR hS (fun w_203 H locs h hR _ hS => ?_)
      refine lv_goto (tgt := 178) hx hb dX8_pass_206 (by decide) ?_
      exact ih w_203 y (c4 + 1) (nI c4) _ _ _ _ _ hM hLe l0 (by omega) h hR hS (lv_sub hl [1, 2, 3, 4, 5] rfl) (by omega) (by omega)
def st_X8_pass_218 (κ : Kx) (post : Int32 → Wd → Ly → Prop) (ex : Wd → Ly → Prop) (rec : Wd → Ly → Nat → Int32 → Prop) (v1 : Int32) (v2 : Int32) (v3 : Int32) (w : Wd) (y : Ly) (c4 : Nat) (z4 : Int32) : Prop := ((¬ (¬ c4 = mV y)) → (ex w y )) ∧ (((¬ c4 = mV y)) → (∀ j251 : Wd → Ly → Prop, (j251 = fun (w251 : Wd) (yj251 : Ly) => rec w251 yj251 (c4 + 1) (nI c4)) → (((¬ v3 = (3 : Int32)) → (j251 w y )) ∧ ((v3 = (3 : Int32)) → (sp_X8_sell κ y (fun w_248 => j251 w_248 y ) w c4)))))
def sp_X8_pass_218 (κ : Kx) (post : Int32 → Wd → Ly → Prop) (ex : Wd → Ly → Prop) (v1 : Int32) (v2 : Int32) (v3 : Int32) : Nat → Wd → Ly → Nat → Int32 → Prop
  | 0 => fun _ _ _ _ => False
  | n + 1 => fun w y c4 z4 => st_X8_pass_218 κ post ex (sp_X8_pass_218 κ post ex v1 v2 v3 n) v1 v2 v3 w y c4 z4
set_option maxHeartbeats 4000000 in
theorem lp_X8_pass_218 {p : Program} {l : Launch} {e : Env} {s : State} {m : MethodId} {args : Array Value} {below : List Frame} {meth : Method} {c : Code} {κ : Kx} {y0 : Ly} {X : XR} {post : Int32 → Wd → Ly → Prop} {q4 : Nat} {v1 : Int32} {v2 : Int32} {v3 : Int32} (hx : p.tables.exec = Jvm.exec) (hb : c.code = cX8_pass) (hr : meth.sig.returnType = (Option.some Jvm.ClassFile.FieldType.int)) (hml : c.maxLocals = 6) (hown : s.vm.findClass RX8 = some m.cls) (hts : ∀ w ∈ lw_all, w.before args s = true) (hlocks : meth.locks = false) (hK : KK κ s)   {C1 S1 : Nat} (hC : C1 ≤ 2751) (hSl : S1 ≤ 14406) {ex : Wd → Ly → Prop}
    (kx : ∀ (w : Wd) (y : Ly)  (H : Heap) (locs : List Loc) (ls : Array Slot) (cells slots : Nat) (hM : WFm κ y) (hLe : LeS y0 y) , ex w y  → Rp κ w y X [] H → va_S (Af κ) s.heap H locs → lv_has ls 6 [(0, .ref (y.2 20 0)), (1, .int (v1)), (2, .int (v2))] → cells ≤ C1 → slots ≤ S1 → W p l e (headSpec (ws_ yX8_pass cX8_pass 6 (Option.some Jvm.ClassFile.FieldType.int)) rm_X8_pass).room s m args below meth c H locs cells slots (MQ below (va_Qi (fun r (u : Wd × Ly) => post r u.1 u.2) (fun (u : Wd × Ly) t => Rp κ u.1 u.2 X [] t.heap ∧ WFm κ u.2 ∧ LeS y0 u.2) (Af κ)) args s 2751 14406 (Af κ)) (F0 m 254 ls [])) :
    ∀ (f : Nat) (w : Wd) (y : Ly) (c4 : Nat) (z4 : Int32) (H : Heap) (locs : List Loc) (ls : Array Slot) (cells slots : Nat) (hM : WFm κ y) (hLe : LeS y0 y) (l0 : live y 20 0) (hc4 : c4 ≤ mV y), sp_X8_pass_218 κ post ex v1 v2 v3 f w y c4 z4 → Rp κ w y X [(q4, itC y 50 0 c4 z4)] H → va_S (Af κ) s.heap H locs → lv_has ls 6 [(0, .ref (y.2 20 0)), (1, .int (v1)), (2, .int (v2)), (3, .int (v3)), (4, .ref (q4))] → cells + f * 0 ≤ C1 → slots + f * 0 ≤ S1 → W p l e (headSpec (ws_ yX8_pass cX8_pass 6 (Option.some Jvm.ClassFile.FieldType.int)) rm_X8_pass).room s m args below meth c H locs cells slots (MQ below (va_Qi (fun r (u : Wd × Ly) => post r u.1 u.2) (fun (u : Wd × Ly) t => Rp κ u.1 u.2 X [] t.heap ∧ WFm κ u.2 ∧ LeS y0 u.2) (Af κ)) args s 2751 14406 (Af κ)) (F0 m 218 ls []) := by
  intro f
  induction f with
  | zero =>
    intro w y c4 z4 H locs ls cells slots hM hLe l0 hc4 h
    exact False.elim h
  | succ f ih =>
    intro w y c4 z4 H locs ls cells slots hM hLe l0 hc4 h hR hS hl hc hs
    have h : st_X8_pass_218 κ post ex (sp_X8_pass_218 κ post ex v1 v2 v3 f) v1 v2 v3 w y c4 z4 := h
    unfold st_X8_pass_218 at h
    refine lv_aload hx hb dX8_pass_218 (lv_at hl 4 rfl) ?_
    refine jr_hasNext (t := 0) ⟨hx, hb, hml, hown, hts⟩ hK hR rfl ⟨fun _ _ _ _ _ => rfl, fun _ _ _ _ _ => rfl⟩ hM.lsV (by omega) (Nat.le_trans hM.mV8 (by decide)) q2250 ⟨Nat.le_of_ble_eq_true rfl, Nat.le_of_ble_eq_true rfl⟩ hl.1 (Nat.le_of_ble_eq_true rfl) dX8_pass_220 ⟨(Nat.le_trans (show cells + 0 ≤ C1 from by omega) hC), (Nat.le_trans (show slots + 0 ≤ S1 from by omega) hSl)⟩ ?_
    refine lv_if_eq (tgt := 254) hx hb dX8_pass_225 (by decide) (fun c_225 => ?_) (fun c_225 => ?_)
    · replace c_225 : ¬ (¬ c4 = mV y) := bi_0.mp c_225
      have h := h.1 c_225
      have hR := hR.sub (L' := []) [] rfl rfl
      exact kx w y  _ _ _ _ _ hM hLe h hR hS (lv_sub hl [0, 1, 2] rfl) (by omega) (by omega)
    · replace c_225 : (¬ c4 = mV y) := bi_n0.mp c_225
      have h := h.2 c_225
      refine lv_aload hx hb dX8_pass_228 (lv_at hl 4 rfl) ?_
      have hn_230 : c4 < mV y := by omega
      refine jr_next (t := 0) (a := y.2 21 c4) ⟨hx, hb, hml, hown, hts⟩ hK hR hS rfl ⟨fun _ _ _ _ _ => rfl, fun _ _ _ _ _ => rfl⟩ hM.lsV ⟨hM.arV (Nat.lt_of_le_of_lt (Nat.zero_le _) hn_230), (Nat.le_trans hM.mV8 (by decide))⟩ hn_230 (hM.elV hn_230) q2252 ⟨Nat.le_of_ble_eq_true rfl, Nat.le_of_ble_eq_true rfl⟩ hl.1 (Nat.le_of_ble_eq_true rfl) dX8_pass_230 ⟨(Nat.le_trans (show cells + 0 ≤ C1 from by omega) hC), (Nat.le_trans (show slots + 0 ≤ S1 from by omega) hSl)⟩ (fun H locs hR hS => ?_)
      have hR : Rp κ w y X [(q4, itC y 50 0 (c4 + 1) (nI c4))] H := hR
      refine jr_castS (ci := 12) hx hb hown hK hts (hR.role (hM.vil hn_230)) rfl q2032 dX8_pass_235 ?_
      refine lv_astore (lv' := [(5, .ref (y.2 21 c4)), (0, .ref (y.2 20 0)), (1, .int (v1)), (2, .int (v2)), (3, .int (v3)), (4, .ref (q4))]) hx hb dX8_pass_238 hl (by decide) rfl (fun ls hl => ?_)
      refine lv_iload_n hx hb dX8_pass_240 rfl (lv_at hl 4 rfl) ?_
      refine lv_iconst (v := (3 : Int32)) hx hb dX8_pass_241 (by decide) ?_
      refine jn_elim h (fun j251 ej251 h => ?_)
      have Jj251 : ∀ (w251 : Wd) (yj251 : Ly) (hM_yj251 : WFm κ yj251) (hL1_yj251 : LeS y yj251) (H : Heap) (locs : List Loc) (ls : Array Slot), j251 w251 yj251  → Rp κ w251 yj251 X [(q4, itC yj251 50 0 (c4 + 1) (nI c4))] H → va_S (Af κ) s.heap H locs → lv_has ls 6 [(0, .ref (yj251.2 20 0)), (1, .int (v1)), (2, .int (v2)), (3, .int (v3)), (4, .ref (q4))] → W p l e (headSpec (ws_ yX8_pass cX8_pass 6 (Option.some Jvm.ClassFile.FieldType.int)) rm_X8_pass).room s m args below meth c H locs (cells + 0) (slots + 0) (MQ below (va_Qi (fun r (u : Wd × Ly) => post r u.1 u.2) (fun (u : Wd × Ly) t => Rp κ u.1 u.2 X [] t.heap ∧ WFm κ u.2 ∧ LeS y0 u.2) (Af κ)) args s 2751 14406 (Af κ)) (F0 m 251 ls []) := by
        clear h
        intro w251 yj251  hM_yj251 hL1_yj251 H locs ls h hR hS hl
        subst ej251
        have lv_251 := l0
        have lv_251_a := hM.lsV
        have hLe_yj251 := hLe.trans hL1_yj251
        have lw_251 := hL1_yj251.live (k := 20) rfl lv_251
        have lw_251_a := hL1_yj251.live (k := 50) rfl lv_251_a
        have hz_z_251 : mV yj251 = mV y := congrFun (hL1_yj251.1 150 rfl) 0
        refine lv_goto (tgt := 218) hx hb dX8_pass_251 (by decide) ?_
        exact ih w251 yj251 (c4 + 1) (nI c4) _ _ _ _ _ hM_yj251 hLe_yj251 lw_251 (by omega) h hR hS (lv_sub hl [0, 1, 2, 3, 4] rfl) (by omega) (by omega)
      refine lv_icmp_ne (tgt := 251) hx hb dX8_pass_242 (by decide) (fun c_242 => ?_) (fun c_242 => ?_)
      · have h := h.1 c_242
        refine W.widen (k := cells + 0) (n := slots + 0) (by omega) (by omega) ?_
        exact Jj251 w y  hM (hLe.symm.trans hLe) _ _ _ h hR hS (lv_sub hl [1, 2, 3, 4, 5] rfl)
      · have h := h.2 c_242
        refine lv_aload_n hx hb dX8_pass_245 rfl (lv_at hl 1 rfl) ?_
        refine lv_aload hx hb dX8_pass_246 (lv_at hl 0 rfl) ?_
        refine ce_qv (fw := fun u => u) (fy := fun _ => y) (cr_V (n := 1) (As := [.ref (y.2 21 c4)]) (rest := []) ⟨hx, hb, hml, hown, hts⟩ hK hR (m_X8_sell hM l0 (hM.vil hn_230) h) q2498 q2500 qs61 q85 q2501 rfl rfl hd_X8_sell ⟨Nat.le_of_ble_eq_true rfl, Nat.le_of_ble_eq_true rfl⟩ (rv hK hR l0 (ci := 11) rfl rfl) rfl rfl hl.1 rfl (lv_room (Nat.le_of_ble_eq_true rfl)) dX8_pass_248 ⟨(Nat.le_trans (show cells + 0 ≤ C1 from by omega) hC), (Nat.le_trans (show slots + 0 ≤ S1 from by omega) hSl)⟩) hR hS (fun w_248 H locs h hR _ hS => ?_)
        refine W.widen (k := cells + 0) (n := slots + 0) (by omega) (by omega) ?_
        exact Jj251 w_248 y  hM (hLe.symm.trans hLe) _ _ _ h hR hS (lv_sub hl [1, 2, 3, 4, 5] rfl)
def st_X8_pass_52 (κ : Kx) (post : Int32 → Wd → Ly → Prop) (ex : Wd → Ly → Prop) (rec : Wd → Ly → Int32 → Prop) (v1 : Int32) (w : Wd) (y : Ly) (v2 : Int32) : Prop := ((v1 ≤ v2) → (ex w y )) ∧ ((¬ (v1 ≤ v2)) → (∀ w_64 : Wd, w_64 = sv w 20 0 1 ((gv w 20 0 1) + (1 : Int32)) → ∀ x_73 : Int32, x_73 = (gv w_64 20 0 1) - (gv w_64 20 0 1) / (4 : Int32) * (4 : Int32) → ∀ j82 : Wd → Ly → Prop, (j82 = fun (w82 : Wd) (yj82 : Ly) => ∀ j91 : Wd → Ly → Prop, (j91 = fun (w91 : Wd) (yj91 : Ly) => sp_X8_pass_94 κ post (fun w_94 y_94  => sp_X8_pass_136 κ post (fun w_136 y_136  => sp_X8_pass_178 κ post (fun w_178 y_178  => sp_X8_pass_218 κ post (fun w_218 y_218  => ∀ x_254 : Int32, x_254 = v2 + (1 : Int32) → rec w_218 y_218 x_254) v1 v2 x_73 9 w_178 y_178 0 (-1)) v1 v2 x_73 9 w_136 y_136 0 (-1)) v1 v2 x_73 4 w_94 y_94 (0 : Int32)) v1 v2 x_73 9 w91 yj91 (0 : Int32)) → (((¬ x_73 = (1 : Int32)) → (j91 w82 yj82 )) ∧ ((x_73 = (1 : Int32)) → (sp_X8_summer κ yj82 (fun w_88 => j91 w_88 yj82 ) w82 )))) → (((¬ x_73 = 0) → (j82 w_64 y )) ∧ ((x_73 = 0) → (sp_X8_spring κ y (fun w_79 => j82 w_79 y ) w_64 )))))
def sp_X8_pass_52 (κ : Kx) (post : Int32 → Wd → Ly → Prop) (ex : Wd → Ly → Prop) (v1 : Int32) : Nat → Wd → Ly → Int32 → Prop
  | 0 => fun _ _ _ => False
  | n + 1 => fun w y v2 => st_X8_pass_52 κ post ex (sp_X8_pass_52 κ post ex v1 n) v1 w y v2
set_option maxHeartbeats 4000000 in
theorem lp_X8_pass_52 {p : Program} {l : Launch} {e : Env} {s : State} {m : MethodId} {args : Array Value} {below : List Frame} {meth : Method} {c : Code} {κ : Kx} {y0 : Ly} {X : XR} {post : Int32 → Wd → Ly → Prop} {v1 : Int32} (hx : p.tables.exec = Jvm.exec) (hb : c.code = cX8_pass) (hr : meth.sig.returnType = (Option.some Jvm.ClassFile.FieldType.int)) (hml : c.maxLocals = 6) (hown : s.vm.findClass RX8 = some m.cls) (hts : ∀ w ∈ lw_all, w.before args s = true) (hlocks : meth.locks = false) (hK : KK κ s)   {C1 S1 : Nat} (hC : C1 ≤ 2751) (hSl : S1 ≤ 14406) {ex : Wd → Ly → Prop}
    (kx : ∀ (w : Wd) (y : Ly)  (H : Heap) (locs : List Loc) (ls : Array Slot) (cells slots : Nat) (hM : WFm κ y) (hLe : LeS y0 y) , ex w y  → Rp κ w y X [] H → va_S (Af κ) s.heap H locs → lv_has ls 6 [(0, .ref (y.2 20 0))] → cells ≤ C1 → slots ≤ S1 → W p l e (headSpec (ws_ yX8_pass cX8_pass 6 (Option.some Jvm.ClassFile.FieldType.int)) rm_X8_pass).room s m args below meth c H locs cells slots (MQ below (va_Qi (fun r (u : Wd × Ly) => post r u.1 u.2) (fun (u : Wd × Ly) t => Rp κ u.1 u.2 X [] t.heap ∧ WFm κ u.2 ∧ LeS y0 u.2) (Af κ)) args s 2751 14406 (Af κ)) (F0 m 260 ls [])) :
    ∀ (f : Nat) (w : Wd) (y : Ly) (v2 : Int32) (H : Heap) (locs : List Loc) (ls : Array Slot) (cells slots : Nat) (hM : WFm κ y) (hLe : LeS y0 y) (l0 : live y 20 0) , sp_X8_pass_52 κ post ex v1 f w y v2 → Rp κ w y X [] H → va_S (Af κ) s.heap H locs → lv_has ls 6 [(0, .ref (y.2 20 0)), (1, .int (v1)), (2, .int (v2))] → cells + f * 131 ≤ C1 → slots + f * 686 ≤ S1 → W p l e (headSpec (ws_ yX8_pass cX8_pass 6 (Option.some Jvm.ClassFile.FieldType.int)) rm_X8_pass).room s m args below meth c H locs cells slots (MQ below (va_Qi (fun r (u : Wd × Ly) => post r u.1 u.2) (fun (u : Wd × Ly) t => Rp κ u.1 u.2 X [] t.heap ∧ WFm κ u.2 ∧ LeS y0 u.2) (Af κ)) args s 2751 14406 (Af κ)) (F0 m 52 ls []) := by
  intro f
  induction f with
  | zero =>
    intro w y v2 H locs ls cells slots hM hLe l0 h
    exact False.elim h
  | succ f ih =>
    intro w y v2 H locs ls cells slots hM hLe l0 h hR hS hl hc hs
    have h : st_X8_pass_52 κ post ex (sp_X8_pass_52 κ post ex v1 f) v1 w y v2 := h
    unfold st_X8_pass_52 at h
    refine lv_iload_n hx hb dX8_pass_52 rfl (lv_at hl 2 rfl) ?_
    refine lv_iload_n hx hb dX8_pass_53 rfl (lv_at hl 1 rfl) ?_
    refine lv_icmp_ge (tgt := 260) hx hb dX8_pass_54 (by decide) (fun c_54 => ?_) (fun c_54 => ?_)
    · have h := h.1 c_54
      exact kx w y  _ _ _ _ _ hM hLe h hR hS (lv_sub hl [0] rfl) (by omega) (by omega)
    · have h := h.2 c_54
      refine lv_aload_n hx hb dX8_pass_57 rfl (lv_at hl 0 rfl) ?_
      refine lv_dup hx hb dX8_pass_58 rfl ?_
      refine g20_1 hx hb hts hown hK hR l0 q1946 dX8_pass_59 ?_
      refine lv_iconst (v := (1 : Int32)) hx hb dX8_pass_62 (by decide) ?_
      refine lv_iadd hx hb dX8_pass_63 ?_
      refine p20_1 hx hb hts hown hK hR hS l0 q1946 dX8_pass_64 (fun H locs w_64 ew_64 hR hS => ?_)
      have h := h w_64 ew_64
      refine lv_aload_n hx hb dX8_pass_67 rfl (lv_at hl 0 rfl) ?_
      refine g20_1 hx hb hts hown hK hR l0 q1946 dX8_pass_68 ?_
      refine lv_iconst (v := (4 : Int32)) hx hb dX8_pass_71 (by decide) ?_
      refine lv_irem hx hb dX8_pass_72 (by decide) ?_
      refine lv_topi (fun x_73 ex_73 => ?_)
      have h := h x_73 ex_73
      refine lv_istore_n (lv' := [(3, .int (x_73)), (0, .ref (y.2 20 0)), (1, .int (v1)), (2, .int (v2))]) hx hb dX8_pass_73 rfl hl (by decide) rfl (fun ls hl => ?_)
      refine lv_iload_n hx hb dX8_pass_74 rfl (lv_at hl 0 rfl) ?_
      refine jn_elim h (fun j82 ej82 h => ?_)
      have Jj82 : ∀ (w82 : Wd) (yj82 : Ly) (hM_yj82 : WFm κ yj82) (hL1_yj82 : LeS y yj82) (H : Heap) (locs : List Loc) (ls : Array Slot), j82 w82 yj82  → Rp κ w82 yj82 X [] H → va_S (Af κ) s.heap H locs → lv_has ls 6 [(3, .int (x_73)), (0, .ref (yj82.2 20 0)), (1, .int (v1)), (2, .int (v2))] → W p l e (headSpec (ws_ yX8_pass cX8_pass 6 (Option.some Jvm.ClassFile.FieldType.int)) rm_X8_pass).room s m args below meth c H locs (cells + 11) (slots + 44) (MQ below (va_Qi (fun r (u : Wd × Ly) => post r u.1 u.2) (fun (u : Wd × Ly) t => Rp κ u.1 u.2 X [] t.heap ∧ WFm κ u.2 ∧ LeS y0 u.2) (Af κ)) args s 2751 14406 (Af κ)) (F0 m 82 ls []) := by
        clear h
        intro w82 yj82  hM_yj82 hL1_yj82 H locs ls h hR hS hl
        subst ej82
        have lv_82 := l0
        have hLe_yj82 := hLe.trans hL1_yj82
        have lw_82 := hL1_yj82.live (k := 20) rfl lv_82
        refine lv_iload_n hx hb dX8_pass_82 rfl (lv_at hl 0 rfl) ?_
        refine lv_iconst (v := (1 : Int32)) hx hb dX8_pass_83 (by decide) ?_
        refine jn_elim h (fun j91 ej91 h => ?_)
        have Jj91 : ∀ (w91 : Wd) (yj91 : Ly) (hM_yj91 : WFm κ yj91) (hL1_yj91 : LeS yj82 yj91) (H : Heap) (locs : List Loc) (ls : Array Slot), j91 w91 yj91  → Rp κ w91 yj91 X [] H → va_S (Af κ) s.heap H locs → lv_has ls 6 [(3, .int (x_73)), (0, .ref (yj91.2 20 0)), (1, .int (v1)), (2, .int (v2))] → W p l e (headSpec (ws_ yX8_pass cX8_pass 6 (Option.some Jvm.ClassFile.FieldType.int)) rm_X8_pass).room s m args below meth c H locs (cells + 12) (slots + 48) (MQ below (va_Qi (fun r (u : Wd × Ly) => post r u.1 u.2) (fun (u : Wd × Ly) t => Rp κ u.1 u.2 X [] t.heap ∧ WFm κ u.2 ∧ LeS y0 u.2) (Af κ)) args s 2751 14406 (Af κ)) (F0 m 91 ls []) := by
          clear h
          intro w91 yj91  hM_yj91 hL1_yj91 H locs ls h hR hS hl
          subst ej91
          have lv_91 := lw_82
          have hLe_yj91 := hLe_yj82.trans hL1_yj91
          have lw_91 := hL1_yj91.live (k := 20) rfl lv_91
          refine lv_iconst (v := (0 : Int32)) hx hb dX8_pass_91 (by decide) ?_
          refine lv_istore (lv' := [(4, .int ((0 : Int32))), (3, .int (x_73)), (0, .ref (yj91.2 20 0)), (1, .int (v1)), (2, .int (v2))]) hx hb dX8_pass_92 hl (by decide) rfl (fun ls hl => ?_)
          have lv_94 := lw_91
          refine lp_X8_pass_94 (C1 := (cells + 93)) (S1 := (slots + 534)) hx hb hr hml hown hts hlocks hK  (Nat.le_trans (by omega) hC) (Nat.le_trans (by omega) hSl) (fun w_94 y_94  H locs ls cells9 slots9 hM_y_94 hLe_y_94 h hR hS hl hc9 hs9 => ?_) 9 w91 yj91 (0 : Int32) _ _ _ _ _ hM_yj91 hLe_yj91 lw_91  h hR hS (lv_sub hl [2, 3, 4, 1, 0] rfl) (by omega) (by omega)
          have hL1_y_94 := hLe_yj91.symm.trans hLe_y_94
          refine W.widen (k := (cells + 93)) (n := (slots + 534)) hc9 hs9 ?_
          have lw_94 := hL1_y_94.live (k := 20) rfl lv_94
          refine lv_iconst (v := (0 : Int32)) hx hb dX8_pass_133 (by decide) ?_
          refine lv_istore (lv' := [(4, .int ((0 : Int32))), (0, .ref (y_94.2 20 0)), (1, .int (v1)), (2, .int (v2)), (3, .int (x_73))]) hx hb dX8_pass_134 hl (by decide) rfl (fun ls hl => ?_)
          have lv_136 := lw_94
          refine lp_X8_pass_136 (C1 := (cells + 129)) (S1 := (slots + 678)) hx hb hr hml hown hts hlocks hK  (Nat.le_trans (by omega) hC) (Nat.le_trans (by omega) hSl) (fun w_136 y_136  H locs ls cells9 slots9 hM_y_136 hLe_y_136 h hR hS hl hc9 hs9 => ?_) 4 w_94 y_94 (0 : Int32) _ _ _ _ _ hM_y_94 hLe_y_94 lw_94  h hR hS (lv_sub hl [1, 2, 3, 4, 0] rfl) (by omega) (by omega)
          have hL1_y_136 := hLe_y_94.symm.trans hLe_y_136
          refine W.widen (k := (cells + 129)) (n := (slots + 678)) hc9 hs9 ?_
          have lw_136 := hL1_y_136.live (k := 20) rfl lv_136
          refine lv_aload_n hx hb dX8_pass_169 rfl (lv_at hl 0 rfl) ?_
          refine g20_3 hx hb hts hown hK hR lw_136 q1948 dX8_pass_170 ?_
          refine jr_iter ⟨hx, hb, hml, hown, hts⟩ hK hR hS ⟨fun _ _ _ _ _ => rfl, fun _ _ _ _ _ => rfl⟩ hM_y_136.lsV q2248 ⟨Nat.le_of_ble_eq_true rfl, Nat.le_of_ble_eq_true rfl⟩ hl.1 (Nat.le_of_ble_eq_true rfl) dX8_pass_173 ⟨(Nat.le_trans (show cells + 129 + 1 ≤ C1 from by omega) hC), (Nat.le_trans (show slots + 678 + 4 ≤ S1 from by omega) hSl)⟩ (fun q_173 H locs hR hS => ?_)
          have hR : Rp κ w_136 y_136 X [(q_173, itC y_136 50 0 0 (-1))] H := hR
          refine lv_astore (lv' := [(4, .ref (q_173)), (0, .ref (y_136.2 20 0)), (1, .int (v1)), (2, .int (v2)), (3, .int (x_73))]) hx hb dX8_pass_176 hl (by decide) rfl (fun ls hl => ?_)
          have lv_178 := lw_136
          have lv_178_a := hM_y_136.lsV
          have lv_178_b := lw_136
          refine lp_X8_pass_178 (C1 := (cells + 130)) (S1 := (slots + 682)) hx hb hr hml hown hts hlocks hK  (Nat.le_trans (by omega) hC) (Nat.le_trans (by omega) hSl) (fun w_178 y_178  H locs ls cells9 slots9 hM_y_178 hLe_y_178 h hR hS hl hc9 hs9 => ?_) 9 w_136 y_136 0 (-1) _ _ _ _ _ hM_y_136 hLe_y_136 lw_136 (by omega) h hR hS (lv_sub hl [1, 2, 3, 4, 0] rfl) (by omega) (by omega)
          have hL1_y_178 := hLe_y_136.symm.trans hLe_y_178
          refine W.widen (k := (cells + 130)) (n := (slots + 682)) hc9 hs9 ?_
          have lw_178 := hL1_y_178.live (k := 20) rfl lv_178
          refine lv_aload_n hx hb dX8_pass_209 rfl (lv_at hl 0 rfl) ?_
          refine g20_3 hx hb hts hown hK hR lw_178 q1948 dX8_pass_210 ?_
          refine jr_iter ⟨hx, hb, hml, hown, hts⟩ hK hR hS ⟨fun _ _ _ _ _ => rfl, fun _ _ _ _ _ => rfl⟩ hM_y_178.lsV q2248 ⟨Nat.le_of_ble_eq_true rfl, Nat.le_of_ble_eq_true rfl⟩ hl.1 (Nat.le_of_ble_eq_true rfl) dX8_pass_213 ⟨(Nat.le_trans (show cells + 130 + 1 ≤ C1 from by omega) hC), (Nat.le_trans (show slots + 682 + 4 ≤ S1 from by omega) hSl)⟩ (fun q_213 H locs hR hS => ?_)
          have hR : Rp κ w_178 y_178 X [(q_213, itC y_178 50 0 0 (-1))] H := hR
          refine lv_astore (lv' := [(4, .ref (q_213)), (0, .ref (y_178.2 20 0)), (1, .int (v1)), (2, .int (v2)), (3, .int (x_73))]) hx hb dX8_pass_216 hl (by decide) rfl (fun ls hl => ?_)
          have lv_218 := lw_178
          have lv_218_a := hM_y_178.lsV
          have lv_218_b := lw_178
          refine lp_X8_pass_218 (C1 := (cells + 131)) (S1 := (slots + 686)) hx hb hr hml hown hts hlocks hK  (Nat.le_trans (by omega) hC) (Nat.le_trans (by omega) hSl) (fun w_218 y_218  H locs ls cells9 slots9 hM_y_218 hLe_y_218 h hR hS hl hc9 hs9 => ?_) 9 w_178 y_178 0 (-1) _ _ _ _ _ hM_y_178 hLe_y_178 lw_178 (by omega) h hR hS (lv_sub hl [1, 2, 3, 4, 0] rfl) (by omega) (by omega)
          have hL1_y_218 := hLe_y_178.symm.trans hLe_y_218
          refine W.widen (k := (cells + 131)) (n := (slots + 686)) hc9 hs9 ?_
          have lw_218 := hL1_y_218.live (k := 20) rfl lv_218
          obtain ⟨x_254, ex_254⟩ : ∃ z : Int32, z = v2 + (1 : Int32) := ⟨_, rfl⟩
          have h := h x_254 ex_254
          refine lv_iinc (v := x_254) (lv' := [(2, .int (x_254)), (0, .ref (y_218.2 20 0)), (1, .int (v1))]) hx hb dX8_pass_254 hl (k := 2) rfl (by rw [ex_254]; rfl) (by decide) rfl (fun ls hl => ?_)
          refine lv_goto (tgt := 52) hx hb dX8_pass_257 (by decide) ?_
          exact ih w_218 y_218 x_254 _ _ _ _ _ hM_y_218 hLe_y_218 lw_218  h hR hS (lv_sub hl [1, 2, 0] rfl) (by omega) (by omega)
        refine lv_icmp_ne (tgt := 91) hx hb dX8_pass_84 (by decide) (fun c_84 => ?_) (fun c_84 => ?_)
        · have h := h.1 c_84
          refine W.widen (k := cells + 12) (n := slots + 48) (by omega) (by omega) ?_
          exact Jj91 w82 yj82  hM_yj82 (hLe_yj82.symm.trans hLe_yj82) _ _ _ h hR hS (lv_sub hl [0, 1, 2, 3] rfl)
        · have h := h.2 c_84
          refine lv_aload_n hx hb dX8_pass_87 rfl (lv_at hl 1 rfl) ?_
          refine ce_qv (fw := fun u => u) (fy := fun _ => yj82) (cr_V (n := 0) (As := []) (rest := []) ⟨hx, hb, hml, hown, hts⟩ hK hR (m_X8_summer hM_yj82 lw_82 h) q2405 q2407 qs53 q85 q2408 rfl rfl hd_X8_summer ⟨Nat.le_of_ble_eq_true rfl, Nat.le_of_ble_eq_true rfl⟩ (rv hK hR lw_82 (ci := 11) rfl rfl) rfl rfl hl.1 rfl (lv_room (Nat.le_of_ble_eq_true rfl)) dX8_pass_88 ⟨(Nat.le_trans (show cells + 11 + 1 ≤ C1 from by omega) hC), (Nat.le_trans (show slots + 44 + 4 ≤ S1 from by omega) hSl)⟩) hR hS (fun w_88 H locs h hR _ hS => ?_)
          refine W.widen (k := cells + 12) (n := slots + 48) (by omega) (by omega) ?_
          exact Jj91 w_88 yj82  hM_yj82 (hLe_yj82.symm.trans hLe_yj82) _ _ _ h hR hS (lv_sub hl [0, 1, 2, 3] rfl)
      refine lv_if_ne (tgt := 82) hx hb dX8_pass_75 (by decide) (fun c_75 => ?_) (fun c_75 => ?_)
      · have h := h.1 c_75
        refine W.widen (k := cells + 11) (n := slots + 44) (by omega) (by omega) ?_
        exact Jj82 w_64 y  hM (hLe.symm.trans hLe) _ _ _ h hR hS (lv_sub hl [0, 1, 2, 3] rfl)
      · have h := h.2 c_75
        refine lv_aload_n hx hb dX8_pass_78 rfl (lv_at hl 1 rfl) ?_
        refine ce_qv (fw := fun u => u) (fy := fun _ => y) (cr_V (n := 0) (As := []) (rest := []) ⟨hx, hb, hml, hown, hts⟩ hK hR (m_X8_spring hM l0 h) q2401 q2403 qs52 q85 q2404 rfl rfl hd_X8_spring ⟨Nat.le_of_ble_eq_true rfl, Nat.le_of_ble_eq_true rfl⟩ (rv hK hR l0 (ci := 11) rfl rfl) rfl rfl hl.1 rfl (lv_room (Nat.le_of_ble_eq_true rfl)) dX8_pass_79 ⟨(Nat.le_trans (show cells + 11 ≤ C1 from by omega) hC), (Nat.le_trans (show slots + 44 ≤ S1 from by omega) hSl)⟩) hR hS (fun w_79 H locs h hR _ hS => ?_)
        refine W.widen (k := cells + 11) (n := slots + 44) (by omega) (by omega) ?_
        exact Jj82 w_79 y  hM (hLe.symm.trans hLe) _ _ _ h hR hS (lv_sub hl [0, 1, 2, 3] rfl)
def sp_X8_pass (κ : Kx) (y : Ly) (post : Int32 → Wd → Ly → Prop) (w : Wd) (p1 : Int32) : Prop := sp_X8_isIn κ y (fun r_5 w_5 => ∀ j16 : Wd → Ly → Int32 → Prop, (j16 = fun (w16 : Wd) (yj16 : Ly) (s0_16 : Int32) => sp_X8_start κ yj16 (fun r_17 w_17 => ((¬ r_17 = 0) → (post ((0 : Int32)) w_17 yj16)) ∧ ((r_17 = 0) → (∀ j41 : Wd → Ly → Int32 → Prop, (j41 = fun (w41 : Wd) (yj41 : Ly) (s0_41 : Int32) => sp_X8_refuse κ yj41 (fun r_42 w_42 => ((r_42 = 0) → (sp_X8_pass_52 κ post (fun w_52 y_52  => post (gv w_52 20 0 1) w_52 y_52) p1 21 w_42 yj41 (0 : Int32))) ∧ ((¬ (r_42 = 0)) → (post ((0 : Int32)) w_42 yj41))) w41 s0_41 (2 : Int32)) → ((((gv w_17 20 0 1) + p1 ≤ (160 : Int32)) → (j41 w_17 yj16 (0 : Int32))) ∧ ((¬ ((gv w_17 20 0 1) + p1 ≤ (160 : Int32))) → (j41 w_17 yj16 (1 : Int32))))))) w16 s0_16 (1 : Int32)) → (((¬ r_5 = 0) → (j16 w_5 y (0 : Int32))) ∧ ((r_5 = 0) → (j16 w_5 y (1 : Int32))))) w p1 (1 : Int32) (20 : Int32)
theorem hd_X8_pass : yX8_pass.cls = RX8 ∧ yX8_pass.cls ≠ "java/lang/invoke/MethodHandle" ∧ yX8_pass.cls ≠ "java/lang/invoke/VarHandle" ∧ (parseMethodDescriptor yX8_pass.desc).map (fun d => d.parameters.length) = some 1 := by decide +kernel
set_option maxHeartbeats 4000000 in
theorem m_X8_pass {l : Launch} {κ : Kx} {y : Ly} {X : XR} {post : Int32 → Wd → Ly → Prop} {w : Wd} {p1 : Int32}  (hM : WFm κ y) (l0 : live y 20 0) (h : sp_X8_pass κ y post w p1) : Met l yX8_pass (ws_ yX8_pass cX8_pass 6 (Option.some Jvm.ClassFile.FieldType.int)) rm_X8_pass (va_Pc [.ref (y.2 20 0), .int (p1)] (RC κ w y X)) (va_Qi (fun r (u : Wd × Ly) => post r u.1 u.2) (fun (u : Wd × Ly) t => Rp κ u.1 u.2 X [] t.heap ∧ WFm κ u.2 ∧ LeS y u.2) (Af κ)) 2751 14406 (Af κ) := by
  unfold sp_X8_pass at h
  refine Met.ofW (cc := cX8_pass) (maxL := 6) (ret := (Option.some Jvm.ClassFile.FieldType.int)) (by decide) rfl ?_
  intro p e s m args below meth c s₁ B hml hv
  obtain ⟨rfl, hR, hK⟩ := hv
  have hx := B.exec
  have hb := B.bytes
  have hr := B.returns
  have hts := atoms_spec (ws := ws_ yX8_pass cX8_pass 6 (Option.some Jvm.ClassFile.FieldType.int)) B.pre
  have hts : ∀ w ∈ lw_all, w.before _ s = true := fun w h => hts w (List.mem_cons_of_mem _ h)
  have hown : s.vm.findClass RX8 = some m.cls := findClass_of_methodNamed B.named
  have hlocks := B.notSynchronized
  have hLe : LeS y y := LeS.rf
  have hS : va_S (Af κ) s.heap s.heap [] := va_S.rf
  have hl := lv_entry ([.ref (y.2 20 0), .int (p1)]) (n := 6) (Nat.le_of_ble_eq_true rfl)
  rw [lg_entry_eq]
  generalize (lg_sl ([.ref (y.2 20 0), .int (p1)]) ++ List.replicate (6 - (lg_sl ([.ref (y.2 20 0), .int (p1)])).length) Slot.unset).toArray = ls at hl ⊢
  have hl : lv_has ls 6 [(0, .ref (y.2 20 0)), (1, .int (p1))] := hl
  refine lv_aload_n hx hb dX8_pass_0 rfl (lv_at hl 0 rfl) ?_
  refine lv_iload_n hx hb dX8_pass_1 rfl (lv_at hl 1 rfl) ?_
  refine lv_iconst (v := (1 : Int32)) hx hb dX8_pass_2 (by decide) ?_
  refine lv_bipush (v := (20 : Int32)) hx hb dX8_pass_3 (by decide) ?_
  refine ce_qi (fw := fun u => u) (fy := fun _ => y) (cr_S (n := 3) (As := [.int (p1), .int ((1 : Int32)), .int ((20 : Int32))]) (rest := [.ref (y.2 20 0)]) ⟨hx, hb, hml, hown, hts⟩ hK hR (m_X8_isIn hM h) q2020 q2021 q85 q2022 rfl rfl hds_X8_isIn ⟨Nat.le_of_ble_eq_true rfl, Nat.le_of_ble_eq_true rfl⟩ rfl rfl hl.1 rfl (lv_room (Nat.le_of_ble_eq_true rfl)) dX8_pass_5 ⟨(Nat.le_of_ble_eq_true rfl), (Nat.le_of_ble_eq_true rfl)⟩) hR hS (fun r_5 w_5 H locs h hR _ hS => ?_)
  refine jn_elim h (fun j16 ej16 h => ?_)
  have Jj16 : ∀ (w16 : Wd) (yj16 : Ly) (s0_16 : Int32) (hM_yj16 : WFm κ yj16) (hL1_yj16 : LeS y yj16) (H : Heap) (locs : List Loc) (ls : Array Slot), j16 w16 yj16 s0_16 → Rp κ w16 yj16 X [] H → va_S (Af κ) s.heap H locs → lv_has ls 6 [(0, .ref (yj16.2 20 0)), (1, .int (p1))] → W p l e (headSpec (ws_ yX8_pass cX8_pass 6 (Option.some Jvm.ClassFile.FieldType.int)) rm_X8_pass).room s m ([.ref (y.2 20 0), .int (p1)] : List Value).toArray below meth c H locs (0) (0) (MQ below (va_Qi (fun r (u : Wd × Ly) => post r u.1 u.2) (fun (u : Wd × Ly) t => Rp κ u.1 u.2 X [] t.heap ∧ WFm κ u.2 ∧ LeS y u.2) (Af κ)) ([.ref (y.2 20 0), .int (p1)] : List Value).toArray s 2751 14406 (Af κ)) (F0 m 16 ls [.int (s0_16), .ref (yj16.2 20 0)]) := by
    clear h
    intro w16 yj16 s0_16 hM_yj16 hL1_yj16 H locs ls h hR hS hl
    subst ej16
    have lv_16 := l0
    have hLe_yj16 := hLe.trans hL1_yj16
    have lw_16 := hL1_yj16.live (k := 20) rfl lv_16
    refine lv_iconst (v := (1 : Int32)) hx hb dX8_pass_16 (by decide) ?_
    refine ce_qi (fw := fun u => u) (fy := fun _ => yj16) (cr_V (n := 2) (As := [.int (s0_16), .int ((1 : Int32))]) (rest := []) ⟨hx, hb, hml, hown, hts⟩ hK hR (m_X8_start hM_yj16 lw_16 h) q2023 q2025 qs37 q85 q2026 rfl rfl hd_X8_start ⟨Nat.le_of_ble_eq_true rfl, Nat.le_of_ble_eq_true rfl⟩ (rv hK hR lw_16 (ci := 11) rfl rfl) rfl rfl hl.1 rfl (lv_room (Nat.le_of_ble_eq_true rfl)) dX8_pass_17 ⟨(Nat.le_of_ble_eq_true rfl), (Nat.le_of_ble_eq_true rfl)⟩) hR hS (fun r_17 w_17 H locs h hR _ hS => ?_)
    refine lv_if_ne (tgt := 48) hx hb dX8_pass_20 (by decide) (fun c_20 => ?_) (fun c_20 => ?_)
    · have h := h.1 c_20
      refine lv_iconst (v := (0 : Int32)) hx hb dX8_pass_48 (by decide) ?_
      refine W.widen (k := 2751) (n := 14406) (Nat.le_of_ble_eq_true rfl) (Nat.le_of_ble_eq_true rfl) ?_
      exact W.iret (v := (0 : Int32)) hx hb hr (fun t ht hW9 => ⟨⟨(0 : Int32), (w_17, yj16), rfl, h, ⟨rpt ht hR, hM_yj16, hLe_yj16⟩⟩, hS.F ht⟩) hS.2.2 dX8_pass_49
    · have h := h.2 c_20
      refine lv_aload_n hx hb dX8_pass_23 rfl (lv_at hl 0 rfl) ?_
      refine lv_aload_n hx hb dX8_pass_24 rfl (lv_at hl 0 rfl) ?_
      refine g20_1 hx hb hts hown hK hR lw_16 q1946 dX8_pass_25 ?_
      refine lv_iload_n hx hb dX8_pass_28 rfl (lv_at hl 1 rfl) ?_
      refine lv_iadd hx hb dX8_pass_29 ?_
      refine lv_sipush (v := (160 : Int32)) hx hb dX8_pass_30 (by decide) ?_
      refine jn_elim h (fun j41 ej41 h => ?_)
      have Jj41 : ∀ (w41 : Wd) (yj41 : Ly) (s0_41 : Int32) (hM_yj41 : WFm κ yj41) (hL1_yj41 : LeS yj16 yj41) (H : Heap) (locs : List Loc) (ls : Array Slot), j41 w41 yj41 s0_41 → Rp κ w41 yj41 X [] H → va_S (Af κ) s.heap H locs → lv_has ls 6 [(0, .ref (yj41.2 20 0)), (1, .int (p1))] → W p l e (headSpec (ws_ yX8_pass cX8_pass 6 (Option.some Jvm.ClassFile.FieldType.int)) rm_X8_pass).room s m ([.ref (y.2 20 0), .int (p1)] : List Value).toArray below meth c H locs (0) (0) (MQ below (va_Qi (fun r (u : Wd × Ly) => post r u.1 u.2) (fun (u : Wd × Ly) t => Rp κ u.1 u.2 X [] t.heap ∧ WFm κ u.2 ∧ LeS y u.2) (Af κ)) ([.ref (y.2 20 0), .int (p1)] : List Value).toArray s 2751 14406 (Af κ)) (F0 m 41 ls [.int (s0_41), .ref (yj41.2 20 0)]) := by
        clear h
        intro w41 yj41 s0_41 hM_yj41 hL1_yj41 H locs ls h hR hS hl
        subst ej41
        have lv_41 := lw_16
        have hLe_yj41 := hLe_yj16.trans hL1_yj41
        have lw_41 := hL1_yj41.live (k := 20) rfl lv_41
        refine lv_iconst (v := (2 : Int32)) hx hb dX8_pass_41 (by decide) ?_
        refine ce_qi (fw := fun u => u) (fy := fun _ => yj41) (cr_V (n := 2) (As := [.int (s0_41), .int ((2 : Int32))]) (rest := []) ⟨hx, hb, hml, hown, hts⟩ hK hR (m_X8_refuse hM_yj41 lw_41 h) q2027 q2029 qs38 q85 q2030 rfl rfl hd_X8_refuse ⟨Nat.le_of_ble_eq_true rfl, Nat.le_of_ble_eq_true rfl⟩ (rv hK hR lw_41 (ci := 11) rfl rfl) rfl rfl hl.1 rfl (lv_room (Nat.le_of_ble_eq_true rfl)) dX8_pass_42 ⟨(Nat.le_of_ble_eq_true rfl), (Nat.le_of_ble_eq_true rfl)⟩) hR hS (fun r_42 w_42 H locs h hR _ hS => ?_)
        refine lv_if_eq (tgt := 50) hx hb dX8_pass_45 (by decide) (fun c_45 => ?_) (fun c_45 => ?_)
        · have h := h.1 c_45
          refine lv_iconst (v := (0 : Int32)) hx hb dX8_pass_50 (by decide) ?_
          refine lv_istore_n (lv' := [(2, .int ((0 : Int32))), (0, .ref (yj41.2 20 0)), (1, .int (p1))]) hx hb dX8_pass_51 rfl hl (by decide) rfl (fun ls hl => ?_)
          have lv_52 := lw_41
          refine lp_X8_pass_52 (C1 := 2751) (S1 := 14406) hx hb hr hml hown hts hlocks hK  (Nat.le_of_ble_eq_true rfl) (Nat.le_of_ble_eq_true rfl) (fun w_52 y_52  H locs ls cells9 slots9 hM_y_52 hLe_y_52 h hR hS hl hc9 hs9 => ?_) 21 w_42 yj41 (0 : Int32) _ _ _ _ _ hM_yj41 hLe_yj41 lw_41  h hR hS (lv_sub hl [1, 2, 0] rfl) (by omega) (by omega)
          have hL1_y_52 := hLe_yj41.symm.trans hLe_y_52
          refine W.widen (k := 2751) (n := 14406) hc9 hs9 ?_
          have lw_52 := hL1_y_52.live (k := 20) rfl lv_52
          refine lv_aload_n hx hb dX8_pass_260 rfl (lv_at hl 0 rfl) ?_
          refine g20_1 hx hb hts hown hK hR lw_52 q1946 dX8_pass_261 ?_
          refine W.widen (k := 2751) (n := 14406) (Nat.le_of_ble_eq_true rfl) (Nat.le_of_ble_eq_true rfl) ?_
          exact W.iret (v := gv w_52 20 0 1) hx hb hr (fun t ht hW9 => ⟨⟨gv w_52 20 0 1, (w_52, y_52), rfl, h, ⟨rpt ht hR, hM_y_52, hLe_y_52⟩⟩, hS.F ht⟩) hS.2.2 dX8_pass_264
        · have h := h.2 c_45
          refine lv_iconst (v := (0 : Int32)) hx hb dX8_pass_48 (by decide) ?_
          refine W.widen (k := 2751) (n := 14406) (Nat.le_of_ble_eq_true rfl) (Nat.le_of_ble_eq_true rfl) ?_
          exact W.iret (v := (0 : Int32)) hx hb hr (fun t ht hW9 => ⟨⟨(0 : Int32), (w_42, yj41), rfl, h, ⟨rpt ht hR, hM_yj41, hLe_yj41⟩⟩, hS.F ht⟩) hS.2.2 dX8_pass_49
      refine lv_icmp_le (tgt := 40) hx hb dX8_pass_33 (by decide) (fun c_33 => ?_) (fun c_33 => ?_)
      · have h := h.1 c_33
        refine lv_iconst (v := (0 : Int32)) hx hb dX8_pass_40 (by decide) ?_
        refine W.widen (k := 0) (n := 0) (Nat.le_of_ble_eq_true rfl) (Nat.le_of_ble_eq_true rfl) ?_
        exact Jj41 w_17 yj16 (0 : Int32) hM_yj16 (hLe_yj16.symm.trans hLe_yj16) _ _ _ h hR hS (lv_sub hl [0, 1] rfl)
      · have h := h.2 c_33
        refine lv_iconst (v := (1 : Int32)) hx hb dX8_pass_36 (by decide) ?_
        refine lv_goto (tgt := 41) hx hb dX8_pass_37 (by decide) ?_
        refine W.widen (k := 0) (n := 0) (Nat.le_of_ble_eq_true rfl) (Nat.le_of_ble_eq_true rfl) ?_
        exact Jj41 w_17 yj16 (1 : Int32) hM_yj16 (hLe_yj16.symm.trans hLe_yj16) _ _ _ h hR hS (lv_sub hl [0, 1] rfl)
  refine lv_if_ne (tgt := 15) hx hb dX8_pass_8 (by decide) (fun c_8 => ?_) (fun c_8 => ?_)
  · have h := h.1 c_8
    refine lv_iconst (v := (0 : Int32)) hx hb dX8_pass_15 (by decide) ?_
    refine W.widen (k := 0) (n := 0) (Nat.le_of_ble_eq_true rfl) (Nat.le_of_ble_eq_true rfl) ?_
    exact Jj16 w_5 y (0 : Int32) hM (hLe.symm.trans hLe) _ _ _ h hR hS (lv_sub hl [0, 1] rfl)
  · have h := h.2 c_8
    refine lv_iconst (v := (1 : Int32)) hx hb dX8_pass_11 (by decide) ?_
    refine lv_goto (tgt := 16) hx hb dX8_pass_12 (by decide) ?_
    refine W.widen (k := 0) (n := 0) (Nat.le_of_ble_eq_true rfl) (Nat.le_of_ble_eq_true rfl) ?_
    exact Jj16 w_5 y (1 : Int32) hM (hLe.symm.trans hLe) _ _ _ h hR hS (lv_sub hl [0, 1] rfl)
abbrev rm_X8_digest : Room := { frames := 6, cells := 635, slots := 5714, locals := 168 }
def st_X8_digest_11 (κ : Kx) (y : Ly) (post : Int64 → Wd → Prop) (ex : Wd → (Int64) → Prop) (rec : Wd → Int64 → Int32 → Prop)  (w : Wd) (v1 : Int64) (v3 : Int32) : Prop := (((16 : Int32) < v3) → (ex w v1)) ∧ ((¬ ((16 : Int32) < v3)) → (sp_X8_landNow κ y (fun r_24 w_24 => ∀ x_29 : Int64, x_29 = (v1 * ((31 : Int64))) + r_24.toInt64 → ∀ x_30 : Int32, x_30 = v3 + (1 : Int32) → rec w_24 x_29 x_30) w v3))
def sp_X8_digest_11 (κ : Kx) (y : Ly) (post : Int64 → Wd → Prop) (ex : Wd → (Int64) → Prop)  : Nat → Wd → Int64 → Int32 → Prop
  | 0 => fun _ _ _ => False
  | n + 1 => fun w v1 v3 => st_X8_digest_11 κ y post ex (sp_X8_digest_11 κ y post ex  n)  w v1 v3
set_option maxHeartbeats 4000000 in
theorem lp_X8_digest_11 {p : Program} {l : Launch} {e : Env} {s : State} {m : MethodId} {args : Array Value} {below : List Frame} {meth : Method} {c : Code} {κ : Kx} {y : Ly} {X : XR} {post : Int64 → Wd → Prop}  (hx : p.tables.exec = Jvm.exec) (hb : c.code = cX8_digest) (hr : meth.sig.returnType = (Option.some Jvm.ClassFile.FieldType.long)) (hml : c.maxLocals = 6) (hown : s.vm.findClass RX8 = some m.cls) (hts : ∀ w ∈ lw_all, w.before args s = true) (hlocks : meth.locks = false) (hK : KK κ s) (hM : WFm κ y) (l0 : live y 20 0) {C1 S1 : Nat} (hC : C1 ≤ 635) (hSl : S1 ≤ 5714) {ex : Wd → (Int64) → Prop}
    (kx : ∀ (w : Wd) (v1 : Int64) (H : Heap) (locs : List Loc) (ls : Array Slot) (cells slots : Nat) , ex w v1 → Rp κ w y X [] H → va_S (Af κ) s.heap H locs → lv_has ls 6 [(0, .ref (y.2 20 0)), (1, .long (v1))] → cells ≤ C1 → slots ≤ S1 → W p l e (headSpec (ws_ yX8_digest cX8_digest 6 (Option.some Jvm.ClassFile.FieldType.long)) rm_X8_digest).room s m args below meth c H locs cells slots (MQ below (va_Ql post (fun w t => Rp κ w y X [] t.heap) (Af κ)) args s 635 5714 (Af κ)) (F0 m 36 ls [])) :
    ∀ (f : Nat) (w : Wd) (v1 : Int64) (v3 : Int32) (H : Heap) (locs : List Loc) (ls : Array Slot) (cells slots : Nat)  , sp_X8_digest_11 κ y post ex  f w v1 v3 → Rp κ w y X [] H → va_S (Af κ) s.heap H locs → lv_has ls 6 [(0, .ref (y.2 20 0)), (1, .long (v1)), (3, .int (v3))] → cells + f * 2 ≤ C1 → slots + f * 21 ≤ S1 → W p l e (headSpec (ws_ yX8_digest cX8_digest 6 (Option.some Jvm.ClassFile.FieldType.long)) rm_X8_digest).room s m args below meth c H locs cells slots (MQ below (va_Ql post (fun w t => Rp κ w y X [] t.heap) (Af κ)) args s 635 5714 (Af κ)) (F0 m 11 ls []) := by
  intro f
  induction f with
  | zero =>
    intro w v1 v3 H locs ls cells slots  h
    exact False.elim h
  | succ f ih =>
    intro w v1 v3 H locs ls cells slots  h hR hS hl hc hs
    have h : st_X8_digest_11 κ y post ex (sp_X8_digest_11 κ y post ex  f)  w v1 v3 := h
    unfold st_X8_digest_11 at h
    refine lv_iload_n hx hb dX8_digest_11 rfl (lv_at hl 2 rfl) ?_
    refine lv_bipush (v := (16 : Int32)) hx hb dX8_digest_12 (by decide) ?_
    refine lv_icmp_gt (tgt := 36) hx hb dX8_digest_14 (by decide) (fun c_14 => ?_) (fun c_14 => ?_)
    · have h := h.1 c_14
      exact kx w v1 _ _ _ _ _ h hR hS (lv_sub hl [0, 1] rfl) (by omega) (by omega)
    · have h := h.2 c_14
      refine lv_lload_n hx hb dX8_digest_17 rfl (lv_at hl 1 rfl) ?_
      refine lv_ldc2 (v := (31 : Int64)) hx hb hown (hts _ q2634) dX8_digest_18 ?_
      refine lv_lmul hx hb dX8_digest_21 ?_
      refine lv_aload_n hx hb dX8_digest_22 rfl (lv_at hl 0 rfl) ?_
      refine lv_iload_n hx hb dX8_digest_23 rfl (lv_at hl 2 rfl) ?_
      refine ce_qi (fw := fun u => u) (fy := fun _ => y) (cr_V (n := 1) (As := [.int (v3)]) (rest := [.long (v1 * ((31 : Int64)))]) ⟨hx, hb, hml, hown, hts⟩ hK hR (m_X8_landNow hM l0 h) q2558 q2560 qs67 q85 q2561 rfl rfl hd_X8_landNow ⟨Nat.le_of_ble_eq_true rfl, Nat.le_of_ble_eq_true rfl⟩ (rv hK hR l0 (ci := 11) rfl rfl) rfl rfl hl.1 rfl (lv_room (Nat.le_of_ble_eq_true rfl)) dX8_digest_24 ⟨(Nat.le_trans (show cells + 2 ≤ C1 from by omega) hC), (Nat.le_trans (show slots + 21 ≤ S1 from by omega) hSl)⟩) hR hS (fun r_24 w_24 H locs h hR _ hS => ?_)
      refine lv_i2l hx hb dX8_digest_27 rfl ?_
      refine lv_ladd hx hb dX8_digest_28 ?_
      refine lv_topl (fun x_29 ex_29 => ?_)
      have h := h x_29 ex_29
      refine lv_lstore_n (lv' := [(1, .long (x_29)), (0, .ref (y.2 20 0)), (3, .int (v3))]) hx hb dX8_digest_29 rfl hl (by decide) rfl (fun ls hl => ?_)
      obtain ⟨x_30, ex_30⟩ : ∃ z : Int32, z = v3 + (1 : Int32) := ⟨_, rfl⟩
      have h := h x_30 ex_30
      refine lv_iinc (v := x_30) (lv' := [(3, .int (x_30)), (1, .long (x_29)), (0, .ref (y.2 20 0))]) hx hb dX8_digest_30 hl (k := 2) rfl (by rw [ex_30]; rfl) (by decide) rfl (fun ls hl => ?_)
      refine lv_goto (tgt := 11) hx hb dX8_digest_33 (by decide) ?_
      exact ih w_24 x_29 x_30 _ _ _ _ _  h hR hS (lv_sub hl [2, 1, 0] rfl) (by omega) (by omega)
def st_X8_digest_46 (κ : Kx) (y : Ly) (post : Int64 → Wd → Prop) (ex : Wd → (Int64) → Prop) (rec : Wd → Int64 → Int32 → Prop) (v3 : Int32) (w : Wd) (v1 : Int64) (v4 : Int32) : Prop := (((4 : Int32) < v4) → (ex w v1)) ∧ ((¬ ((4 : Int32) < v4)) → (sp_X8_lawNow κ y (fun r_61 w_61 => ∀ x_66 : Int64, x_66 = (v1 * ((31 : Int64))) + r_61.toInt64 → ∀ x_67 : Int32, x_67 = v4 + (1 : Int32) → rec w_61 x_66 x_67) w v3 v4))
def sp_X8_digest_46 (κ : Kx) (y : Ly) (post : Int64 → Wd → Prop) (ex : Wd → (Int64) → Prop) (v3 : Int32) : Nat → Wd → Int64 → Int32 → Prop
  | 0 => fun _ _ _ => False
  | n + 1 => fun w v1 v4 => st_X8_digest_46 κ y post ex (sp_X8_digest_46 κ y post ex v3 n) v3 w v1 v4
set_option maxHeartbeats 4000000 in
theorem lp_X8_digest_46 {p : Program} {l : Launch} {e : Env} {s : State} {m : MethodId} {args : Array Value} {below : List Frame} {meth : Method} {c : Code} {κ : Kx} {y : Ly} {X : XR} {post : Int64 → Wd → Prop} {v3 : Int32} (hx : p.tables.exec = Jvm.exec) (hb : c.code = cX8_digest) (hr : meth.sig.returnType = (Option.some Jvm.ClassFile.FieldType.long)) (hml : c.maxLocals = 6) (hown : s.vm.findClass RX8 = some m.cls) (hts : ∀ w ∈ lw_all, w.before args s = true) (hlocks : meth.locks = false) (hK : KK κ s) (hM : WFm κ y) (l0 : live y 20 0) {C1 S1 : Nat} (hC : C1 ≤ 635) (hSl : S1 ≤ 5714) {ex : Wd → (Int64) → Prop}
    (kx : ∀ (w : Wd) (v1 : Int64) (H : Heap) (locs : List Loc) (ls : Array Slot) (cells slots : Nat) , ex w v1 → Rp κ w y X [] H → va_S (Af κ) s.heap H locs → lv_has ls 6 [(0, .ref (y.2 20 0)), (1, .long (v1)), (3, .int (v3))] → cells ≤ C1 → slots ≤ S1 → W p l e (headSpec (ws_ yX8_digest cX8_digest 6 (Option.some Jvm.ClassFile.FieldType.long)) rm_X8_digest).room s m args below meth c H locs cells slots (MQ below (va_Ql post (fun w t => Rp κ w y X [] t.heap) (Af κ)) args s 635 5714 (Af κ)) (F0 m 73 ls [])) :
    ∀ (f : Nat) (w : Wd) (v1 : Int64) (v4 : Int32) (H : Heap) (locs : List Loc) (ls : Array Slot) (cells slots : Nat)  , sp_X8_digest_46 κ y post ex v3 f w v1 v4 → Rp κ w y X [] H → va_S (Af κ) s.heap H locs → lv_has ls 6 [(0, .ref (y.2 20 0)), (1, .long (v1)), (3, .int (v3)), (4, .int (v4))] → cells + f * 1 ≤ C1 → slots + f * 5 ≤ S1 → W p l e (headSpec (ws_ yX8_digest cX8_digest 6 (Option.some Jvm.ClassFile.FieldType.long)) rm_X8_digest).room s m args below meth c H locs cells slots (MQ below (va_Ql post (fun w t => Rp κ w y X [] t.heap) (Af κ)) args s 635 5714 (Af κ)) (F0 m 46 ls []) := by
  intro f
  induction f with
  | zero =>
    intro w v1 v4 H locs ls cells slots  h
    exact False.elim h
  | succ f ih =>
    intro w v1 v4 H locs ls cells slots  h hR hS hl hc hs
    have h : st_X8_digest_46 κ y post ex (sp_X8_digest_46 κ y post ex v3 f) v3 w v1 v4 := h
    unfold st_X8_digest_46 at h
    refine lv_iload hx hb dX8_digest_46 (lv_at hl 3 rfl) ?_
    refine lv_iconst (v := (4 : Int32)) hx hb dX8_digest_48 (by decide) ?_
    refine lv_icmp_gt (tgt := 73) hx hb dX8_digest_49 (by decide) (fun c_49 => ?_) (fun c_49 => ?_)
    · have h := h.1 c_49
      exact kx w v1 _ _ _ _ _ h hR hS (lv_sub hl [0, 1, 2] rfl) (by omega) (by omega)
    · have h := h.2 c_49
      refine lv_lload_n hx hb dX8_digest_52 rfl (lv_at hl 1 rfl) ?_
      refine lv_ldc2 (v := (31 : Int64)) hx hb hown (hts _ q2634) dX8_digest_53 ?_
      refine lv_lmul hx hb dX8_digest_56 ?_
      refine lv_aload_n hx hb dX8_digest_57 rfl (lv_at hl 0 rfl) ?_
      refine lv_iload_n hx hb dX8_digest_58 rfl (lv_at hl 2 rfl) ?_
      refine lv_iload hx hb dX8_digest_59 (lv_at hl 3 rfl) ?_
      refine ce_qi (fw := fun u => u) (fy := fun _ => y) (cr_V (n := 2) (As := [.int (v3), .int (v4)]) (rest := [.long (v1 * ((31 : Int64)))]) ⟨hx, hb, hml, hown, hts⟩ hK hR (m_X8_lawNow hM l0 h) q2530 q2532 qs64 q85 q2533 rfl rfl hd_X8_lawNow ⟨Nat.le_of_ble_eq_true rfl, Nat.le_of_ble_eq_true rfl⟩ (rv hK hR l0 (ci := 11) rfl rfl) rfl rfl hl.1 rfl (lv_room (Nat.le_of_ble_eq_true rfl)) dX8_digest_61 ⟨(Nat.le_trans (show cells + 1 ≤ C1 from by omega) hC), (Nat.le_trans (show slots + 5 ≤ S1 from by omega) hSl)⟩) hR hS (fun r_61 w_61 H locs h hR _ hS => ?_)
      refine lv_i2l hx hb dX8_digest_64 rfl ?_
      refine lv_ladd hx hb dX8_digest_65 ?_
      refine lv_topl (fun x_66 ex_66 => ?_)
      have h := h x_66 ex_66
      refine lv_lstore_n (lv' := [(1, .long (x_66)), (0, .ref (y.2 20 0)), (3, .int (v3)), (4, .int (v4))]) hx hb dX8_digest_66 rfl hl (by decide) rfl (fun ls hl => ?_)
      obtain ⟨x_67, ex_67⟩ : ∃ z : Int32, z = v4 + (1 : Int32) := ⟨_, rfl⟩
      have h := h x_67 ex_67
      refine lv_iinc (v := x_67) (lv' := [(4, .int (x_67)), (1, .long (x_66)), (0, .ref (y.2 20 0)), (3, .int (v3))]) hx hb dX8_digest_67 hl (k := 3) rfl (by rw [ex_67]; rfl) (by decide) rfl (fun ls hl => ?_)
      refine lv_goto (tgt := 46) hx hb dX8_digest_70 (by decide) ?_
      exact ih w_61 x_66 x_67 _ _ _ _ _  h hR hS (lv_sub hl [2, 1, 3, 0] rfl) (by omega) (by omega)
def st_X8_digest_38 (κ : Kx) (y : Ly) (post : Int64 → Wd → Prop) (ex : Wd → (Int64) → Prop) (rec : Wd → Int64 → Int32 → Prop)  (w : Wd) (v1 : Int64) (v3 : Int32) : Prop := (((3 : Int32) ≤ v3) → (ex w v1)) ∧ ((¬ ((3 : Int32) ≤ v3)) → (sp_X8_digest_46 κ y post (fun w_46 y1_46 => sp_X8_directNow κ y (fun r_80 w_80 => ∀ x_85 : Int64, x_85 = (y1_46 * ((31 : Int64))) + r_80.toInt64 → ∀ x_86 : Int32, x_86 = v3 + (1 : Int32) → rec w_80 x_85 x_86) w_46 v3) v3 6 w v1 (0 : Int32)))
def sp_X8_digest_38 (κ : Kx) (y : Ly) (post : Int64 → Wd → Prop) (ex : Wd → (Int64) → Prop)  : Nat → Wd → Int64 → Int32 → Prop
  | 0 => fun _ _ _ => False
  | n + 1 => fun w v1 v3 => st_X8_digest_38 κ y post ex (sp_X8_digest_38 κ y post ex  n)  w v1 v3
set_option maxHeartbeats 4000000 in
theorem lp_X8_digest_38 {p : Program} {l : Launch} {e : Env} {s : State} {m : MethodId} {args : Array Value} {below : List Frame} {meth : Method} {c : Code} {κ : Kx} {y : Ly} {X : XR} {post : Int64 → Wd → Prop}  (hx : p.tables.exec = Jvm.exec) (hb : c.code = cX8_digest) (hr : meth.sig.returnType = (Option.some Jvm.ClassFile.FieldType.long)) (hml : c.maxLocals = 6) (hown : s.vm.findClass RX8 = some m.cls) (hts : ∀ w ∈ lw_all, w.before args s = true) (hlocks : meth.locks = false) (hK : KK κ s) (hM : WFm κ y) (l0 : live y 20 0) {C1 S1 : Nat} (hC : C1 ≤ 635) (hSl : S1 ≤ 5714) {ex : Wd → (Int64) → Prop}
    (kx : ∀ (w : Wd) (v1 : Int64) (H : Heap) (locs : List Loc) (ls : Array Slot) (cells slots : Nat) , ex w v1 → Rp κ w y X [] H → va_S (Af κ) s.heap H locs → lv_has ls 6 [(0, .ref (y.2 20 0)), (1, .long (v1))] → cells ≤ C1 → slots ≤ S1 → W p l e (headSpec (ws_ yX8_digest cX8_digest 6 (Option.some Jvm.ClassFile.FieldType.long)) rm_X8_digest).room s m args below meth c H locs cells slots (MQ below (va_Ql post (fun w t => Rp κ w y X [] t.heap) (Af κ)) args s 635 5714 (Af κ)) (F0 m 92 ls [])) :
    ∀ (f : Nat) (w : Wd) (v1 : Int64) (v3 : Int32) (H : Heap) (locs : List Loc) (ls : Array Slot) (cells slots : Nat)  , sp_X8_digest_38 κ y post ex  f w v1 v3 → Rp κ w y X [] H → va_S (Af κ) s.heap H locs → lv_has ls 6 [(0, .ref (y.2 20 0)), (1, .long (v1)), (3, .int (v3))] → cells + f * 15 ≤ C1 → slots + f * 66 ≤ S1 → W p l e (headSpec (ws_ yX8_digest cX8_digest 6 (Option.some Jvm.ClassFile.FieldType.long)) rm_X8_digest).room s m args below meth c H locs cells slots (MQ below (va_Ql post (fun w t => Rp κ w y X [] t.heap) (Af κ)) args s 635 5714 (Af κ)) (F0 m 38 ls []) := by
  intro f
  induction f with
  | zero =>
    intro w v1 v3 H locs ls cells slots  h
    exact False.elim h
  | succ f ih =>
    intro w v1 v3 H locs ls cells slots  h hR hS hl hc hs
    have h : st_X8_digest_38 κ y post ex (sp_X8_digest_38 κ y post ex  f)  w v1 v3 := h
    unfold st_X8_digest_38 at h
    refine lv_iload_n hx hb dX8_digest_38 rfl (lv_at hl 2 rfl) ?_
    refine lv_iconst (v := (3 : Int32)) hx hb dX8_digest_39 (by decide) ?_
    refine lv_icmp_ge (tgt := 92) hx hb dX8_digest_40 (by decide) (fun c_40 => ?_) (fun c_40 => ?_)
    · have h := h.1 c_40
      exact kx w v1 _ _ _ _ _ h hR hS (lv_sub hl [0, 1] rfl) (by omega) (by omega)
    · have h := h.2 c_40
      refine lv_iconst (v := (0 : Int32)) hx hb dX8_digest_43 (by decide) ?_
      refine lv_istore (lv' := [(4, .int ((0 : Int32))), (0, .ref (y.2 20 0)), (1, .long (v1)), (3, .int (v3))]) hx hb dX8_digest_44 hl (by decide) rfl (fun ls hl => ?_)
      refine lp_X8_digest_46 (C1 := (cells + 6)) (S1 := (slots + 30)) hx hb hr hml hown hts hlocks hK hM l0 (Nat.le_trans (by omega) hC) (Nat.le_trans (by omega) hSl) (fun w_46 y1_46 H locs ls cells9 slots9 h hR hS hl hc9 hs9 => ?_) 6 w v1 (0 : Int32) _ _ _ _ _  h hR hS (lv_sub hl [1, 2, 3, 0] rfl) (by omega) (by omega)
      refine W.widen (k := (cells + 6)) (n := (slots + 30)) hc9 hs9 ?_
      refine lv_lload_n hx hb dX8_digest_73 rfl (lv_at hl 1 rfl) ?_
      refine lv_ldc2 (v := (31 : Int64)) hx hb hown (hts _ q2634) dX8_digest_74 ?_
      refine lv_lmul hx hb dX8_digest_77 ?_
      refine lv_aload_n hx hb dX8_digest_78 rfl (lv_at hl 0 rfl) ?_
      refine lv_iload_n hx hb dX8_digest_79 rfl (lv_at hl 2 rfl) ?_
      refine ce_qi (fw := fun u => u) (fy := fun _ => y) (cr_V (n := 1) (As := [.int (v3)]) (rest := [.long (y1_46 * ((31 : Int64)))]) ⟨hx, hb, hml, hown, hts⟩ hK hR (m_X8_directNow hM l0 h) q2613 q2615 qs71 q85 q2616 rfl rfl hd_X8_directNow ⟨Nat.le_of_ble_eq_true rfl, Nat.le_of_ble_eq_true rfl⟩ (rv hK hR l0 (ci := 11) rfl rfl) rfl rfl hl.1 rfl (lv_room (Nat.le_of_ble_eq_true rfl)) dX8_digest_80 ⟨(Nat.le_trans (show cells + 6 + 9 ≤ C1 from by omega) hC), (Nat.le_trans (show slots + 30 + 36 ≤ S1 from by omega) hSl)⟩) hR hS (fun r_80 w_80 H locs h hR _ hS => ?_)
      refine lv_i2l hx hb dX8_digest_83 rfl ?_
      refine lv_ladd hx hb dX8_digest_84 ?_
      refine lv_topl (fun x_85 ex_85 => ?_)
      have h := h x_85 ex_85
      refine lv_lstore_n (lv' := [(1, .long (x_85)), (0, .ref (y.2 20 0)), (3, .int (v3))]) hx hb dX8_digest_85 rfl hl (by decide) rfl (fun ls hl => ?_)
      obtain ⟨x_86, ex_86⟩ : ∃ z : Int32, z = v3 + (1 : Int32) := ⟨_, rfl⟩
      have h := h x_86 ex_86
      refine lv_iinc (v := x_86) (lv' := [(3, .int (x_86)), (1, .long (x_85)), (0, .ref (y.2 20 0))]) hx hb dX8_digest_86 hl (k := 2) rfl (by rw [ex_86]; rfl) (by decide) rfl (fun ls hl => ?_)
      refine lv_goto (tgt := 38) hx hb dX8_digest_89 (by decide) ?_
      exact ih w_80 x_85 x_86 _ _ _ _ _  h hR hS (lv_sub hl [2, 1, 0] rfl) (by omega) (by omega)
def st_X8_digest_108 (κ : Kx) (y : Ly) (post : Int64 → Wd → Prop) (ex : Wd → (Int64) → Prop) (rec : Wd → Int64 → Int32 → Prop) (v3 : Int32) (w : Wd) (v1 : Int64) (v4 : Int32) : Prop := (((13 : Int32) < v4) → (ex w v1)) ∧ ((¬ ((13 : Int32) < v4)) → ((vp_in (v3) (mV y)) ∧ (sp_X8_ofVillageNow κ y (fun r_134 w_134 => ∀ x_139 : Int64, x_139 = (v1 * ((31 : Int64))) + r_134.toInt64 → ∀ x_140 : Int32, x_140 = v4 + (1 : Int32) → rec w_134 x_139 x_140) w (((v3).toNatClampNeg)) v4)))
def sp_X8_digest_108 (κ : Kx) (y : Ly) (post : Int64 → Wd → Prop) (ex : Wd → (Int64) → Prop) (v3 : Int32) : Nat → Wd → Int64 → Int32 → Prop
  | 0 => fun _ _ _ => False
  | n + 1 => fun w v1 v4 => st_X8_digest_108 κ y post ex (sp_X8_digest_108 κ y post ex v3 n) v3 w v1 v4
set_option maxHeartbeats 4000000 in
theorem lp_X8_digest_108 {p : Program} {l : Launch} {e : Env} {s : State} {m : MethodId} {args : Array Value} {below : List Frame} {meth : Method} {c : Code} {κ : Kx} {y : Ly} {X : XR} {post : Int64 → Wd → Prop} {v3 : Int32} (hx : p.tables.exec = Jvm.exec) (hb : c.code = cX8_digest) (hr : meth.sig.returnType = (Option.some Jvm.ClassFile.FieldType.long)) (hml : c.maxLocals = 6) (hown : s.vm.findClass RX8 = some m.cls) (hts : ∀ w ∈ lw_all, w.before args s = true) (hlocks : meth.locks = false) (hK : KK κ s) (hM : WFm κ y) (l0 : live y 20 0) {C1 S1 : Nat} (hC : C1 ≤ 635) (hSl : S1 ≤ 5714) {ex : Wd → (Int64) → Prop}
    (kx : ∀ (w : Wd) (v1 : Int64) (H : Heap) (locs : List Loc) (ls : Array Slot) (cells slots : Nat) , ex w v1 → Rp κ w y X [] H → va_S (Af κ) s.heap H locs → lv_has ls 6 [(0, .ref (y.2 20 0)), (1, .long (v1)), (3, .int (v3))] → cells ≤ C1 → slots ≤ S1 → W p l e (headSpec (ws_ yX8_digest cX8_digest 6 (Option.some Jvm.ClassFile.FieldType.long)) rm_X8_digest).room s m args below meth c H locs cells slots (MQ below (va_Ql post (fun w t => Rp κ w y X [] t.heap) (Af κ)) args s 635 5714 (Af κ)) (F0 m 146 ls [])) :
    ∀ (f : Nat) (w : Wd) (v1 : Int64) (v4 : Int32) (H : Heap) (locs : List Loc) (ls : Array Slot) (cells slots : Nat)  , sp_X8_digest_108 κ y post ex v3 f w v1 v4 → Rp κ w y X [] H → va_S (Af κ) s.heap H locs → lv_has ls 6 [(0, .ref (y.2 20 0)), (1, .long (v1)), (3, .int (v3)), (4, .int (v4))] → cells + f * 1 ≤ C1 → slots + f * 14 ≤ S1 → W p l e (headSpec (ws_ yX8_digest cX8_digest 6 (Option.some Jvm.ClassFile.FieldType.long)) rm_X8_digest).room s m args below meth c H locs cells slots (MQ below (va_Ql post (fun w t => Rp κ w y X [] t.heap) (Af κ)) args s 635 5714 (Af κ)) (F0 m 108 ls []) := by
  intro f
  induction f with
  | zero =>
    intro w v1 v4 H locs ls cells slots  h
    exact False.elim h
  | succ f ih =>
    intro w v1 v4 H locs ls cells slots  h hR hS hl hc hs
    have h : st_X8_digest_108 κ y post ex (sp_X8_digest_108 κ y post ex v3 f) v3 w v1 v4 := h
    unfold st_X8_digest_108 at h
    refine lv_iload hx hb dX8_digest_108 (lv_at hl 3 rfl) ?_
    refine lv_bipush (v := (13 : Int32)) hx hb dX8_digest_110 (by decide) ?_
    refine lv_icmp_gt (tgt := 146) hx hb dX8_digest_112 (by decide) (fun c_112 => ?_) (fun c_112 => ?_)
    · have h := h.1 c_112
      exact kx w v1 _ _ _ _ _ h hR hS (lv_sub hl [0, 1, 2] rfl) (by omega) (by omega)
    · have h := h.2 c_112
      refine lv_lload_n hx hb dX8_digest_115 rfl (lv_at hl 1 rfl) ?_
      refine lv_ldc2 (v := (31 : Int64)) hx hb hown (hts _ q2634) dX8_digest_116 ?_
      refine lv_lmul hx hb dX8_digest_119 ?_
      refine lv_aload_n hx hb dX8_digest_120 rfl (lv_at hl 0 rfl) ?_
      refine lv_aload_n hx hb dX8_digest_121 rfl (lv_at hl 0 rfl) ?_
      refine g20_3 hx hb hts hown hK hR l0 q1948 dX8_digest_122 ?_
      refine lv_iload_n hx hb dX8_digest_125 rfl (lv_at hl 2 rfl) ?_
      have o_126 := h.1
      have h := h.2
      refine jr_get (a := y.2 21 ((v3).toNatClampNeg)) ⟨hx, hb, hml, hown, hts⟩ hK hR ⟨fun _ _ _ _ _ => rfl, fun _ _ _ _ _ => rfl⟩ hM.lsV ⟨hM.arV (Nat.lt_of_le_of_lt (Nat.zero_le _) (vp_lt o_126)), (Nat.le_trans hM.mV8 (by decide))⟩ o_126 (hM.elV (vp_lt o_126)) q2101 ⟨Nat.le_of_ble_eq_true rfl, Nat.le_of_ble_eq_true rfl⟩ hl.1 (Nat.le_of_ble_eq_true rfl) dX8_digest_126 ⟨(Nat.le_trans (show cells + 0 ≤ C1 from by omega) hC), (Nat.le_trans (show slots + 0 ≤ S1 from by omega) hSl)⟩ ?_
      refine jr_castS (ci := 12) hx hb hown hK hts (hR.role (hM.vil (vp_lt o_126))) rfl q2032 dX8_digest_129 ?_
      refine lv_iload hx hb dX8_digest_132 (lv_at hl 3 rfl) ?_
      refine ce_qi (fw := fun u => u) (fy := fun _ => y) (cr_V (n := 2) (As := [.ref (y.2 21 ((v3).toNatClampNeg)), .int (v4)]) (rest := [.long (v1 * ((31 : Int64)))]) ⟨hx, hb, hml, hown, hts⟩ hK hR (m_X8_ofVillageNow hM l0 (hM.vil (vp_lt o_126)) h) q2510 q2512 qs62 q85 q2513 rfl rfl hd_X8_ofVillageNow ⟨Nat.le_of_ble_eq_true rfl, Nat.le_of_ble_eq_true rfl⟩ (rv hK hR l0 (ci := 11) rfl rfl) rfl rfl hl.1 rfl (lv_room (Nat.le_of_ble_eq_true rfl)) dX8_digest_134 ⟨(Nat.le_trans (show cells + 1 ≤ C1 from by omega) hC), (Nat.le_trans (show slots + 14 ≤ S1 from by omega) hSl)⟩) hR hS (fun r_134 w_134 H locs h hR _ hS => ?_)
      refine lv_i2l hx hb dX8_digest_137 rfl ?_
      refine lv_ladd hx hb dX8_digest_138 ?_
      refine lv_topl (fun x_139 ex_139 => ?_)
      have h := h x_139 ex_139
      refine lv_lstore_n (lv' := [(1, .long (x_139)), (0, .ref (y.2 20 0)), (3, .int (v3)), (4, .int (v4))]) hx hb dX8_digest_139 rfl hl (by decide) rfl (fun ls hl => ?_)
      obtain ⟨x_140, ex_140⟩ : ∃ z : Int32, z = v4 + (1 : Int32) := ⟨_, rfl⟩
      have h := h x_140 ex_140
      refine lv_iinc (v := x_140) (lv' := [(4, .int (x_140)), (1, .long (x_139)), (0, .ref (y.2 20 0)), (3, .int (v3))]) hx hb dX8_digest_140 hl (k := 3) rfl (by rw [ex_140]; rfl) (by decide) rfl (fun ls hl => ?_)
      refine lv_goto (tgt := 108) hx hb dX8_digest_143 (by decide) ?_
      exact ih w_134 x_139 x_140 _ _ _ _ _  h hR hS (lv_sub hl [2, 1, 3, 0] rfl) (by omega) (by omega)
def st_X8_digest_190 (κ : Kx) (y : Ly) (post : Int64 → Wd → Prop) (ex : Wd → (Int64) → Prop) (rec : Wd → Int64 → Int32 → Prop) (v3 : Int32) (v4 : Int32) (w : Wd) (v1 : Int64) (v5 : Int32) : Prop := (((5 : Int32) < v5) → (ex w v1)) ∧ ((¬ ((5 : Int32) < v5)) → (sp_X8_levyNow κ y (fun r_207 w_207 => ∀ x_212 : Int64, x_212 = (v1 * ((31 : Int64))) + r_207.toInt64 → ∀ x_213 : Int32, x_213 = v5 + (1 : Int32) → rec w_207 x_212 x_213) w v3 v4 v5))
def sp_X8_digest_190 (κ : Kx) (y : Ly) (post : Int64 → Wd → Prop) (ex : Wd → (Int64) → Prop) (v3 : Int32) (v4 : Int32) : Nat → Wd → Int64 → Int32 → Prop
  | 0 => fun _ _ _ => False
  | n + 1 => fun w v1 v5 => st_X8_digest_190 κ y post ex (sp_X8_digest_190 κ y post ex v3 v4 n) v3 v4 w v1 v5
set_option maxHeartbeats 4000000 in
theorem lp_X8_digest_190 {p : Program} {l : Launch} {e : Env} {s : State} {m : MethodId} {args : Array Value} {below : List Frame} {meth : Method} {c : Code} {κ : Kx} {y : Ly} {X : XR} {post : Int64 → Wd → Prop} {v3 : Int32} {v4 : Int32} (hx : p.tables.exec = Jvm.exec) (hb : c.code = cX8_digest) (hr : meth.sig.returnType = (Option.some Jvm.ClassFile.FieldType.long)) (hml : c.maxLocals = 6) (hown : s.vm.findClass RX8 = some m.cls) (hts : ∀ w ∈ lw_all, w.before args s = true) (hlocks : meth.locks = false) (hK : KK κ s) (hM : WFm κ y) (l0 : live y 20 0) {C1 S1 : Nat} (hC : C1 ≤ 635) (hSl : S1 ≤ 5714) {ex : Wd → (Int64) → Prop}
    (kx : ∀ (w : Wd) (v1 : Int64) (H : Heap) (locs : List Loc) (ls : Array Slot) (cells slots : Nat) , ex w v1 → Rp κ w y X [] H → va_S (Af κ) s.heap H locs → lv_has ls 6 [(0, .ref (y.2 20 0)), (1, .long (v1)), (3, .int (v3)), (4, .int (v4))] → cells ≤ C1 → slots ≤ S1 → W p l e (headSpec (ws_ yX8_digest cX8_digest 6 (Option.some Jvm.ClassFile.FieldType.long)) rm_X8_digest).room s m args below meth c H locs cells slots (MQ below (va_Ql post (fun w t => Rp κ w y X [] t.heap) (Af κ)) args s 635 5714 (Af κ)) (F0 m 219 ls [])) :
    ∀ (f : Nat) (w : Wd) (v1 : Int64) (v5 : Int32) (H : Heap) (locs : List Loc) (ls : Array Slot) (cells slots : Nat)  , sp_X8_digest_190 κ y post ex v3 v4 f w v1 v5 → Rp κ w y X [] H → va_S (Af κ) s.heap H locs → lv_has ls 6 [(0, .ref (y.2 20 0)), (1, .long (v1)), (3, .int (v3)), (4, .int (v4)), (5, .int (v5))] → cells + f * 0 ≤ C1 → slots + f * 0 ≤ S1 → W p l e (headSpec (ws_ yX8_digest cX8_digest 6 (Option.some Jvm.ClassFile.FieldType.long)) rm_X8_digest).room s m args below meth c H locs cells slots (MQ below (va_Ql post (fun w t => Rp κ w y X [] t.heap) (Af κ)) args s 635 5714 (Af κ)) (F0 m 190 ls []) := by
  intro f
  induction f with
  | zero =>
    intro w v1 v5 H locs ls cells slots  h
    exact False.elim h
  | succ f ih =>
    intro w v1 v5 H locs ls cells slots  h hR hS hl hc hs
    have h : st_X8_digest_190 κ y post ex (sp_X8_digest_190 κ y post ex v3 v4 f) v3 v4 w v1 v5 := h
    unfold st_X8_digest_190 at h
    refine lv_iload hx hb dX8_digest_190 (lv_at hl 4 rfl) ?_
    refine lv_iconst (v := (5 : Int32)) hx hb dX8_digest_192 (by decide) ?_
    refine lv_icmp_gt (tgt := 219) hx hb dX8_digest_193 (by decide) (fun c_193 => ?_) (fun c_193 => ?_)
    · have h := h.1 c_193
      exact kx w v1 _ _ _ _ _ h hR hS (lv_sub hl [0, 1, 2, 3] rfl) (by omega) (by omega)
    · have h := h.2 c_193
      refine lv_lload_n hx hb dX8_digest_196 rfl (lv_at hl 1 rfl) ?_
      refine lv_ldc2 (v := (31 : Int64)) hx hb hown (hts _ q2634) dX8_digest_197 ?_
      refine lv_lmul hx hb dX8_digest_200 ?_
      refine lv_aload_n hx hb dX8_digest_201 rfl (lv_at hl 0 rfl) ?_
      refine lv_iload_n hx hb dX8_digest_202 rfl (lv_at hl 2 rfl) ?_
      refine lv_iload hx hb dX8_digest_203 (lv_at hl 3 rfl) ?_
      refine lv_iload hx hb dX8_digest_205 (lv_at hl 4 rfl) ?_
      refine ce_qi (fw := fun u => u) (fy := fun _ => y) (cr_V (n := 3) (As := [.int (v3), .int (v4), .int (v5)]) (rest := [.long (v1 * ((31 : Int64)))]) ⟨hx, hb, hml, hown, hts⟩ hK hR (m_X8_levyNow hM l0 h) q2522 q2524 qs63 q85 q2525 rfl rfl hd_X8_levyNow ⟨Nat.le_of_ble_eq_true rfl, Nat.le_of_ble_eq_true rfl⟩ (rv hK hR l0 (ci := 11) rfl rfl) rfl rfl hl.1 rfl (lv_room (Nat.le_of_ble_eq_true rfl)) dX8_digest_207 ⟨(Nat.le_trans (show cells + 0 ≤ C1 from by omega) hC), (Nat.le_trans (show slots + 0 ≤ S1 from by omega) hSl)⟩) hR hS (fun r_207 w_207 H locs h hR _ hS => ?_)
      refine lv_i2l hx hb dX8_digest_210 rfl ?_
      refine lv_ladd hx hb dX8_digest_211 ?_
      refine lv_topl (fun x_212 ex_212 => ?_)
      have h := h x_212 ex_212
      refine lv_lstore_n (lv' := [(1, .long (x_212)), (0, .ref (y.2 20 0)), (3, .int (v3)), (4, .int (v4)), (5, .int (v5))]) hx hb dX8_digest_212 rfl hl (by decide) rfl (fun ls hl => ?_)
      obtain ⟨x_213, ex_213⟩ : ∃ z : Int32, z = v5 + (1 : Int32) := ⟨_, rfl⟩
      have h := h x_213 ex_213
      refine lv_iinc (v := x_213) (lv' := [(5, .int (x_213)), (1, .long (x_212)), (0, .ref (y.2 20 0)), (3, .int (v3)), (4, .int (v4))]) hx hb dX8_digest_213 hl (k := 4) rfl (by rw [ex_213]; rfl) (by decide) rfl (fun ls hl => ?_)
      refine lv_goto (tgt := 190) hx hb dX8_digest_216 (by decide) ?_
      exact ih w_207 x_212 x_213 _ _ _ _ _  h hR hS (lv_sub hl [2, 1, 3, 4, 0] rfl) (by omega) (by omega)
def st_X8_digest_149 (κ : Kx) (y : Ly) (post : Int64 → Wd → Prop) (ex : Wd → (Int64) → Prop) (rec : Wd → Int64 → Int32 → Prop) (v3 : Int32) (w : Wd) (v1 : Int64) (v4 : Int32) : Prop := (((3 : Int32) ≤ v4) → (ex w v1)) ∧ ((¬ ((3 : Int32) ≤ v4)) → (sp_X8_dueNow κ y (fun r_165 w_165 => ∀ x_170 : Int64, x_170 = (v1 * ((31 : Int64))) + r_165.toInt64 → sp_X8_dueNow κ y (fun r_181 w_181 => ∀ x_186 : Int64, x_186 = (x_170 * ((31 : Int64))) + r_181.toInt64 → sp_X8_digest_190 κ y post (fun w_190 y1_190 => ∀ x_219 : Int32, x_219 = v4 + (1 : Int32) → rec w_190 y1_190 x_219) v3 v4 7 w_181 x_186 (0 : Int32)) w_165 v3 v4 (1 : Int32)) w v3 v4 (0 : Int32)))
def sp_X8_digest_149 (κ : Kx) (y : Ly) (post : Int64 → Wd → Prop) (ex : Wd → (Int64) → Prop) (v3 : Int32) : Nat → Wd → Int64 → Int32 → Prop
  | 0 => fun _ _ _ => False
  | n + 1 => fun w v1 v4 => st_X8_digest_149 κ y post ex (sp_X8_digest_149 κ y post ex v3 n) v3 w v1 v4
set_option maxHeartbeats 4000000 in
theorem lp_X8_digest_149 {p : Program} {l : Launch} {e : Env} {s : State} {m : MethodId} {args : Array Value} {below : List Frame} {meth : Method} {c : Code} {κ : Kx} {y : Ly} {X : XR} {post : Int64 → Wd → Prop} {v3 : Int32} (hx : p.tables.exec = Jvm.exec) (hb : c.code = cX8_digest) (hr : meth.sig.returnType = (Option.some Jvm.ClassFile.FieldType.long)) (hml : c.maxLocals = 6) (hown : s.vm.findClass RX8 = some m.cls) (hts : ∀ w ∈ lw_all, w.before args s = true) (hlocks : meth.locks = false) (hK : KK κ s) (hM : WFm κ y) (l0 : live y 20 0) {C1 S1 : Nat} (hC : C1 ≤ 635) (hSl : S1 ≤ 5714) {ex : Wd → (Int64) → Prop}
    (kx : ∀ (w : Wd) (v1 : Int64) (H : Heap) (locs : List Loc) (ls : Array Slot) (cells slots : Nat) , ex w v1 → Rp κ w y X [] H → va_S (Af κ) s.heap H locs → lv_has ls 6 [(0, .ref (y.2 20 0)), (1, .long (v1)), (3, .int (v3))] → cells ≤ C1 → slots ≤ S1 → W p l e (headSpec (ws_ yX8_digest cX8_digest 6 (Option.some Jvm.ClassFile.FieldType.long)) rm_X8_digest).room s m args below meth c H locs cells slots (MQ below (va_Ql post (fun w t => Rp κ w y X [] t.heap) (Af κ)) args s 635 5714 (Af κ)) (F0 m 225 ls [])) :
    ∀ (f : Nat) (w : Wd) (v1 : Int64) (v4 : Int32) (H : Heap) (locs : List Loc) (ls : Array Slot) (cells slots : Nat)  , sp_X8_digest_149 κ y post ex v3 f w v1 v4 → Rp κ w y X [] H → va_S (Af κ) s.heap H locs → lv_has ls 6 [(0, .ref (y.2 20 0)), (1, .long (v1)), (3, .int (v3)), (4, .int (v4))] → cells + f * 0 ≤ C1 → slots + f * 0 ≤ S1 → W p l e (headSpec (ws_ yX8_digest cX8_digest 6 (Option.some Jvm.ClassFile.FieldType.long)) rm_X8_digest).room s m args below meth c H locs cells slots (MQ below (va_Ql post (fun w t => Rp κ w y X [] t.heap) (Af κ)) args s 635 5714 (Af κ)) (F0 m 149 ls []) := by
  intro f
  induction f with
  | zero =>
    intro w v1 v4 H locs ls cells slots  h
    exact False.elim h
  | succ f ih =>
    intro w v1 v4 H locs ls cells slots  h hR hS hl hc hs
    have h : st_X8_digest_149 κ y post ex (sp_X8_digest_149 κ y post ex v3 f) v3 w v1 v4 := h
    unfold st_X8_digest_149 at h
    refine lv_iload hx hb dX8_digest_149 (lv_at hl 3 rfl) ?_
    refine lv_iconst (v := (3 : Int32)) hx hb dX8_digest_151 (by decide) ?_
    refine lv_icmp_ge (tgt := 225) hx hb dX8_digest_152 (by decide) (fun c_152 => ?_) (fun c_152 => ?_)
    · have h := h.1 c_152
      exact kx w v1 _ _ _ _ _ h hR hS (lv_sub hl [0, 1, 2] rfl) (by omega) (by omega)
    · have h := h.2 c_152
      refine lv_lload_n hx hb dX8_digest_155 rfl (lv_at hl 1 rfl) ?_
      refine lv_ldc2 (v := (31 : Int64)) hx hb hown (hts _ q2634) dX8_digest_156 ?_
      refine lv_lmul hx hb dX8_digest_159 ?_
      refine lv_aload_n hx hb dX8_digest_160 rfl (lv_at hl 0 rfl) ?_
      refine lv_iload_n hx hb dX8_digest_161 rfl (lv_at hl 2 rfl) ?_
      refine lv_iload hx hb dX8_digest_162 (lv_at hl 3 rfl) ?_
      refine lv_iconst (v := (0 : Int32)) hx hb dX8_digest_164 (by decide) ?_
      refine ce_qi (fw := fun u => u) (fy := fun _ => y) (cr_V (n := 3) (As := [.int (v3), .int (v4), .int ((0 : Int32))]) (rest := [.long (v1 * ((31 : Int64)))]) ⟨hx, hb, hml, hown, hts⟩ hK hR (m_X8_dueNow hM l0 h) q2472 q2474 qs56 q85 q2475 rfl rfl hd_X8_dueNow ⟨Nat.le_of_ble_eq_true rfl, Nat.le_of_ble_eq_true rfl⟩ (rv hK hR l0 (ci := 11) rfl rfl) rfl rfl hl.1 rfl (lv_room (Nat.le_of_ble_eq_true rfl)) dX8_digest_165 ⟨(Nat.le_trans (show cells + 0 ≤ C1 from by omega) hC), (Nat.le_trans (show slots + 0 ≤ S1 from by omega) hSl)⟩) hR hS (fun r_165 w_165 H locs h hR _ hS => ?_)
      refine lv_i2l hx hb dX8_digest_168 rfl ?_
      refine lv_ladd hx hb dX8_digest_169 ?_
      refine lv_topl (fun x_170 ex_170 => ?_)
      have h := h x_170 ex_170
      refine lv_lstore_n (lv' := [(1, .long (x_170)), (0, .ref (y.2 20 0)), (3, .int (v3)), (4, .int (v4))]) hx hb dX8_digest_170 rfl hl (by decide) rfl (fun ls hl => ?_)
      refine lv_lload_n hx hb dX8_digest_171 rfl (lv_at hl 0 rfl) ?_
      refine lv_ldc2 (v := (31 : Int64)) hx hb hown (hts _ q2634) dX8_digest_172 ?_
      refine lv_lmul hx hb dX8_digest_175 ?_
      refine lv_aload_n hx hb dX8_digest_176 rfl (lv_at hl 1 rfl) ?_
      refine lv_iload_n hx hb dX8_digest_177 rfl (lv_at hl 2 rfl) ?_
      refine lv_iload hx hb dX8_digest_178 (lv_at hl 3 rfl) ?_
      refine lv_iconst (v := (1 : Int32)) hx hb dX8_digest_180 (by decide) ?_
      refine ce_qi (fw := fun u => u) (fy := fun _ => y) (cr_V (n := 3) (As := [.int (v3), .int (v4), .int ((1 : Int32))]) (rest := [.long (x_170 * ((31 : Int64)))]) ⟨hx, hb, hml, hown, hts⟩ hK hR (m_X8_dueNow hM l0 h) q2472 q2474 qs56 q85 q2475 rfl rfl hd_X8_dueNow ⟨Nat.le_of_ble_eq_true rfl, Nat.le_of_ble_eq_true rfl⟩ (rv hK hR l0 (ci := 11) rfl rfl) rfl rfl hl.1 rfl (lv_room (Nat.le_of_ble_eq_true rfl)) dX8_digest_181 ⟨(Nat.le_trans (show cells + 0 ≤ C1 from by omega) hC), (Nat.le_trans (show slots + 0 ≤ S1 from by omega) hSl)⟩) hR hS (fun r_181 w_181 H locs h hR _ hS => ?_)
      refine lv_i2l hx hb dX8_digest_184 rfl ?_
      refine lv_ladd hx hb dX8_digest_185 ?_
      refine lv_topl (fun x_186 ex_186 => ?_)
      have h := h x_186 ex_186
      refine lv_lstore_n (lv' := [(1, .long (x_186)), (0, .ref (y.2 20 0)), (3, .int (v3)), (4, .int (v4))]) hx hb dX8_digest_186 rfl hl (by decide) rfl (fun ls hl => ?_)
      refine lv_iconst (v := (0 : Int32)) hx hb dX8_digest_187 (by decide) ?_
      refine lv_istore (lv' := [(5, .int ((0 : Int32))), (1, .long (x_186)), (0, .ref (y.2 20 0)), (3, .int (v3)), (4, .int (v4))]) hx hb dX8_digest_188 hl (by decide) rfl (fun ls hl => ?_)
      refine lp_X8_digest_190 (C1 := (cells + 0)) (S1 := (slots + 0)) hx hb hr hml hown hts hlocks hK hM l0 (Nat.le_trans (by omega) hC) (Nat.le_trans (by omega) hSl) (fun w_190 y1_190 H locs ls cells9 slots9 h hR hS hl hc9 hs9 => ?_) 7 w_181 x_186 (0 : Int32) _ _ _ _ _  h hR hS (lv_sub hl [2, 1, 3, 4, 0] rfl) (by omega) (by omega)
      refine W.widen (k := (cells + 0)) (n := (slots + 0)) hc9 hs9 ?_
      obtain ⟨x_219, ex_219⟩ : ∃ z : Int32, z = v4 + (1 : Int32) := ⟨_, rfl⟩
      have h := h x_219 ex_219
      refine lv_iinc (v := x_219) (lv' := [(4, .int (x_219)), (0, .ref (y.2 20 0)), (1, .long (y1_190)), (3, .int (v3))]) hx hb dX8_digest_219 hl (k := 3) rfl (by rw [ex_219]; rfl) (by decide) rfl (fun ls hl => ?_)
      refine lv_goto (tgt := 149) hx hb dX8_digest_222 (by decide) ?_
      exact ih w_190 y1_190 x_219 _ _ _ _ _  h hR hS (lv_sub hl [1, 2, 3, 0] rfl) (by omega) (by omega)
def st_X8_digest_94 (κ : Kx) (y : Ly) (post : Int64 → Wd → Prop) (ex : Wd → (Int64) → Prop) (rec : Wd → Int64 → Int32 → Prop)  (w : Wd) (v1 : Int64) (v3 : Int32) : Prop := ((nI (mV y) ≤ v3) → (ex w v1)) ∧ ((¬ (nI (mV y) ≤ v3)) → (sp_X8_digest_108 κ y post (fun w_108 y1_108 => sp_X8_digest_149 κ y post (fun w_149 y1_149 => ∀ x_225 : Int32, x_225 = v3 + (1 : Int32) → rec w_149 y1_149 x_225) v3 4 w_108 y1_108 (0 : Int32)) v3 15 w v1 (0 : Int32)))
def sp_X8_digest_94 (κ : Kx) (y : Ly) (post : Int64 → Wd → Prop) (ex : Wd → (Int64) → Prop)  : Nat → Wd → Int64 → Int32 → Prop
  | 0 => fun _ _ _ => False
  | n + 1 => fun w v1 v3 => st_X8_digest_94 κ y post ex (sp_X8_digest_94 κ y post ex  n)  w v1 v3
set_option maxHeartbeats 4000000 in
theorem lp_X8_digest_94 {p : Program} {l : Launch} {e : Env} {s : State} {m : MethodId} {args : Array Value} {below : List Frame} {meth : Method} {c : Code} {κ : Kx} {y : Ly} {X : XR} {post : Int64 → Wd → Prop}  (hx : p.tables.exec = Jvm.exec) (hb : c.code = cX8_digest) (hr : meth.sig.returnType = (Option.some Jvm.ClassFile.FieldType.long)) (hml : c.maxLocals = 6) (hown : s.vm.findClass RX8 = some m.cls) (hts : ∀ w ∈ lw_all, w.before args s = true) (hlocks : meth.locks = false) (hK : KK κ s) (hM : WFm κ y) (l0 : live y 20 0) {C1 S1 : Nat} (hC : C1 ≤ 635) (hSl : S1 ≤ 5714) {ex : Wd → (Int64) → Prop}
    (kx : ∀ (w : Wd) (v1 : Int64) (H : Heap) (locs : List Loc) (ls : Array Slot) (cells slots : Nat) , ex w v1 → Rp κ w y X [] H → va_S (Af κ) s.heap H locs → lv_has ls 6 [(0, .ref (y.2 20 0)), (1, .long (v1))] → cells ≤ C1 → slots ≤ S1 → W p l e (headSpec (ws_ yX8_digest cX8_digest 6 (Option.some Jvm.ClassFile.FieldType.long)) rm_X8_digest).room s m args below meth c H locs cells slots (MQ below (va_Ql post (fun w t => Rp κ w y X [] t.heap) (Af κ)) args s 635 5714 (Af κ)) (F0 m 231 ls [])) :
    ∀ (f : Nat) (w : Wd) (v1 : Int64) (v3 : Int32) (H : Heap) (locs : List Loc) (ls : Array Slot) (cells slots : Nat)  , sp_X8_digest_94 κ y post ex  f w v1 v3 → Rp κ w y X [] H → va_S (Af κ) s.heap H locs → lv_has ls 6 [(0, .ref (y.2 20 0)), (1, .long (v1)), (3, .int (v3))] → cells + f * 15 ≤ C1 → slots + f * 210 ≤ S1 → W p l e (headSpec (ws_ yX8_digest cX8_digest 6 (Option.some Jvm.ClassFile.FieldType.long)) rm_X8_digest).room s m args below meth c H locs cells slots (MQ below (va_Ql post (fun w t => Rp κ w y X [] t.heap) (Af κ)) args s 635 5714 (Af κ)) (F0 m 94 ls []) := by
  intro f
  induction f with
  | zero =>
    intro w v1 v3 H locs ls cells slots  h
    exact False.elim h
  | succ f ih =>
    intro w v1 v3 H locs ls cells slots  h hR hS hl hc hs
    have h : st_X8_digest_94 κ y post ex (sp_X8_digest_94 κ y post ex  f)  w v1 v3 := h
    unfold st_X8_digest_94 at h
    refine lv_iload_n hx hb dX8_digest_94 rfl (lv_at hl 2 rfl) ?_
    refine lv_aload_n hx hb dX8_digest_95 rfl (lv_at hl 0 rfl) ?_
    refine g20_3 hx hb hts hown hK hR l0 q1948 dX8_digest_96 ?_
    refine jr_size ⟨hx, hb, hml, hown, hts⟩ hK hR ⟨fun _ _ _ _ _ => rfl, fun _ _ _ _ _ => rfl⟩ hM.lsV q2031 ⟨Nat.le_of_ble_eq_true rfl, Nat.le_of_ble_eq_true rfl⟩ hl.1 (Nat.le_of_ble_eq_true rfl) dX8_digest_99 ⟨(Nat.le_trans (show cells + 0 ≤ C1 from by omega) hC), (Nat.le_trans (show slots + 0 ≤ S1 from by omega) hSl)⟩ ?_
    refine lv_icmp_ge (tgt := 231) hx hb dX8_digest_102 (by decide) (fun c_102 => ?_) (fun c_102 => ?_)
    · have h := h.1 c_102
      exact kx w v1 _ _ _ _ _ h hR hS (lv_sub hl [0, 1] rfl) (by omega) (by omega)
    · have h := h.2 c_102
      refine lv_iconst (v := (0 : Int32)) hx hb dX8_digest_105 (by decide) ?_
      refine lv_istore (lv' := [(4, .int ((0 : Int32))), (0, .ref (y.2 20 0)), (1, .long (v1)), (3, .int (v3))]) hx hb dX8_digest_106 hl (by decide) rfl (fun ls hl => ?_)
      refine lp_X8_digest_108 (C1 := (cells + 15)) (S1 := (slots + 210)) hx hb hr hml hown hts hlocks hK hM l0 (Nat.le_trans (by omega) hC) (Nat.le_trans (by omega) hSl) (fun w_108 y1_108 H locs ls cells9 slots9 h hR hS hl hc9 hs9 => ?_) 15 w v1 (0 : Int32) _ _ _ _ _  h hR hS (lv_sub hl [1, 2, 3, 0] rfl) (by omega) (by omega)
      refine W.widen (k := (cells + 15)) (n := (slots + 210)) hc9 hs9 ?_
      refine lv_iconst (v := (0 : Int32)) hx hb dX8_digest_146 (by decide) ?_
      refine lv_istore (lv' := [(4, .int ((0 : Int32))), (0, .ref (y.2 20 0)), (1, .long (y1_108)), (3, .int (v3))]) hx hb dX8_digest_147 hl (by decide) rfl (fun ls hl => ?_)
      refine lp_X8_digest_149 (C1 := (cells + 15)) (S1 := (slots + 210)) hx hb hr hml hown hts hlocks hK hM l0 (Nat.le_trans (by omega) hC) (Nat.le_trans (by omega) hSl) (fun w_149 y1_149 H locs ls cells9 slots9 h hR hS hl hc9 hs9 => ?_) 4 w_108 y1_108 (0 : Int32) _ _ _ _ _  h hR hS (lv_sub hl [1, 2, 3, 0] rfl) (by omega) (by omega)
      refine W.widen (k := (cells + 15)) (n := (slots + 210)) hc9 hs9 ?_
      obtain ⟨x_225, ex_225⟩ : ∃ z : Int32, z = v3 + (1 : Int32) := ⟨_, rfl⟩
      have h := h x_225 ex_225
      refine lv_iinc (v := x_225) (lv' := [(3, .int (x_225)), (0, .ref (y.2 20 0)), (1, .long (y1_149))]) hx hb dX8_digest_225 hl (k := 2) rfl (by rw [ex_225]; rfl) (by decide) rfl (fun ls hl => ?_)
      refine lv_goto (tgt := 94) hx hb dX8_digest_228 (by decide) ?_
      exact ih w_149 y1_149 x_225 _ _ _ _ _  h hR hS (lv_sub hl [1, 2, 0] rfl) (by omega) (by omega)
def st_X8_digest_247 (κ : Kx) (y : Ly) (post : Int64 → Wd → Prop) (ex : Wd → (Int64) → Prop) (rec : Wd → Int64 → Int32 → Prop) (v3 : Int32) (w : Wd) (v1 : Int64) (v4 : Int32) : Prop := (((12 : Int32) < v4) → (ex w v1)) ∧ ((¬ ((12 : Int32) < v4)) → (sp_X8_ofCompanyNow κ y (fun r_263 w_263 => ∀ x_268 : Int64, x_268 = (v1 * ((31 : Int64))) + r_263.toInt64 → ∀ x_269 : Int32, x_269 = v4 + (1 : Int32) → rec w_263 x_268 x_269) w v3 v4))
def sp_X8_digest_247 (κ : Kx) (y : Ly) (post : Int64 → Wd → Prop) (ex : Wd → (Int64) → Prop) (v3 : Int32) : Nat → Wd → Int64 → Int32 → Prop
  | 0 => fun _ _ _ => False
  | n + 1 => fun w v1 v4 => st_X8_digest_247 κ y post ex (sp_X8_digest_247 κ y post ex v3 n) v3 w v1 v4
set_option maxHeartbeats 4000000 in
theorem lp_X8_digest_247 {p : Program} {l : Launch} {e : Env} {s : State} {m : MethodId} {args : Array Value} {below : List Frame} {meth : Method} {c : Code} {κ : Kx} {y : Ly} {X : XR} {post : Int64 → Wd → Prop} {v3 : Int32} (hx : p.tables.exec = Jvm.exec) (hb : c.code = cX8_digest) (hr : meth.sig.returnType = (Option.some Jvm.ClassFile.FieldType.long)) (hml : c.maxLocals = 6) (hown : s.vm.findClass RX8 = some m.cls) (hts : ∀ w ∈ lw_all, w.before args s = true) (hlocks : meth.locks = false) (hK : KK κ s) (hM : WFm κ y) (l0 : live y 20 0) {C1 S1 : Nat} (hC : C1 ≤ 635) (hSl : S1 ≤ 5714) {ex : Wd → (Int64) → Prop}
    (kx : ∀ (w : Wd) (v1 : Int64) (H : Heap) (locs : List Loc) (ls : Array Slot) (cells slots : Nat) , ex w v1 → Rp κ w y X [] H → va_S (Af κ) s.heap H locs → lv_has ls 6 [(0, .ref (y.2 20 0)), (1, .long (v1)), (3, .int (v3))] → cells ≤ C1 → slots ≤ S1 → W p l e (headSpec (ws_ yX8_digest cX8_digest 6 (Option.some Jvm.ClassFile.FieldType.long)) rm_X8_digest).room s m args below meth c H locs cells slots (MQ below (va_Ql post (fun w t => Rp κ w y X [] t.heap) (Af κ)) args s 635 5714 (Af κ)) (F0 m 275 ls [])) :
    ∀ (f : Nat) (w : Wd) (v1 : Int64) (v4 : Int32) (H : Heap) (locs : List Loc) (ls : Array Slot) (cells slots : Nat)  , sp_X8_digest_247 κ y post ex v3 f w v1 v4 → Rp κ w y X [] H → va_S (Af κ) s.heap H locs → lv_has ls 6 [(0, .ref (y.2 20 0)), (1, .long (v1)), (3, .int (v3)), (4, .int (v4))] → cells + f * 4 ≤ C1 → slots + f * 25 ≤ S1 → W p l e (headSpec (ws_ yX8_digest cX8_digest 6 (Option.some Jvm.ClassFile.FieldType.long)) rm_X8_digest).room s m args below meth c H locs cells slots (MQ below (va_Ql post (fun w t => Rp κ w y X [] t.heap) (Af κ)) args s 635 5714 (Af κ)) (F0 m 247 ls []) := by
  intro f
  induction f with
  | zero =>
    intro w v1 v4 H locs ls cells slots  h
    exact False.elim h
  | succ f ih =>
    intro w v1 v4 H locs ls cells slots  h hR hS hl hc hs
    have h : st_X8_digest_247 κ y post ex (sp_X8_digest_247 κ y post ex v3 f) v3 w v1 v4 := h
    unfold st_X8_digest_247 at h
    refine lv_iload hx hb dX8_digest_247 (lv_at hl 3 rfl) ?_
    refine lv_bipush (v := (12 : Int32)) hx hb dX8_digest_249 (by decide) ?_
    refine lv_icmp_gt (tgt := 275) hx hb dX8_digest_251 (by decide) (fun c_251 => ?_) (fun c_251 => ?_)
    · have h := h.1 c_251
      exact kx w v1 _ _ _ _ _ h hR hS (lv_sub hl [0, 1, 2] rfl) (by omega) (by omega)
    · have h := h.2 c_251
      refine lv_lload_n hx hb dX8_digest_254 rfl (lv_at hl 1 rfl) ?_
      refine lv_ldc2 (v := (31 : Int64)) hx hb hown (hts _ q2634) dX8_digest_255 ?_
      refine lv_lmul hx hb dX8_digest_258 ?_
      refine lv_aload_n hx hb dX8_digest_259 rfl (lv_at hl 0 rfl) ?_
      refine lv_iload_n hx hb dX8_digest_260 rfl (lv_at hl 2 rfl) ?_
      refine lv_iload hx hb dX8_digest_261 (lv_at hl 3 rfl) ?_
      refine ce_qi (fw := fun u => u) (fy := fun _ => y) (cr_V (n := 2) (As := [.int (v3), .int (v4)]) (rest := [.long (v1 * ((31 : Int64)))]) ⟨hx, hb, hml, hown, hts⟩ hK hR (m_X8_ofCompanyNow hM l0 h) q2538 q2540 qs65 q85 q2541 rfl rfl hd_X8_ofCompanyNow ⟨Nat.le_of_ble_eq_true rfl, Nat.le_of_ble_eq_true rfl⟩ (rv hK hR l0 (ci := 11) rfl rfl) rfl rfl hl.1 rfl (lv_room (Nat.le_of_ble_eq_true rfl)) dX8_digest_263 ⟨(Nat.le_trans (show cells + 4 ≤ C1 from by omega) hC), (Nat.le_trans (show slots + 25 ≤ S1 from by omega) hSl)⟩) hR hS (fun r_263 w_263 H locs h hR _ hS => ?_)
      refine lv_i2l hx hb dX8_digest_266 rfl ?_
      refine lv_ladd hx hb dX8_digest_267 ?_
      refine lv_topl (fun x_268 ex_268 => ?_)
      have h := h x_268 ex_268
      refine lv_lstore_n (lv' := [(1, .long (x_268)), (0, .ref (y.2 20 0)), (3, .int (v3)), (4, .int (v4))]) hx hb dX8_digest_268 rfl hl (by decide) rfl (fun ls hl => ?_)
      obtain ⟨x_269, ex_269⟩ : ∃ z : Int32, z = v4 + (1 : Int32) := ⟨_, rfl⟩
      have h := h x_269 ex_269
      refine lv_iinc (v := x_269) (lv' := [(4, .int (x_269)), (1, .long (x_268)), (0, .ref (y.2 20 0)), (3, .int (v3))]) hx hb dX8_digest_269 hl (k := 3) rfl (by rw [ex_269]; rfl) (by decide) rfl (fun ls hl => ?_)
      refine lv_goto (tgt := 247) hx hb dX8_digest_272 (by decide) ?_
      exact ih w_263 x_268 x_269 _ _ _ _ _  h hR hS (lv_sub hl [2, 1, 3, 0] rfl) (by omega) (by omega)
def st_X8_digest_295 (κ : Kx) (y : Ly) (post : Int64 → Wd → Prop) (ex : Wd → (Int64) → Prop) (rec : Wd → Int64 → Int32 → Prop) (v3 : Int32) (w : Wd) (v1 : Int64) (v4 : Int32) : Prop := (vp_in (v3) (mC y)) ∧ (((nI (mS y (((((v3).toNatClampNeg))))) ≤ v4) → (ex w v1)) ∧ ((¬ (nI (mS y (((((v3).toNatClampNeg))))) ≤ v4)) → ((vp_in (v3) (mC y)) ∧ ((vp_in (v4) (mS y (((((v3).toNatClampNeg)))))) ∧ (∀ x_349 : Int64, x_349 = (v1 * ((31 : Int64))) + ((bxV w y (5 * (((((v3).toNatClampNeg)))) + ((v4).toNatClampNeg))).toInt64) → (vp_in (v3) (mC y)) ∧ ((vp_in (v4) (mT y (((((v3).toNatClampNeg)))))) ∧ (∀ x_382 : Int64, x_382 = (x_349 * ((31 : Int64))) + ((bxV w y (50 + (5 * (((((v3).toNatClampNeg)))) + ((v4).toNatClampNeg)))).toInt64) → ∀ x_383 : Int32, x_383 = v4 + (1 : Int32) → rec w x_382 x_383)))))))
def sp_X8_digest_295 (κ : Kx) (y : Ly) (post : Int64 → Wd → Prop) (ex : Wd → (Int64) → Prop) (v3 : Int32) : Nat → Wd → Int64 → Int32 → Prop
  | 0 => fun _ _ _ => False
  | n + 1 => fun w v1 v4 => st_X8_digest_295 κ y post ex (sp_X8_digest_295 κ y post ex v3 n) v3 w v1 v4
set_option maxHeartbeats 4000000 in
theorem lp_X8_digest_295 {p : Program} {l : Launch} {e : Env} {s : State} {m : MethodId} {args : Array Value} {below : List Frame} {meth : Method} {c : Code} {κ : Kx} {y : Ly} {X : XR} {post : Int64 → Wd → Prop} {v3 : Int32} (hx : p.tables.exec = Jvm.exec) (hb : c.code = cX8_digest) (hr : meth.sig.returnType = (Option.some Jvm.ClassFile.FieldType.long)) (hml : c.maxLocals = 6) (hown : s.vm.findClass RX8 = some m.cls) (hts : ∀ w ∈ lw_all, w.before args s = true) (hlocks : meth.locks = false) (hK : KK κ s) (hM : WFm κ y) (l0 : live y 20 0) {C1 S1 : Nat} (hC : C1 ≤ 635) (hSl : S1 ≤ 5714) {ex : Wd → (Int64) → Prop}
    (kx : ∀ (w : Wd) (v1 : Int64) (H : Heap) (locs : List Loc) (ls : Array Slot) (cells slots : Nat) , ex w v1 → Rp κ w y X [] H → va_S (Af κ) s.heap H locs → lv_has ls 6 [(0, .ref (y.2 20 0)), (1, .long (v1)), (3, .int (v3))] → cells ≤ C1 → slots ≤ S1 → W p l e (headSpec (ws_ yX8_digest cX8_digest 6 (Option.some Jvm.ClassFile.FieldType.long)) rm_X8_digest).room s m args below meth c H locs cells slots (MQ below (va_Ql post (fun w t => Rp κ w y X [] t.heap) (Af κ)) args s 635 5714 (Af κ)) (F0 m 389 ls [])) :
    ∀ (f : Nat) (w : Wd) (v1 : Int64) (v4 : Int32) (H : Heap) (locs : List Loc) (ls : Array Slot) (cells slots : Nat)  , sp_X8_digest_295 κ y post ex v3 f w v1 v4 → Rp κ w y X [] H → va_S (Af κ) s.heap H locs → lv_has ls 6 [(0, .ref (y.2 20 0)), (1, .long (v1)), (3, .int (v3)), (4, .int (v4))] → cells + f * 0 ≤ C1 → slots + f * 0 ≤ S1 → W p l e (headSpec (ws_ yX8_digest cX8_digest 6 (Option.some Jvm.ClassFile.FieldType.long)) rm_X8_digest).room s m args below meth c H locs cells slots (MQ below (va_Ql post (fun w t => Rp κ w y X [] t.heap) (Af κ)) args s 635 5714 (Af κ)) (F0 m 295 ls []) := by
  intro f
  induction f with
  | zero =>
    intro w v1 v4 H locs ls cells slots  h
    exact False.elim h
  | succ f ih =>
    intro w v1 v4 H locs ls cells slots  h hR hS hl hc hs
    have h : st_X8_digest_295 κ y post ex (sp_X8_digest_295 κ y post ex v3 f) v3 w v1 v4 := h
    unfold st_X8_digest_295 at h
    refine lv_iload hx hb dX8_digest_295 (lv_at hl 3 rfl) ?_
    refine lv_aload_n hx hb dX8_digest_297 rfl (lv_at hl 0 rfl) ?_
    refine g20_4 hx hb hts hown hK hR l0 q1949 dX8_digest_298 ?_
    refine lv_iload_n hx hb dX8_digest_301 rfl (lv_at hl 2 rfl) ?_
    have o_302 := h.1
    have h := h.2
    refine jr_get (a := y.2 26 ((v3).toNatClampNeg)) ⟨hx, hb, hml, hown, hts⟩ hK hR ⟨fun _ _ _ _ _ => rfl, fun _ _ _ _ _ => rfl⟩ hM.lsC ⟨hM.arC (Nat.lt_of_le_of_lt (Nat.zero_le _) (vp_lt o_302)), (Nat.le_trans hM.mC4 (by decide))⟩ o_302 (hM.elC (vp_lt o_302)) q2101 ⟨Nat.le_of_ble_eq_true rfl, Nat.le_of_ble_eq_true rfl⟩ hl.1 (Nat.le_of_ble_eq_true rfl) dX8_digest_302 ⟨(Nat.le_trans (show cells + 0 ≤ C1 from by omega) hC), (Nat.le_trans (show slots + 0 ≤ S1 from by omega) hSl)⟩ ?_
    refine jr_castS (ci := 13) hx hb hown hK hts (hR.role (hM.com (vp_lt o_302))) rfl q2141 dX8_digest_305 ?_
    refine g26_9 hx hb hts hown hK hR (hM.com (vp_lt o_302)) q2159 dX8_digest_308 ?_
    refine jr_size ⟨hx, hb, hml, hown, hts⟩ hK hR ⟨fun _ _ _ _ _ => rfl, fun _ _ _ _ _ => rfl⟩ (hM.csh (hM.com (vp_lt o_302))) q2031 ⟨Nat.le_of_ble_eq_true rfl, Nat.le_of_ble_eq_true rfl⟩ hl.1 (Nat.le_of_ble_eq_true rfl) dX8_digest_311 ⟨(Nat.le_trans (show cells + 0 ≤ C1 from by omega) hC), (Nat.le_trans (show slots + 0 ≤ S1 from by omega) hSl)⟩ ?_
    refine lv_icmp_ge (tgt := 389) hx hb dX8_digest_314 (by decide) (fun c_314 => ?_) (fun c_314 => ?_)
    · have h := h.1 c_314
      exact kx w v1 _ _ _ _ _ h hR hS (lv_sub hl [0, 1, 2] rfl) (by omega) (by omega)
    · have h := h.2 c_314
      refine lv_lload_n hx hb dX8_digest_317 rfl (lv_at hl 1 rfl) ?_
      refine lv_ldc2 (v := (31 : Int64)) hx hb hown (hts _ q2634) dX8_digest_318 ?_
      refine lv_lmul hx hb dX8_digest_321 ?_
      refine lv_aload_n hx hb dX8_digest_322 rfl (lv_at hl 0 rfl) ?_
      refine g20_4 hx hb hts hown hK hR l0 q1949 dX8_digest_323 ?_
      refine lv_iload_n hx hb dX8_digest_326 rfl (lv_at hl 2 rfl) ?_
      have o_327 := h.1
      have h := h.2
      refine jr_get (a := y.2 26 ((v3).toNatClampNeg)) ⟨hx, hb, hml, hown, hts⟩ hK hR ⟨fun _ _ _ _ _ => rfl, fun _ _ _ _ _ => rfl⟩ hM.lsC ⟨hM.arC (Nat.lt_of_le_of_lt (Nat.zero_le _) (vp_lt o_327)), (Nat.le_trans hM.mC4 (by decide))⟩ o_327 (hM.elC (vp_lt o_327)) q2101 ⟨Nat.le_of_ble_eq_true rfl, Nat.le_of_ble_eq_true rfl⟩ hl.1 (Nat.le_of_ble_eq_true rfl) dX8_digest_327 ⟨(Nat.le_trans (show cells + 0 ≤ C1 from by omega) hC), (Nat.le_trans (show slots + 0 ≤ S1 from by omega) hSl)⟩ ?_
      refine jr_castS (ci := 13) hx hb hown hK hts (hR.role (hM.com (vp_lt o_327))) rfl q2141 dX8_digest_330 ?_
      refine g26_9 hx hb hts hown hK hR (hM.com (vp_lt o_327)) q2159 dX8_digest_333 ?_
      refine lv_iload hx hb dX8_digest_336 (lv_at hl 3 rfl) ?_
      have o_338 := h.1
      have h := h.2
      refine jr_get (a := y.2 356 (16 * (((((v3).toNatClampNeg)))) + ((v4).toNatClampNeg))) ⟨hx, hb, hml, hown, hts⟩ hK hR ⟨fun _ _ _ _ _ => rfl, fun _ _ _ _ _ => rfl⟩ (hM.csh (hM.com (vp_lt o_327))) ⟨hM.arS (Nat.lt_of_le_of_lt (Nat.zero_le _) (vp_lt o_338)), (Nat.le_trans (hM.mS5 (hM.com (vp_lt o_327))) (by decide))⟩ o_338 rfl q2101 ⟨Nat.le_of_ble_eq_true rfl, Nat.le_of_ble_eq_true rfl⟩ hl.1 (Nat.le_of_ble_eq_true rfl) dX8_digest_338 ⟨(Nat.le_trans (show cells + 0 ≤ C1 from by omega) hC), (Nat.le_trans (show slots + 0 ≤ S1 from by omega) hSl)⟩ ?_
      refine jr_castS (ci := 19) hx hb hown hK hts (bx_at hK hR (hM.bxS (hM.com (vp_lt o_327)) (vp_lt o_338))) rfl q2232 dX8_digest_341 ?_
      refine jr_intv ⟨hx, hb, hml, hown, hts⟩ hK (bx_at hK hR (hM.bxS (hM.com (vp_lt o_327)) (vp_lt o_338))) q2233 ⟨Nat.le_of_ble_eq_true rfl, Nat.le_of_ble_eq_true rfl⟩ hl.1 (Nat.le_of_ble_eq_true rfl) dX8_digest_344 ⟨(Nat.le_trans (show cells + 0 ≤ C1 from by omega) hC), (Nat.le_trans (show slots + 0 ≤ S1 from by omega) hSl)⟩ ?_
      refine lv_i2l hx hb dX8_digest_347 rfl ?_
      refine lv_ladd hx hb dX8_digest_348 ?_
      refine lv_topl (fun x_349 ex_349 => ?_)
      have h := h x_349 ex_349
      refine lv_lstore_n (lv' := [(1, .long (x_349)), (0, .ref (y.2 20 0)), (3, .int (v3)), (4, .int (v4))]) hx hb dX8_digest_349 rfl hl (by decide) rfl (fun ls hl => ?_)
      refine lv_lload_n hx hb dX8_digest_350 rfl (lv_at hl 0 rfl) ?_
      refine lv_ldc2 (v := (31 : Int64)) hx hb hown (hts _ q2634) dX8_digest_351 ?_
      refine lv_lmul hx hb dX8_digest_354 ?_
      refine lv_aload_n hx hb dX8_digest_355 rfl (lv_at hl 1 rfl) ?_
      refine g20_4 hx hb hts hown hK hR l0 q1949 dX8_digest_356 ?_
      refine lv_iload_n hx hb dX8_digest_359 rfl (lv_at hl 2 rfl) ?_
      have o_360 := h.1
      have h := h.2
      refine jr_get (a := y.2 26 ((v3).toNatClampNeg)) ⟨hx, hb, hml, hown, hts⟩ hK hR ⟨fun _ _ _ _ _ => rfl, fun _ _ _ _ _ => rfl⟩ hM.lsC ⟨hM.arC (Nat.lt_of_le_of_lt (Nat.zero_le _) (vp_lt o_360)), (Nat.le_trans hM.mC4 (by decide))⟩ o_360 (hM.elC (vp_lt o_360)) q2101 ⟨Nat.le_of_ble_eq_true rfl, Nat.le_of_ble_eq_true rfl⟩ hl.1 (Nat.le_of_ble_eq_true rfl) dX8_digest_360 ⟨(Nat.le_trans (show cells + 0 ≤ C1 from by omega) hC), (Nat.le_trans (show slots + 0 ≤ S1 from by omega) hSl)⟩ ?_
      refine jr_castS (ci := 13) hx hb hown hK hts (hR.role (hM.com (vp_lt o_360))) rfl q2141 dX8_digest_363 ?_
      refine g26_10 hx hb hts hown hK hR (hM.com (vp_lt o_360)) q2161 dX8_digest_366 ?_
      refine lv_iload hx hb dX8_digest_369 (lv_at hl 3 rfl) ?_
      have o_371 := h.1
      have h := h.2
      refine jr_get (a := y.2 358 (16 * (((((v3).toNatClampNeg)))) + ((v4).toNatClampNeg))) ⟨hx, hb, hml, hown, hts⟩ hK hR ⟨fun _ _ _ _ _ => rfl, fun _ _ _ _ _ => rfl⟩ (hM.cto (hM.com (vp_lt o_360))) ⟨hM.arT (Nat.lt_of_le_of_lt (Nat.zero_le _) (vp_lt o_371)), (Nat.le_trans (hM.mTS (hM.com (vp_lt o_360))) (Nat.le_trans (hM.mS5 (hM.com (vp_lt o_360))) (by decide)))⟩ o_371 rfl q2101 ⟨Nat.le_of_ble_eq_true rfl, Nat.le_of_ble_eq_true rfl⟩ hl.1 (Nat.le_of_ble_eq_true rfl) dX8_digest_371 ⟨(Nat.le_trans (show cells + 0 ≤ C1 from by omega) hC), (Nat.le_trans (show slots + 0 ≤ S1 from by omega) hSl)⟩ ?_
      refine jr_castS (ci := 19) hx hb hown hK hts (bx_at hK hR (hM.bxT (hM.com (vp_lt o_360)) (vp_lt o_371))) rfl q2232 dX8_digest_374 ?_
      refine jr_intv ⟨hx, hb, hml, hown, hts⟩ hK (bx_at hK hR (hM.bxT (hM.com (vp_lt o_360)) (vp_lt o_371))) q2233 ⟨Nat.le_of_ble_eq_true rfl, Nat.le_of_ble_eq_true rfl⟩ hl.1 (Nat.le_of_ble_eq_true rfl) dX8_digest_377 ⟨(Nat.le_trans (show cells + 0 ≤ C1 from by omega) hC), (Nat.le_trans (show slots + 0 ≤ S1 from by omega) hSl)⟩ ?_
      refine lv_i2l hx hb dX8_digest_380 rfl ?_
      refine lv_ladd hx hb dX8_digest_381 ?_
      refine lv_topl (fun x_382 ex_382 => ?_)
      have h := h x_382 ex_382
      refine lv_lstore_n (lv' := [(1, .long (x_382)), (0, .ref (y.2 20 0)), (3, .int (v3)), (4, .int (v4))]) hx hb dX8_digest_382 rfl hl (by decide) rfl (fun ls hl => ?_)
      obtain ⟨x_383, ex_383⟩ : ∃ z : Int32, z = v4 + (1 : Int32) := ⟨_, rfl⟩
      have h := h x_383 ex_383
      refine lv_iinc (v := x_383) (lv' := [(4, .int (x_383)), (1, .long (x_382)), (0, .ref (y.2 20 0)), (3, .int (v3))]) hx hb dX8_digest_383 hl (k := 3) rfl (by rw [ex_383]; rfl) (by decide) rfl (fun ls hl => ?_)
      refine lv_goto (tgt := 295) hx hb dX8_digest_386 (by decide) ?_
      exact ih w x_382 x_383 _ _ _ _ _  h hR hS (lv_sub hl [2, 1, 3, 0] rfl) (by omega) (by omega)
def st_X8_digest_233 (κ : Kx) (y : Ly) (post : Int64 → Wd → Prop) (ex : Wd → (Int64) → Prop) (rec : Wd → Int64 → Int32 → Prop)  (w : Wd) (v1 : Int64) (v3 : Int32) : Prop := ((nI (mC y) ≤ v3) → (ex w v1)) ∧ ((¬ (nI (mC y) ≤ v3)) → (sp_X8_digest_247 κ y post (fun w_247 y1_247 => sp_X8_gainNow κ y (fun r_285 w_285 => (vf_n64 (FP.dmul ((4634204016564240384 : UInt64)) r_285)) ∧ (∀ x_291 : Int64, x_291 = (y1_247 * ((31 : Int64))) + (FP.d2l (FP.dmul ((4634204016564240384 : UInt64)) r_285)) → sp_X8_digest_295 κ y post (fun w_295 y1_295 => ∀ x_389 : Int32, x_389 = v3 + (1 : Int32) → rec w_295 y1_295 x_389) v3 6 w_285 x_291 (0 : Int32))) w_247 v3) v3 14 w v1 (0 : Int32)))
def sp_X8_digest_233 (κ : Kx) (y : Ly) (post : Int64 → Wd → Prop) (ex : Wd → (Int64) → Prop)  : Nat → Wd → Int64 → Int32 → Prop
  | 0 => fun _ _ _ => False
  | n + 1 => fun w v1 v3 => st_X8_digest_233 κ y post ex (sp_X8_digest_233 κ y post ex  n)  w v1 v3
set_option maxHeartbeats 4000000 in
theorem lp_X8_digest_233 {p : Program} {l : Launch} {e : Env} {s : State} {m : MethodId} {args : Array Value} {below : List Frame} {meth : Method} {c : Code} {κ : Kx} {y : Ly} {X : XR} {post : Int64 → Wd → Prop}  (hx : p.tables.exec = Jvm.exec) (hb : c.code = cX8_digest) (hr : meth.sig.returnType = (Option.some Jvm.ClassFile.FieldType.long)) (hml : c.maxLocals = 6) (hown : s.vm.findClass RX8 = some m.cls) (hts : ∀ w ∈ lw_all, w.before args s = true) (hlocks : meth.locks = false) (hK : KK κ s) (hM : WFm κ y) (l0 : live y 20 0) {C1 S1 : Nat} (hC : C1 ≤ 635) (hSl : S1 ≤ 5714) {ex : Wd → (Int64) → Prop}
    (kx : ∀ (w : Wd) (v1 : Int64) (H : Heap) (locs : List Loc) (ls : Array Slot) (cells slots : Nat) , ex w v1 → Rp κ w y X [] H → va_S (Af κ) s.heap H locs → lv_has ls 6 [(0, .ref (y.2 20 0)), (1, .long (v1))] → cells ≤ C1 → slots ≤ S1 → W p l e (headSpec (ws_ yX8_digest cX8_digest 6 (Option.some Jvm.ClassFile.FieldType.long)) rm_X8_digest).room s m args below meth c H locs cells slots (MQ below (va_Ql post (fun w t => Rp κ w y X [] t.heap) (Af κ)) args s 635 5714 (Af κ)) (F0 m 395 ls [])) :
    ∀ (f : Nat) (w : Wd) (v1 : Int64) (v3 : Int32) (H : Heap) (locs : List Loc) (ls : Array Slot) (cells slots : Nat)  , sp_X8_digest_233 κ y post ex  f w v1 v3 → Rp κ w y X [] H → va_S (Af κ) s.heap H locs → lv_has ls 6 [(0, .ref (y.2 20 0)), (1, .long (v1)), (3, .int (v3))] → cells + f * 56 ≤ C1 → slots + f * 350 ≤ S1 → W p l e (headSpec (ws_ yX8_digest cX8_digest 6 (Option.some Jvm.ClassFile.FieldType.long)) rm_X8_digest).room s m args below meth c H locs cells slots (MQ below (va_Ql post (fun w t => Rp κ w y X [] t.heap) (Af κ)) args s 635 5714 (Af κ)) (F0 m 233 ls []) := by
  intro f
  induction f with
  | zero =>
    intro w v1 v3 H locs ls cells slots  h
    exact False.elim h
  | succ f ih =>
    intro w v1 v3 H locs ls cells slots  h hR hS hl hc hs
    have h : st_X8_digest_233 κ y post ex (sp_X8_digest_233 κ y post ex  f)  w v1 v3 := h
    unfold st_X8_digest_233 at h
    refine lv_iload_n hx hb dX8_digest_233 rfl (lv_at hl 2 rfl) ?_
    refine lv_aload_n hx hb dX8_digest_234 rfl (lv_at hl 0 rfl) ?_
    refine g20_4 hx hb hts hown hK hR l0 q1949 dX8_digest_235 ?_
    refine jr_size ⟨hx, hb, hml, hown, hts⟩ hK hR ⟨fun _ _ _ _ _ => rfl, fun _ _ _ _ _ => rfl⟩ hM.lsC q2031 ⟨Nat.le_of_ble_eq_true rfl, Nat.le_of_ble_eq_true rfl⟩ hl.1 (Nat.le_of_ble_eq_true rfl) dX8_digest_238 ⟨(Nat.le_trans (show cells + 0 ≤ C1 from by omega) hC), (Nat.le_trans (show slots + 0 ≤ S1 from by omega) hSl)⟩ ?_
    refine lv_icmp_ge (tgt := 395) hx hb dX8_digest_241 (by decide) (fun c_241 => ?_) (fun c_241 => ?_)
    · have h := h.1 c_241
      exact kx w v1 _ _ _ _ _ h hR hS (lv_sub hl [0, 1] rfl) (by omega) (by omega)
    · have h := h.2 c_241
      refine lv_iconst (v := (0 : Int32)) hx hb dX8_digest_244 (by decide) ?_
      refine lv_istore (lv' := [(4, .int ((0 : Int32))), (0, .ref (y.2 20 0)), (1, .long (v1)), (3, .int (v3))]) hx hb dX8_digest_245 hl (by decide) rfl (fun ls hl => ?_)
      have z1 : cells + 14 * 4 ≤ cells + 56 := Nat.le_refl _
      have z2 : slots + 14 * 25 ≤ slots + 350 := Nat.le_refl _
      have z3 : cells + 56 ≤ C1 := by omega
      have z4 : slots + 350 ≤ S1 := by omega
      refine lp_X8_digest_247 (C1 := (cells + 56)) (S1 := (slots + 350)) hx hb hr hml hown hts hlocks hK hM l0 (Nat.le_trans z3 hC) (Nat.le_trans z4 hSl) (fun w_247 y1_247 H locs ls cells9 slots9 h hR hS hl hc9 hs9 => ?_) 14 w v1 (0 : Int32) _ _ _ _ _  h hR hS (lv_sub hl [1, 2, 3, 0] rfl) z1 z2
      refine W.widen (k := (cells + 56)) (n := (slots + 350)) hc9 hs9 ?_
      refine lv_lload_n hx hb dX8_digest_275 rfl (lv_at hl 1 rfl) ?_
      refine lv_ldc2 (v := (31 : Int64)) hx hb hown (hts _ q2634) dX8_digest_276 ?_
      refine lv_lmul hx hb dX8_digest_279 ?_
      refine lv_ldc2d (v := (4634204016564240384 : UInt64)) hx hb hown (hts _ q2635) dX8_digest_280 ?_
      refine lv_aload_n hx hb dX8_digest_283 rfl (lv_at hl 0 rfl) ?_
      refine lv_iload_n hx hb dX8_digest_284 rfl (lv_at hl 2 rfl) ?_
      refine ce_qd (fw := fun u => u) (fy := fun _ => y) (cr_V (n := 1) (As := [.int (v3)]) (rest := [.double ((4634204016564240384 : UInt64)), .long (y1_247 * ((31 : Int64)))]) ⟨hx, hb, hml, hown, hts⟩ hK hR (m_X8_gainNow hM l0 h) q2581 q2583 qs68 q85 q2584 rfl rfl hd_X8_gainNow ⟨Nat.le_of_ble_eq_true rfl, Nat.le_of_ble_eq_true rfl⟩ (rv hK hR l0 (ci := 11) rfl rfl) rfl rfl hl.1 rfl (lv_room (Nat.le_of_ble_eq_true rfl)) dX8_digest_285 ⟨(Nat.le_trans (show cells + 56 + 0 ≤ C1 from by omega) hC), (Nat.le_trans (show slots + 350 + 0 ≤ S1 from by omega) hSl)⟩) hR hS (fun r_285 w_285 H locs h hR _ hS => ?_)
      have o_288 := h.1
      have h := h.2
      refine lv_dmul hx hb dX8_digest_288 o_288 ?_
      refine lv_d2l hx hb dX8_digest_289 ?_
      refine lv_ladd hx hb dX8_digest_290 ?_
      refine lv_topl (fun x_291 ex_291 => ?_)
      have h := h x_291 ex_291
      refine lv_lstore_n (lv' := [(1, .long (x_291)), (0, .ref (y.2 20 0)), (3, .int (v3))]) hx hb dX8_digest_291 rfl hl (by decide) rfl (fun ls hl => ?_)
      refine lv_iconst (v := (0 : Int32)) hx hb dX8_digest_292 (by decide) ?_
      refine lv_istore (lv' := [(4, .int ((0 : Int32))), (1, .long (x_291)), (0, .ref (y.2 20 0)), (3, .int (v3))]) hx hb dX8_digest_293 hl (by decide) rfl (fun ls hl => ?_)
      refine lp_X8_digest_295 (C1 := (cells + 56)) (S1 := (slots + 350)) hx hb hr hml hown hts hlocks hK hM l0 (Nat.le_trans (by omega) hC) (Nat.le_trans (by omega) hSl) (fun w_295 y1_295 H locs ls cells9 slots9 h hR hS hl hc9 hs9 => ?_) 6 w_285 x_291 (0 : Int32) _ _ _ _ _  h hR hS (lv_sub hl [2, 1, 3, 0] rfl) (by omega) (by omega)
      refine W.widen (k := (cells + 56)) (n := (slots + 350)) hc9 hs9 ?_
      obtain ⟨x_389, ex_389⟩ : ∃ z : Int32, z = v3 + (1 : Int32) := ⟨_, rfl⟩
      have h := h x_389 ex_389
      refine lv_iinc (v := x_389) (lv' := [(3, .int (x_389)), (0, .ref (y.2 20 0)), (1, .long (y1_295))]) hx hb dX8_digest_389 hl (k := 2) rfl (by rw [ex_389]; rfl) (by decide) rfl (fun ls hl => ?_)
      refine lv_goto (tgt := 233) hx hb dX8_digest_392 (by decide) ?_
      exact ih w_295 y1_295 x_389 _ _ _ _ _  h hR hS (lv_sub hl [1, 2, 0] rfl) (by omega) (by omega)
def st_X8_digest_426 (κ : Kx) (y : Ly) (post : Int64 → Wd → Prop) (ex : Wd → (Int64) → Prop) (rec : Wd → Int64 → Int32 → Prop) (i4 : Nat) (w : Wd) (v1 : Int64) (v5 : Int32) : Prop := (((11 : Int32) < v5) → (ex w v1)) ∧ ((¬ ((11 : Int32) < v5)) → (sp_X8_ofLotNow κ y (fun r_443 w_443 => ∀ x_448 : Int64, x_448 = (v1 * ((31 : Int64))) + r_443.toInt64 → ∀ x_449 : Int32, x_449 = v5 + (1 : Int32) → rec w_443 x_448 x_449) w i4 v5))
def sp_X8_digest_426 (κ : Kx) (y : Ly) (post : Int64 → Wd → Prop) (ex : Wd → (Int64) → Prop) (i4 : Nat) : Nat → Wd → Int64 → Int32 → Prop
  | 0 => fun _ _ _ => False
  | n + 1 => fun w v1 v5 => st_X8_digest_426 κ y post ex (sp_X8_digest_426 κ y post ex i4 n) i4 w v1 v5
set_option maxHeartbeats 4000000 in
theorem lp_X8_digest_426 {p : Program} {l : Launch} {e : Env} {s : State} {m : MethodId} {args : Array Value} {below : List Frame} {meth : Method} {c : Code} {κ : Kx} {y : Ly} {X : XR} {post : Int64 → Wd → Prop} {q3 : Nat} {c3 : Nat} {z3 : Int32} {i4 : Nat} (hx : p.tables.exec = Jvm.exec) (hb : c.code = cX8_digest) (hr : meth.sig.returnType = (Option.some Jvm.ClassFile.FieldType.long)) (hml : c.maxLocals = 6) (hown : s.vm.findClass RX8 = some m.cls) (hts : ∀ w ∈ lw_all, w.before args s = true) (hlocks : meth.locks = false) (hK : KK κ s) (hM : WFm κ y) (l0 : live y 20 0) (l4 : live y 27 i4) {C1 S1 : Nat} (hC : C1 ≤ 635) (hSl : S1 ≤ 5714) {ex : Wd → (Int64) → Prop}
    (kx : ∀ (w : Wd) (v1 : Int64) (H : Heap) (locs : List Loc) (ls : Array Slot) (cells slots : Nat) , ex w v1 → Rp κ w y X [(q3, itC y 54 0 c3 z3)] H → va_S (Af κ) s.heap H locs → lv_has ls 6 [(0, .ref (y.2 20 0)), (1, .long (v1)), (3, .ref (q3)), (4, .ref (y.2 27 i4))] → cells ≤ C1 → slots ≤ S1 → W p l e (headSpec (ws_ yX8_digest cX8_digest 6 (Option.some Jvm.ClassFile.FieldType.long)) rm_X8_digest).room s m args below meth c H locs cells slots (MQ below (va_Ql post (fun w t => Rp κ w y X [] t.heap) (Af κ)) args s 635 5714 (Af κ)) (F0 m 455 ls [])) :
    ∀ (f : Nat) (w : Wd) (v1 : Int64) (v5 : Int32) (H : Heap) (locs : List Loc) (ls : Array Slot) (cells slots : Nat)  , sp_X8_digest_426 κ y post ex i4 f w v1 v5 → Rp κ w y X [(q3, itC y 54 0 c3 z3)] H → va_S (Af κ) s.heap H locs → lv_has ls 6 [(0, .ref (y.2 20 0)), (1, .long (v1)), (3, .ref (q3)), (4, .ref (y.2 27 i4)), (5, .int (v5))] → cells + f * 1 ≤ C1 → slots + f * 12 ≤ S1 → W p l e (headSpec (ws_ yX8_digest cX8_digest 6 (Option.some Jvm.ClassFile.FieldType.long)) rm_X8_digest).room s m args below meth c H locs cells slots (MQ below (va_Ql post (fun w t => Rp κ w y X [] t.heap) (Af κ)) args s 635 5714 (Af κ)) (F0 m 426 ls []) := by
  intro f
  induction f with
  | zero =>
    intro w v1 v5 H locs ls cells slots  h
    exact False.elim h
  | succ f ih =>
    intro w v1 v5 H locs ls cells slots  h hR hS hl hc hs
    have h : st_X8_digest_426 κ y post ex (sp_X8_digest_426 κ y post ex i4 f) i4 w v1 v5 := h
    unfold st_X8_digest_426 at h
    refine lv_iload hx hb dX8_digest_426 (lv_at hl 4 rfl) ?_
    refine lv_bipush (v := (11 : Int32)) hx hb dX8_digest_428 (by decide) ?_
    refine lv_icmp_gt (tgt := 455) hx hb dX8_digest_430 (by decide) (fun c_430 => ?_) (fun c_430 => ?_)
    · have h := h.1 c_430
      exact kx w v1 _ _ _ _ _ h hR hS (lv_sub hl [0, 1, 2, 3] rfl) (by omega) (by omega)
    · have h := h.2 c_430
      refine lv_lload_n hx hb dX8_digest_433 rfl (lv_at hl 1 rfl) ?_
      refine lv_ldc2 (v := (31 : Int64)) hx hb hown (hts _ q2634) dX8_digest_434 ?_
      refine lv_lmul hx hb dX8_digest_437 ?_
      refine lv_aload_n hx hb dX8_digest_438 rfl (lv_at hl 0 rfl) ?_
      refine lv_aload hx hb dX8_digest_439 (lv_at hl 3 rfl) ?_
      refine lv_iload hx hb dX8_digest_441 (lv_at hl 4 rfl) ?_
      refine ce_qi (fw := fun u => u) (fy := fun _ => y) (cr_V (n := 2) (As := [.ref (y.2 27 i4), .int (v5)]) (rest := [.long (v1 * ((31 : Int64)))]) ⟨hx, hb, hml, hown, hts⟩ hK hR (m_X8_ofLotNow hM l0 l4 h) q2550 q2552 qs66 q85 q2553 rfl rfl hd_X8_ofLotNow ⟨Nat.le_of_ble_eq_true rfl, Nat.le_of_ble_eq_true rfl⟩ (rv hK hR l0 (ci := 11) rfl rfl) rfl rfl hl.1 rfl (lv_room (Nat.le_of_ble_eq_true rfl)) dX8_digest_443 ⟨(Nat.le_trans (show cells + 1 ≤ C1 from by omega) hC), (Nat.le_trans (show slots + 12 ≤ S1 from by omega) hSl)⟩) hR hS (fun r_443 w_443 H locs h hR _ hS => ?_)
      refine lv_i2l hx hb dX8_digest_446 rfl ?_
      refine lv_ladd hx hb dX8_digest_447 ?_
      refine lv_topl (fun x_448 ex_448 => ?_)
      have h := h x_448 ex_448
      refine lv_lstore_n (lv' := [(1, .long (x_448)), (0, .ref (y.2 20 0)), (3, .ref (q3)), (4, .ref (y.2 27 i4)), (5, .int (v5))]) hx hb dX8_digest_448 rfl hl (by decide) rfl (fun ls hl => ?_)
      obtain ⟨x_449, ex_449⟩ : ∃ z : Int32, z = v5 + (1 : Int32) := ⟨_, rfl⟩
      have h := h x_449 ex_449
      refine lv_iinc (v := x_449) (lv' := [(5, .int (x_449)), (1, .long (x_448)), (0, .ref (y.2 20 0)), (3, .ref (q3)), (4, .ref (y.2 27 i4))]) hx hb dX8_digest_449 hl (k := 4) rfl (by rw [ex_449]; rfl) (by decide) rfl (fun ls hl => ?_)
      refine lv_goto (tgt := 426) hx hb dX8_digest_452 (by decide) ?_
      exact ih w_443 x_448 x_449 _ _ _ _ _  h hR hS (lv_sub hl [2, 1, 3, 4, 0] rfl) (by omega) (by omega)
def st_X8_digest_403 (κ : Kx) (y : Ly) (post : Int64 → Wd → Prop) (ex : Wd → (Int64) → Prop) (rec : Wd → Int64 → Nat → Int32 → Prop)  (w : Wd) (v1 : Int64) (c3 : Nat) (z3 : Int32) : Prop := ((¬ (¬ c3 = mL y)) → (ex w v1)) ∧ (((¬ c3 = mL y)) → (sp_X8_digest_426 κ y post (fun w_426 y1_426 => sp_X8_wouldBringNow κ y (fun r_464 w_464 => ∀ x_469 : Int64, x_469 = (y1_426 * ((31 : Int64))) + r_464.toInt64 → sp_X8_bestForceNow κ y (fun r_478 w_478 => ∀ x_483 : Int64, x_483 = (x_469 * ((31 : Int64))) + r_478.toInt64 → rec w_478 x_483 (c3 + 1) (nI c3)) w_464 c3) w_426 c3 (1 : Int32)) c3 13 w v1 (0 : Int32)))
def sp_X8_digest_403 (κ : Kx) (y : Ly) (post : Int64 → Wd → Prop) (ex : Wd → (Int64) → Prop)  : Nat → Wd → Int64 → Nat → Int32 → Prop
  | 0 => fun _ _ _ _ => False
  | n + 1 => fun w v1 c3 z3 => st_X8_digest_403 κ y post ex (sp_X8_digest_403 κ y post ex  n)  w v1 c3 z3
set_option maxHeartbeats 4000000 in
theorem lp_X8_digest_403 {p : Program} {l : Launch} {e : Env} {s : State} {m : MethodId} {args : Array Value} {below : List Frame} {meth : Method} {c : Code} {κ : Kx} {y : Ly} {X : XR} {post : Int64 → Wd → Prop} {q3 : Nat} (hx : p.tables.exec = Jvm.exec) (hb : c.code = cX8_digest) (hr : meth.sig.returnType = (Option.some Jvm.ClassFile.FieldType.long)) (hml : c.maxLocals = 6) (hown : s.vm.findClass RX8 = some m.cls) (hts : ∀ w ∈ lw_all, w.before args s = true) (hlocks : meth.locks = false) (hK : KK κ s) (hM : WFm κ y) (l0 : live y 20 0) {C1 S1 : Nat} (hC : C1 ≤ 635) (hSl : S1 ≤ 5714) {ex : Wd → (Int64) → Prop}
    (kx : ∀ (w : Wd) (v1 : Int64) (H : Heap) (locs : List Loc) (ls : Array Slot) (cells slots : Nat) , ex w v1 → Rp κ w y X [] H → va_S (Af κ) s.heap H locs → lv_has ls 6 [(0, .ref (y.2 20 0)), (1, .long (v1))] → cells ≤ C1 → slots ≤ S1 → W p l e (headSpec (ws_ yX8_digest cX8_digest 6 (Option.some Jvm.ClassFile.FieldType.long)) rm_X8_digest).room s m args below meth c H locs cells slots (MQ below (va_Ql post (fun w t => Rp κ w y X [] t.heap) (Af κ)) args s 635 5714 (Af κ)) (F0 m 487 ls [])) :
    ∀ (f : Nat) (w : Wd) (v1 : Int64) (c3 : Nat) (z3 : Int32) (H : Heap) (locs : List Loc) (ls : Array Slot) (cells slots : Nat)  (hc3 : c3 ≤ mL y), sp_X8_digest_403 κ y post ex  f w v1 c3 z3 → Rp κ w y X [(q3, itC y 54 0 c3 z3)] H → va_S (Af κ) s.heap H locs → lv_has ls 6 [(0, .ref (y.2 20 0)), (1, .long (v1)), (3, .ref (q3))] → cells + f * 13 ≤ C1 → slots + f * 156 ≤ S1 → W p l e (headSpec (ws_ yX8_digest cX8_digest 6 (Option.some Jvm.ClassFile.FieldType.long)) rm_X8_digest).room s m args below meth c H locs cells slots (MQ below (va_Ql post (fun w t => Rp κ w y X [] t.heap) (Af κ)) args s 635 5714 (Af κ)) (F0 m 403 ls []) := by
  intro f
  induction f with
  | zero =>
    intro w v1 c3 z3 H locs ls cells slots hc3 h
    exact False.elim h
  | succ f ih =>
    intro w v1 c3 z3 H locs ls cells slots hc3 h hR hS hl hc hs
    have h : st_X8_digest_403 κ y post ex (sp_X8_digest_403 κ y post ex  f)  w v1 c3 z3 := h
    unfold st_X8_digest_403 at h
    refine lv_aload_n hx hb dX8_digest_403 rfl (lv_at hl 2 rfl) ?_
    refine jr_hasNext (t := 0) ⟨hx, hb, hml, hown, hts⟩ hK hR rfl ⟨fun _ _ _ _ _ => rfl, fun _ _ _ _ _ => rfl⟩ hM.lsL (by omega) (Nat.le_trans hM.mL8 (by decide)) q2250 ⟨Nat.le_of_ble_eq_true rfl, Nat.le_of_ble_eq_true rfl⟩ hl.1 (Nat.le_of_ble_eq_true rfl) dX8_digest_404 ⟨(Nat.le_trans (show cells + 0 ≤ C1 from by omega) hC), (Nat.le_trans (show slots + 0 ≤ S1 from by omega) hSl)⟩ ?_
    refine lv_if_eq (tgt := 487) hx hb dX8_digest_409 (by decide) (fun c_409 => ?_) (fun c_409 => ?_)
    · replace c_409 : ¬ (¬ c3 = mL y) := bi_0.mp c_409
      have h := h.1 c_409
      have hR := hR.sub (L' := []) [] rfl rfl
      exact kx w v1 _ _ _ _ _ h hR hS (lv_sub hl [0, 1] rfl) (by omega) (by omega)
    · replace c_409 : (¬ c3 = mL y) := bi_n0.mp c_409
      have h := h.2 c_409
      refine lv_aload_n hx hb dX8_digest_412 rfl (lv_at hl 2 rfl) ?_
      have hn_413 : c3 < mL y := by omega
      refine jr_next (t := 0) (a := y.2 27 c3) ⟨hx, hb, hml, hown, hts⟩ hK hR hS rfl ⟨fun _ _ _ _ _ => rfl, fun _ _ _ _ _ => rfl⟩ hM.lsL ⟨hM.arL (Nat.lt_of_le_of_lt (Nat.zero_le _) hn_413), (Nat.le_trans hM.mL8 (by decide))⟩ hn_413 (hM.elL hn_413) q2252 ⟨Nat.le_of_ble_eq_true rfl, Nat.le_of_ble_eq_true rfl⟩ hl.1 (Nat.le_of_ble_eq_true rfl) dX8_digest_413 ⟨(Nat.le_trans (show cells + 0 ≤ C1 from by omega) hC), (Nat.le_trans (show slots + 0 ≤ S1 from by omega) hSl)⟩ (fun H locs hR hS => ?_)
      have hR : Rp κ w y X [(q3, itC y 54 0 (c3 + 1) (nI c3))] H := hR
      refine jr_castS (ci := 14) hx hb hown hK hts (hR.role (hM.lot hn_413)) rfl q2253 dX8_digest_418 ?_
      refine lv_astore (lv' := [(4, .ref (y.2 27 c3)), (0, .ref (y.2 20 0)), (1, .long (v1)), (3, .ref (q3))]) hx hb dX8_digest_421 hl (by decide) rfl (fun ls hl => ?_)
      refine lv_iconst (v := (0 : Int32)) hx hb dX8_digest_423 (by decide) ?_
      refine lv_istore (lv' := [(5, .int ((0 : Int32))), (4, .ref (y.2 27 c3)), (0, .ref (y.2 20 0)), (1, .long (v1)), (3, .ref (q3))]) hx hb dX8_digest_424 hl (by decide) rfl (fun ls hl => ?_)
      refine lp_X8_digest_426 (C1 := (cells + 13)) (S1 := (slots + 156)) hx hb hr hml hown hts hlocks hK hM l0 (hM.lot hn_413) (Nat.le_trans (by omega) hC) (Nat.le_trans (by omega) hSl) (fun w_426 y1_426 H locs ls cells9 slots9 h hR hS hl hc9 hs9 => ?_) 13 w v1 (0 : Int32) _ _ _ _ _  h hR hS (lv_sub hl [2, 3, 4, 1, 0] rfl) (by omega) (by omega)
      refine W.widen (k := (cells + 13)) (n := (slots + 156)) hc9 hs9 ?_
      refine lv_lload_n hx hb dX8_digest_455 rfl (lv_at hl 1 rfl) ?_
      refine lv_ldc2 (v := (31 : Int64)) hx hb hown (hts _ q2634) dX8_digest_456 ?_
      refine lv_lmul hx hb dX8_digest_459 ?_
      refine lv_aload_n hx hb dX8_digest_460 rfl (lv_at hl 0 rfl) ?_
      refine lv_aload hx hb dX8_digest_461 (lv_at hl 3 rfl) ?_
      refine lv_iconst (v := (1 : Int32)) hx hb dX8_digest_463 (by decide) ?_
      refine ce_qi (fw := fun u => u) (fy := fun _ => y) (cr_V (n := 2) (As := [.ref (y.2 27 c3), .int ((1 : Int32))]) (rest := [.long (y1_426 * ((31 : Int64)))]) ⟨hx, hb, hml, hown, hts⟩ hK hR (m_X8_wouldBringNow hM l0 (hM.lot hn_413) h) q2589 q2591 qs69 q85 q2592 rfl rfl hd_X8_wouldBringNow ⟨Nat.le_of_ble_eq_true rfl, Nat.le_of_ble_eq_true rfl⟩ (rv hK hR l0 (ci := 11) rfl rfl) rfl rfl hl.1 rfl (lv_room (Nat.le_of_ble_eq_true rfl)) dX8_digest_464 ⟨(Nat.le_trans (show cells + 13 + 0 ≤ C1 from by omega) hC), (Nat.le_trans (show slots + 156 + 0 ≤ S1 from by omega) hSl)⟩) hR hS (fun r_464 w_464 H locs h hR _ hS => ?_)
      refine lv_i2l hx hb dX8_digest_467 rfl ?_
      refine lv_ladd hx hb dX8_digest_468 ?_
      refine lv_topl (fun x_469 ex_469 => ?_)
      have h := h x_469 ex_469
      refine lv_lstore_n (lv' := [(1, .long (x_469)), (0, .ref (y.2 20 0)), (3, .ref (q3)), (4, .ref (y.2 27 c3))]) hx hb dX8_digest_469 rfl hl (by decide) rfl (fun ls hl => ?_)
      refine lv_lload_n hx hb dX8_digest_470 rfl (lv_at hl 0 rfl) ?_
      refine lv_ldc2 (v := (31 : Int64)) hx hb hown (hts _ q2634) dX8_digest_471 ?_
      refine lv_lmul hx hb dX8_digest_474 ?_
      refine lv_aload_n hx hb dX8_digest_475 rfl (lv_at hl 1 rfl) ?_
      refine lv_aload hx hb dX8_digest_476 (lv_at hl 3 rfl) ?_
      refine ce_qi (fw := fun u => u) (fy := fun _ => y) (cr_V (n := 1) (As := [.ref (y.2 27 c3)]) (rest := [.long (x_469 * ((31 : Int64)))]) ⟨hx, hb, hml, hown, hts⟩ hK hR (m_X8_bestForceNow hM l0 (hM.lot hn_413) h) q2597 q2599 qs70 q85 q2600 rfl rfl hd_X8_bestForceNow ⟨Nat.le_of_ble_eq_true rfl, Nat.le_of_ble_eq_true rfl⟩ (rv hK hR l0 (ci := 11) rfl rfl) rfl rfl hl.1 rfl (lv_room (Nat.le_of_ble_eq_true rfl)) dX8_digest_478 ⟨(Nat.le_trans (show cells + 13 + 0 ≤ C1 from by omega) hC), (Nat.le_trans (show slots + 156 + 0 ≤ S1 from by omega) hSl)⟩) hR hS (fun r_478 w_478 H locs h hR _ hS => ?_)
      refine lv_i2l hx hb dX8_digest_481 rfl ?_
      refine lv_ladd hx hb dX8_digest_482 ?_
      refine lv_topl (fun x_483 ex_483 => ?_)
      have h := h x_483 ex_483
      refine lv_lstore_n (lv' := [(1, .long (x_483)), (0, .ref (y.2 20 0)), (3, .ref (q3)), (4, .ref (y.2 27 c3))]) hx hb dX8_digest_483 rfl hl (by decide) rfl (fun ls hl => ?_)
      refine lv_goto (tgt := 403) hx hb dX8_digest_484 (by decide) ?_
      exact ih w_478 x_483 (c3 + 1) (nI c3) _ _ _ _ _ (by omega) h hR hS (lv_sub hl [1, 0, 2] rfl) (by omega) (by omega)
def sp_X8_digest (κ : Kx) (y : Ly) (post : Int64 → Wd → Prop) (w : Wd)  : Prop := ∀ w_2 : Wd, w_2 = sv w 20 0 0 ((0 : Int32)) → ∀ x_8 : Int64, x_8 = (58260 : Int64) → sp_X8_digest_11 κ y post (fun w_11 y1_11 => sp_X8_digest_38 κ y post (fun w_38 y1_38 => sp_X8_digest_94 κ y post (fun w_94 y1_94 => sp_X8_digest_233 κ y post (fun w_233 y1_233 => sp_X8_digest_403 κ y post (fun w_403 y1_403 => sp_X8_isSoundNow κ y (fun r_493 w_493 => ((r_493 = 0) → (post ((y1_403 * ((31 : Int64))) + ((0 : Int32).toInt64)) w_493)) ∧ ((¬ (r_493 = 0)) → (post ((y1_403 * ((31 : Int64))) + ((1 : Int32).toInt64)) w_493))) w_403 )  9 w_233 y1_233 0 (-1))  5 w_94 y1_94 (0 : Int32))  9 w_38 y1_38 (0 : Int32))  4 w_11 y1_11 (0 : Int32))  18 w_2 x_8 (0 : Int32)
theorem hd_X8_digest : yX8_digest.cls = RX8 ∧ yX8_digest.cls ≠ "java/lang/invoke/MethodHandle" ∧ yX8_digest.cls ≠ "java/lang/invoke/VarHandle" ∧ (parseMethodDescriptor yX8_digest.desc).map (fun d => d.parameters.length) = some 0 := by decide +kernel
set_option maxHeartbeats 4000000 in
theorem m_X8_digest {l : Launch} {κ : Kx} {y : Ly} {X : XR} {post : Int64 → Wd → Prop} {w : Wd}   (hM : WFm κ y) (l0 : live y 20 0) (h : sp_X8_digest κ y post w ) : Met l yX8_digest (ws_ yX8_digest cX8_digest 6 (Option.some Jvm.ClassFile.FieldType.long)) rm_X8_digest (va_Pc [.ref (y.2 20 0)] (RC κ w y X)) (va_Ql post (fun w t => Rp κ w y X [] t.heap) (Af κ)) 635 5714 (Af κ) := by
  unfold sp_X8_digest at h
  refine Met.ofW (cc := cX8_digest) (maxL := 6) (ret := (Option.some Jvm.ClassFile.FieldType.long)) (by decide) rfl ?_
  intro p e s m args below meth c s₁ B hml hv
  obtain ⟨rfl, hR, hK⟩ := hv
  have hx := B.exec
  have hb := B.bytes
  have hr := B.returns
  have hts := atoms_spec (ws := ws_ yX8_digest cX8_digest 6 (Option.some Jvm.ClassFile.FieldType.long)) B.pre
  have hts : ∀ w ∈ lw_all, w.before _ s = true := fun w h => hts w (List.mem_cons_of_mem _ h)
  have hown : s.vm.findClass RX8 = some m.cls := findClass_of_methodNamed B.named
  have hlocks := B.notSynchronized
  have hS : va_S (Af κ) s.heap s.heap [] := va_S.rf
  have hl := lv_entry ([.ref (y.2 20 0)]) (n := 6) (Nat.le_of_ble_eq_true rfl)
  rw [lg_entry_eq]
  generalize (lg_sl ([.ref (y.2 20 0)]) ++ List.replicate (6 - (lg_sl ([.ref (y.2 20 0)])).length) Slot.unset).toArray = ls at hl ⊢
  have hl : lv_has ls 6 [(0, .ref (y.2 20 0))] := hl
  refine lv_aload_n hx hb dX8_digest_0 rfl (lv_at hl 0 rfl) ?_
  refine lv_iconst (v := (0 : Int32)) hx hb dX8_digest_1 (by decide) ?_
  refine p20_0 hx hb hts hown hK hR hS l0 q1945 dX8_digest_2 (fun H locs w_2 ew_2 hR hS => ?_)
  have h := h w_2 ew_2
  refine lv_ldc2 (v := (58260 : Int64)) hx hb hown (hts _ q2633) dX8_digest_5 ?_
  refine lv_topl (fun x_8 ex_8 => ?_)
  have h := h x_8 ex_8
  refine lv_lstore_n (lv' := [(1, .long (x_8)), (0, .ref (y.2 20 0))]) hx hb dX8_digest_8 rfl hl (by decide) rfl (fun ls hl => ?_)
  refine lv_iconst (v := (0 : Int32)) hx hb dX8_digest_9 (by decide) ?_
  refine lv_istore_n (lv' := [(3, .int ((0 : Int32))), (1, .long (x_8)), (0, .ref (y.2 20 0))]) hx hb dX8_digest_10 rfl hl (by decide) rfl (fun ls hl => ?_)
  refine lp_X8_digest_11 (C1 := 36) (S1 := 378) hx hb hr hml hown hts hlocks hK hM l0 (Nat.le_of_ble_eq_true rfl) (Nat.le_of_ble_eq_true rfl) (fun w_11 y1_11 H locs ls cells9 slots9 h hR hS hl hc9 hs9 => ?_) 18 w_2 x_8 (0 : Int32) _ _ _ _ _  h hR hS (lv_sub hl [2, 1, 0] rfl) (by omega) (by omega)
  refine W.widen (k := 36) (n := 378) hc9 hs9 ?_
  refine lv_iconst (v := (0 : Int32)) hx hb dX8_digest_36 (by decide) ?_
  refine lv_istore_n (lv' := [(3, .int ((0 : Int32))), (0, .ref (y.2 20 0)), (1, .long (y1_11))]) hx hb dX8_digest_37 rfl hl (by decide) rfl (fun ls hl => ?_)
  refine lp_X8_digest_38 (C1 := 96) (S1 := 642) hx hb hr hml hown hts hlocks hK hM l0 (Nat.le_of_ble_eq_true rfl) (Nat.le_of_ble_eq_true rfl) (fun w_38 y1_38 H locs ls cells9 slots9 h hR hS hl hc9 hs9 => ?_) 4 w_11 y1_11 (0 : Int32) _ _ _ _ _  h hR hS (lv_sub hl [1, 2, 0] rfl) (by omega) (by omega)
  refine W.widen (k := 96) (n := 642) hc9 hs9 ?_
  refine lv_iconst (v := (0 : Int32)) hx hb dX8_digest_92 (by decide) ?_
  refine lv_istore_n (lv' := [(3, .int ((0 : Int32))), (0, .ref (y.2 20 0)), (1, .long (y1_38))]) hx hb dX8_digest_93 rfl hl (by decide) rfl (fun ls hl => ?_)
  refine lp_X8_digest_94 (C1 := 231) (S1 := 2532) hx hb hr hml hown hts hlocks hK hM l0 (Nat.le_of_ble_eq_true rfl) (Nat.le_of_ble_eq_true rfl) (fun w_94 y1_94 H locs ls cells9 slots9 h hR hS hl hc9 hs9 => ?_) 9 w_38 y1_38 (0 : Int32) _ _ _ _ _  h hR hS (lv_sub hl [1, 2, 0] rfl) (by omega) (by omega)
  refine W.widen (k := 231) (n := 2532) hc9 hs9 ?_
  refine lv_iconst (v := (0 : Int32)) hx hb dX8_digest_231 (by decide) ?_
  refine lv_istore_n (lv' := [(3, .int ((0 : Int32))), (0, .ref (y.2 20 0)), (1, .long (y1_94))]) hx hb dX8_digest_232 rfl hl (by decide) rfl (fun ls hl => ?_)
  refine lp_X8_digest_233 (C1 := 511) (S1 := 4282) hx hb hr hml hown hts hlocks hK hM l0 (Nat.le_of_ble_eq_true rfl) (Nat.le_of_ble_eq_true rfl) (fun w_233 y1_233 H locs ls cells9 slots9 h hR hS hl hc9 hs9 => ?_) 5 w_94 y1_94 (0 : Int32) _ _ _ _ _  h hR hS (lv_sub hl [1, 2, 0] rfl) (by omega) (by omega)
  refine W.widen (k := 511) (n := 4282) hc9 hs9 ?_
  refine lv_aload_n hx hb dX8_digest_395 rfl (lv_at hl 0 rfl) ?_
  refine g20_5 hx hb hts hown hK hR l0 q1950 dX8_digest_396 ?_
  refine jr_iter ⟨hx, hb, hml, hown, hts⟩ hK hR hS ⟨fun _ _ _ _ _ => rfl, fun _ _ _ _ _ => rfl⟩ hM.lsL q2248 ⟨Nat.le_of_ble_eq_true rfl, Nat.le_of_ble_eq_true rfl⟩ hl.1 (Nat.le_of_ble_eq_true rfl) dX8_digest_399 ⟨(Nat.le_of_ble_eq_true rfl), (Nat.le_of_ble_eq_true rfl)⟩ (fun q_399 H locs hR hS => ?_)
  have hR : Rp κ w_233 y X [(q_399, itC y 54 0 0 (-1))] H := hR
  refine lv_astore_n (lv' := [(3, .ref (q_399)), (0, .ref (y.2 20 0)), (1, .long (y1_233))]) hx hb dX8_digest_402 rfl hl (by decide) rfl (fun ls hl => ?_)
  refine lp_X8_digest_403 (C1 := 629) (S1 := 5690) hx hb hr hml hown hts hlocks hK hM l0 (Nat.le_of_ble_eq_true rfl) (Nat.le_of_ble_eq_true rfl) (fun w_403 y1_403 H locs ls cells9 slots9 h hR hS hl hc9 hs9 => ?_) 9 w_233 y1_233 0 (-1) _ _ _ _ _ (by omega) h hR hS (lv_sub hl [1, 2, 0] rfl) (by omega) (by omega)
  refine W.widen (k := 629) (n := 5690) hc9 hs9 ?_
  refine lv_lload_n hx hb dX8_digest_487 rfl (lv_at hl 1 rfl) ?_
  refine lv_ldc2 (v := (31 : Int64)) hx hb hown (hts _ q2634) dX8_digest_488 ?_
  refine lv_lmul hx hb dX8_digest_491 ?_
  refine lv_aload_n hx hb dX8_digest_492 rfl (lv_at hl 0 rfl) ?_
  refine ce_qi (fw := fun u => u) (fy := fun _ => y) (cr_V (n := 0) (As := []) (rest := [.long (y1_403 * ((31 : Int64)))]) ⟨hx, hb, hml, hown, hts⟩ hK hR (m_X8_isSoundNow hM l0 h) q2625 q2627 qs72 q85 q2628 rfl rfl hd_X8_isSoundNow ⟨Nat.le_of_ble_eq_true rfl, Nat.le_of_ble_eq_true rfl⟩ (rv hK hR l0 (ci := 11) rfl rfl) rfl rfl hl.1 rfl (lv_room (Nat.le_of_ble_eq_true rfl)) dX8_digest_493 ⟨(Nat.le_of_ble_eq_true rfl), (Nat.le_of_ble_eq_true rfl)⟩) hR hS (fun r_493 w_493 H locs h hR _ hS => ?_)
  refine lv_if_eq (tgt := 503) hx hb dX8_digest_496 (by decide) (fun c_496 => ?_) (fun c_496 => ?_)
  · have h := h.1 c_496
    refine lv_iconst (v := (0 : Int32)) hx hb dX8_digest_503 (by decide) ?_
    refine lv_i2l hx hb dX8_digest_504 rfl ?_
    refine lv_ladd hx hb dX8_digest_505 ?_
    refine W.widen (k := 635) (n := 5714) (Nat.le_of_ble_eq_true rfl) (Nat.le_of_ble_eq_true rfl) ?_
    exact W.lret (v := (y1_403 * ((31 : Int64))) + ((0 : Int32).toInt64)) hx hb hr (fun t ht hW9 => ⟨⟨(y1_403 * ((31 : Int64))) + ((0 : Int32).toInt64), w_493, rfl, h, rpt ht hR⟩, hS.F ht⟩) hS.2.2 dX8_digest_506
  · have h := h.2 c_496
    refine lv_iconst (v := (1 : Int32)) hx hb dX8_digest_499 (by decide) ?_
    refine lv_goto (tgt := 504) hx hb dX8_digest_500 (by decide) ?_
    refine lv_i2l hx hb dX8_digest_504 rfl ?_
    refine lv_ladd hx hb dX8_digest_505 ?_
    refine W.widen (k := 635) (n := 5714) (Nat.le_of_ble_eq_true rfl) (Nat.le_of_ble_eq_true rfl) ?_
    exact W.lret (v := (y1_403 * ((31 : Int64))) + ((1 : Int32).toInt64)) hx hb hr (fun t ht hW9 => ⟨⟨(y1_403 * ((31 : Int64))) + ((1 : Int32).toInt64), w_493, rfl, h, rpt ht hR⟩, hS.F ht⟩) hS.2.2 dX8_digest_506
