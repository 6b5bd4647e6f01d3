/-! printed by wip gen: X8_ring, X8_free, X8_counts, X8_force, X8_letOn, X8_deliver, X8_sue, X8_bench, X8_gift -/
set_option maxRecDepth 100000
abbrev rm_X8_ring : Room := { frames := 3, cells := 0, slots := 0, locals := 93 }
def sp_X8_ring (κ : Kx) (y : Ly) (post : Int32 → Wd → Prop) (w : Wd) (p1 : Int32) (p2 : Int32) : Prop := sp_X8_isNoCompany κ y (fun r_3 w_3 => sp_X8_start κ y (fun r_7 w_7 => ((¬ r_7 = 0) → (post ((0 : Int32)) w_7)) ∧ ((r_7 = 0) → (sp_X8_isIn κ y (fun r_17 w_17 => ((¬ r_17 = 0) → (sp_X8_refuse κ y (fun r_29 w_29 => ((r_29 = 0) → ((vp_in (p1) (mC y)) ∧ (∀ x_51 : Int32, x_51 = gv w_29 26 (((p1).toNatClampNeg)) 2 → (vp_in (p1) (mC y)) ∧ (∀ w_64 : Wd, w_64 = sv w_29 26 (((p1).toNatClampNeg)) 2 (p2) → post (x_51) w_64)))) ∧ ((¬ (r_29 = 0)) → (post ((0 : Int32)) w_29))) w_17 (0 : Int32) (2 : Int32))) ∧ ((r_17 = 0) → (sp_X8_refuse κ y (fun r_29_a w_29_a => ((r_29_a = 0) → ((vp_in (p1) (mC y)) ∧ (∀ x_51_a : Int32, x_51_a = gv w_29_a 26 (((p1).toNatClampNeg)) 2 → (vp_in (p1) (mC y)) ∧ (∀ w_64_a : Wd, w_64_a = sv w_29_a 26 (((p1).toNatClampNeg)) 2 (p2) → post (x_51_a) w_64_a)))) ∧ ((¬ (r_29_a = 0)) → (post ((0 : Int32)) w_29_a))) w_17 (1 : Int32) (2 : Int32)))) w_7 p2 (0 : Int32) (3 : Int32)))) w_3 r_3 (1 : Int32)) w p1
theorem hd_X8_ring : yX8_ring.cls = RX8 ∧ yX8_ring.cls ≠ "java/lang/invoke/MethodHandle" ∧ yX8_ring.cls ≠ "java/lang/invoke/VarHandle" ∧ (parseMethodDescriptor yX8_ring.desc).map (fun d => d.parameters.length) = some 2 := by decide +kernel
set_option maxHeartbeats 4000000 in
theorem m_X8_ring {l : Launch} {κ : Kx} {y : Ly} {X : XR} {post : Int32 → Wd → Prop} {w : Wd} {p1 : Int32} {p2 : Int32}  (hM : WFm κ y) (l0 : live y 20 0) (h : sp_X8_ring κ y post w p1 p2) : Met l yX8_ring (ws_ yX8_ring cX8_ring 4 (Option.some Jvm.ClassFile.FieldType.int)) rm_X8_ring (va_Pc [.ref (y.2 20 0), .int (p1), .int (p2)] (RC κ w y X)) (va_Qi post (fun w t => Rp κ w y X [] t.heap) (Af κ)) 0 0 (Af κ) := by
  unfold sp_X8_ring at h
  refine Met.ofW (cc := cX8_ring) (maxL := 4) (ret := (Option.some Jvm.ClassFile.FieldType.int)) (by decide) rfl ?_
  intro p e s m args below meth c s₁ B hml hv
  obtain ⟨rfl, hR, hK⟩ := hv
  have hx := B.exec
  have hb := B.bytes
  have hr := B.returns
  have hts := atoms_spec (ws := ws_ yX8_ring cX8_ring 4 (Option.some Jvm.ClassFile.FieldType.int)) B.pre
  have hts : ∀ w ∈ lw_all, w.before _ s = true := fun w h => hts w (List.mem_cons_of_mem _ h)
  have hown : s.vm.findClass RX8 = some m.cls := findClass_of_methodNamed B.named
  have hlocks := B.notSynchronized
  have hS : va_S (Af κ) s.heap s.heap [] := va_S.rf
  have hl := lv_entry ([.ref (y.2 20 0), .int (p1), .int (p2)]) (n := 4) (Nat.le_of_ble_eq_true rfl)
  rw [lg_entry_eq]
  generalize (lg_sl ([.ref (y.2 20 0), .int (p1), .int (p2)]) ++ List.replicate (4 - (lg_sl ([.ref (y.2 20 0), .int (p1), .int (p2)])).length) Slot.unset).toArray = ls at hl ⊢
  have hl : lv_has ls 4 [(0, .ref (y.2 20 0)), (1, .int (p1)), (2, .int (p2))] := hl
  refine lv_aload_n hx hb dX8_ring_0 rfl (lv_at hl 0 rfl) ?_
  refine lv_aload_n hx hb dX8_ring_1 rfl (lv_at hl 0 rfl) ?_
  refine lv_iload_n hx hb dX8_ring_2 rfl (lv_at hl 1 rfl) ?_
  refine ce_qi (fw := fun u => u) (fy := fun _ => y) (cr_V (n := 1) (As := [.int (p1)]) (rest := [.ref (y.2 20 0)]) ⟨hx, hb, hml, hown, hts⟩ hK hR (m_X8_isNoCompany hM l0 h) q2189 q2191 qs42 q85 q2192 rfl rfl hd_X8_isNoCompany ⟨Nat.le_of_ble_eq_true rfl, Nat.le_of_ble_eq_true rfl⟩ (rv hK hR l0 (ci := 11) rfl rfl) rfl rfl hl.1 rfl (lv_room (Nat.le_of_ble_eq_true rfl)) dX8_ring_3 ⟨(Nat.le_of_ble_eq_true rfl), (Nat.le_of_ble_eq_true rfl)⟩) hR hS (fun r_3 w_3 H locs h hR _ hS => ?_)
  refine lv_iconst (v := (1 : Int32)) hx hb dX8_ring_6 (by decide) ?_
  refine ce_qi (fw := fun u => u) (fy := fun _ => y) (cr_V (n := 2) (As := [.int (r_3), .int ((1 : Int32))]) (rest := []) ⟨hx, hb, hml, hown, hts⟩ hK hR (m_X8_start hM l0 h) q2023 q2025 qs37 q85 q2026 rfl rfl hd_X8_start ⟨Nat.le_of_ble_eq_true rfl, Nat.le_of_ble_eq_true rfl⟩ (rv hK hR l0 (ci := 11) rfl rfl) rfl rfl hl.1 rfl (lv_room (Nat.le_of_ble_eq_true rfl)) dX8_ring_7 ⟨(Nat.le_of_ble_eq_true rfl), (Nat.le_of_ble_eq_true rfl)⟩) hR hS (fun r_7 w_7 H locs h hR _ hS => ?_)
  refine lv_if_ne (tgt := 35) hx hb dX8_ring_10 (by decide) (fun c_10 => ?_) (fun c_10 => ?_)
  · have h := h.1 c_10
    refine lv_iconst (v := (0 : Int32)) hx hb dX8_ring_35 (by decide) ?_
    refine W.widen (k := 0) (n := 0) (Nat.le_of_ble_eq_true rfl) (Nat.le_of_ble_eq_true rfl) ?_
    exact W.iret (v := (0 : Int32)) hx hb hr (fun t ht hW9 => ⟨⟨(0 : Int32), w_7, rfl, h, rpt ht hR⟩, hS.F ht⟩) hS.2.2 dX8_ring_36
  · have h := h.2 c_10
    refine lv_aload_n hx hb dX8_ring_13 rfl (lv_at hl 0 rfl) ?_
    refine lv_iload_n hx hb dX8_ring_14 rfl (lv_at hl 2 rfl) ?_
    refine lv_iconst (v := (0 : Int32)) hx hb dX8_ring_15 (by decide) ?_
    refine lv_iconst (v := (3 : Int32)) hx hb dX8_ring_16 (by decide) ?_
    refine ce_qi (fw := fun u => u) (fy := fun _ => y) (cr_S (n := 3) (As := [.int (p2), .int ((0 : Int32)), .int ((3 : Int32))]) (rest := [.ref (y.2 20 0)]) ⟨hx, hb, hml, hown, hts⟩ hK hR (m_X8_isIn hM h) q2020 q2021 q85 q2022 rfl rfl hds_X8_isIn ⟨Nat.le_of_ble_eq_true rfl, Nat.le_of_ble_eq_true rfl⟩ rfl rfl hl.1 rfl (lv_room (Nat.le_of_ble_eq_true rfl)) dX8_ring_17 ⟨(Nat.le_of_ble_eq_true rfl), (Nat.le_of_ble_eq_true rfl)⟩) hR hS (fun r_17 w_17 H locs h hR _ hS => ?_)
    refine lv_if_ne (tgt := 27) hx hb dX8_ring_20 (by decide) (fun c_20 => ?_) (fun c_20 => ?_)
    · have h := h.1 c_20
      refine lv_iconst (v := (0 : Int32)) hx hb dX8_ring_27 (by decide) ?_
      refine lv_iconst (v := (2 : Int32)) hx hb dX8_ring_28 (by decide) ?_
      refine ce_qi (fw := fun u => u) (fy := fun _ => y) (cr_V (n := 2) (As := [.int ((0 : Int32)), .int ((2 : Int32))]) (rest := []) ⟨hx, hb, hml, hown, hts⟩ hK hR (m_X8_refuse hM l0 h) q2027 q2029 qs38 q85 q2030 rfl rfl hd_X8_refuse ⟨Nat.le_of_ble_eq_true rfl, Nat.le_of_ble_eq_true rfl⟩ (rv hK hR l0 (ci := 11) rfl rfl) rfl rfl hl.1 rfl (lv_room (Nat.le_of_ble_eq_true rfl)) dX8_ring_29 ⟨(Nat.le_of_ble_eq_true rfl), (Nat.le_of_ble_eq_true rfl)⟩) hR hS (fun r_29 w_29 H locs h hR _ hS => ?_)
      refine lv_if_eq (tgt := 37) hx hb dX8_ring_32 (by decide) (fun c_32 => ?_) (fun c_32 => ?_)
      · have h := h.1 c_32
        refine lv_aload_n hx hb dX8_ring_37 rfl (lv_at hl 0 rfl) ?_
        refine g20_4 hx hb hts hown hK hR l0 q1949 dX8_ring_38 ?_
        refine lv_iload_n hx hb dX8_ring_41 rfl (lv_at hl 1 rfl) ?_
        have o_42 := h.1
        have h := h.2
        refine jr_get (a := y.2 26 ((p1).toNatClampNeg)) ⟨hx, hb, hml, hown, hts⟩ hK hR ⟨fun _ _ _ _ _ => rfl, fun _ _ _ _ _ => rfl⟩ hM.lsC ⟨hM.arC (Nat.lt_of_le_of_lt (Nat.zero_le _) (vp_lt o_42)), (Nat.le_trans hM.mC4 (by decide))⟩ o_42 (hM.elC (vp_lt o_42)) q2101 ⟨Nat.le_of_ble_eq_true rfl, Nat.le_of_ble_eq_true rfl⟩ hl.1 (Nat.le_of_ble_eq_true rfl) dX8_ring_42 ⟨(Nat.le_of_ble_eq_true rfl), (Nat.le_of_ble_eq_true rfl)⟩ ?_
        refine jr_castS (ci := 13) hx hb hown hK hts (hR.role (hM.com (vp_lt o_42))) rfl q2141 dX8_ring_45 ?_
        refine g26_2 hx hb hts hown hK hR (hM.com (vp_lt o_42)) q2151 dX8_ring_48 ?_
        refine lv_topi (fun x_51 ex_51 => ?_)
        have h := h x_51 ex_51
        refine lv_istore_n (lv' := [(3, .int (x_51)), (0, .ref (y.2 20 0)), (1, .int (p1)), (2, .int (p2))]) hx hb dX8_ring_51 rfl hl (by decide) rfl (fun ls hl => ?_)
        refine lv_aload_n hx hb dX8_ring_52 rfl (lv_at hl 1 rfl) ?_
        refine g20_4 hx hb hts hown hK hR l0 q1949 dX8_ring_53 ?_
        refine lv_iload_n hx hb dX8_ring_56 rfl (lv_at hl 2 rfl) ?_
        have o_57 := h.1
        have h := h.2
        refine jr_get (a := y.2 26 ((p1).toNatClampNeg)) ⟨hx, hb, hml, hown, hts⟩ hK hR ⟨fun _ _ _ _ _ => rfl, fun _ _ _ _ _ => rfl⟩ hM.lsC ⟨hM.arC (Nat.lt_of_le_of_lt (Nat.zero_le _) (vp_lt o_57)), (Nat.le_trans hM.mC4 (by decide))⟩ o_57 (hM.elC (vp_lt o_57)) q2101 ⟨Nat.le_of_ble_eq_true rfl, Nat.le_of_ble_eq_true rfl⟩ hl.1 (Nat.le_of_ble_eq_true rfl) dX8_ring_57 ⟨(Nat.le_of_ble_eq_true rfl), (Nat.le_of_ble_eq_true rfl)⟩ ?_
        refine jr_castS (ci := 13) hx hb hown hK hts (hR.role (hM.com (vp_lt o_57))) rfl q2141 dX8_ring_60 ?_
        refine lv_iload_n hx hb dX8_ring_63 rfl (lv_at hl 3 rfl) ?_
        refine p26_2 hx hb hts hown hK hR hS (hM.com (vp_lt o_57)) q2151 dX8_ring_64 (fun H locs w_64 ew_64 hR hS => ?_)
        have h := h w_64 ew_64
        refine lv_iload_n hx hb dX8_ring_67 rfl (lv_at hl 0 rfl) ?_
        refine W.widen (k := 0) (n := 0) (Nat.le_of_ble_eq_true rfl) (Nat.le_of_ble_eq_true rfl) ?_
        exact W.iret (v := x_51) hx hb hr (fun t ht hW9 => ⟨⟨x_51, w_64, rfl, h, rpt ht hR⟩, hS.F ht⟩) hS.2.2 dX8_ring_68
      · have h := h.2 c_32
        refine lv_iconst (v := (0 : Int32)) hx hb dX8_ring_35 (by decide) ?_
        refine W.widen (k := 0) (n := 0) (Nat.le_of_ble_eq_true rfl) (Nat.le_of_ble_eq_true rfl) ?_
        exact W.iret (v := (0 : Int32)) hx hb hr (fun t ht hW9 => ⟨⟨(0 : Int32), w_29, rfl, h, rpt ht hR⟩, hS.F ht⟩) hS.2.2 dX8_ring_36
    · have h := h.2 c_20
      refine lv_iconst (v := (1 : Int32)) hx hb dX8_ring_23 (by decide) ?_
      refine lv_goto (tgt := 28) hx hb dX8_ring_24 (by decide) ?_
      refine lv_iconst (v := (2 : Int32)) hx hb dX8_ring_28 (by decide) ?_
      refine ce_qi (fw := fun u => u) (fy := fun _ => y) (cr_V (n := 2) (As := [.int ((1 : Int32)), .int ((2 : Int32))]) (rest := []) ⟨hx, hb, hml, hown, hts⟩ hK hR (m_X8_refuse hM l0 h) q2027 q2029 qs38 q85 q2030 rfl rfl hd_X8_refuse ⟨Nat.le_of_ble_eq_true rfl, Nat.le_of_ble_eq_true rfl⟩ (rv hK hR l0 (ci := 11) rfl rfl) rfl rfl hl.1 rfl (lv_room (Nat.le_of_ble_eq_true rfl)) dX8_ring_29 ⟨(Nat.le_of_ble_eq_true rfl), (Nat.le_of_ble_eq_true rfl)⟩) hR hS (fun r_29_a w_29_a H locs h hR _ hS => ?_)
      refine lv_if_eq (tgt := 37) hx hb dX8_ring_32 (by decide) (fun c_32_a => ?_) (fun c_32_a => ?_)
      · have h := h.1 c_32_a
        refine lv_aload_n hx hb dX8_ring_37 rfl (lv_at hl 0 rfl) ?_
        refine g20_4 hx hb hts hown hK hR l0 q1949 dX8_ring_38 ?_
        refine lv_iload_n hx hb dX8_ring_41 rfl (lv_at hl 1 rfl) ?_
        have o_42_a := h.1
        have h := h.2
        refine jr_get (a := y.2 26 ((p1).toNatClampNeg)) ⟨hx, hb, hml, hown, hts⟩ hK hR ⟨fun _ _ _ _ _ => rfl, fun _ _ _ _ _ => rfl⟩ hM.lsC ⟨hM.arC (Nat.lt_of_le_of_lt (Nat.zero_le _) (vp_lt o_42_a)), (Nat.le_trans hM.mC4 (by decide))⟩ o_42_a (hM.elC (vp_lt o_42_a)) q2101 ⟨Nat.le_of_ble_eq_true rfl, Nat.le_of_ble_eq_true rfl⟩ hl.1 (Nat.le_of_ble_eq_true rfl) dX8_ring_42 ⟨(Nat.le_of_ble_eq_true rfl), (Nat.le_of_ble_eq_true rfl)⟩ ?_
        refine jr_castS (ci := 13) hx hb hown hK hts (hR.role (hM.com (vp_lt o_42_a))) rfl q2141 dX8_ring_45 ?_
        refine g26_2 hx hb hts hown hK hR (hM.com (vp_lt o_42_a)) q2151 dX8_ring_48 ?_
        refine lv_topi (fun x_51_a ex_51_a => ?_)
        have h := h x_51_a ex_51_a
        refine lv_istore_n (lv' := [(3, .int (x_51_a)), (0, .ref (y.2 20 0)), (1, .int (p1)), (2, .int (p2))]) hx hb dX8_ring_51 rfl hl (by decide) rfl (fun ls hl => ?_)
        refine lv_aload_n hx hb dX8_ring_52 rfl (lv_at hl 1 rfl) ?_
        refine g20_4 hx hb hts hown hK hR l0 q1949 dX8_ring_53 ?_
        refine lv_iload_n hx hb dX8_ring_56 rfl (lv_at hl 2 rfl) ?_
        have o_57_a := h.1
        have h := h.2
        refine jr_get (a := y.2 26 ((p1).toNatClampNeg)) ⟨hx, hb, hml, hown, hts⟩ hK hR ⟨fun _ _ _ _ _ => rfl, fun _ _ _ _ _ => rfl⟩ hM.lsC ⟨hM.arC (Nat.lt_of_le_of_lt (Nat.zero_le _) (vp_lt o_57_a)), (Nat.le_trans hM.mC4 (by decide))⟩ o_57_a (hM.elC (vp_lt o_57_a)) q2101 ⟨Nat.le_of_ble_eq_true rfl, Nat.le_of_ble_eq_true rfl⟩ hl.1 (Nat.le_of_ble_eq_true rfl) dX8_ring_57 ⟨(Nat.le_of_ble_eq_true rfl), (Nat.le_of_ble_eq_true rfl)⟩ ?_
        refine jr_castS (ci := 13) hx hb hown hK hts (hR.role (hM.com (vp_lt o_57_a))) rfl q2141 dX8_ring_60 ?_
        refine lv_iload_n hx hb dX8_ring_63 rfl (lv_at hl 3 rfl) ?_
        refine p26_2 hx hb hts hown hK hR hS (hM.com (vp_lt o_57_a)) q2151 dX8_ring_64 (fun H locs w_64_a ew_64_a hR hS => ?_)
        have h := h w_64_a ew_64_a
        refine lv_iload_n hx hb dX8_ring_67 rfl (lv_at hl 0 rfl) ?_
        refine W.widen (k := 0) (n := 0) (Nat.le_of_ble_eq_true rfl) (Nat.le_of_ble_eq_true rfl) ?_
        exact W.iret (v := x_51_a) hx hb hr (fun t ht hW9 => ⟨⟨x_51_a, w_64_a, rfl, h, rpt ht hR⟩, hS.F ht⟩) hS.2.2 dX8_ring_68
      · have h := h.2 c_32_a
        refine lv_iconst (v := (0 : Int32)) hx hb dX8_ring_35 (by decide) ?_
        refine W.widen (k := 0) (n := 0) (Nat.le_of_ble_eq_true rfl) (Nat.le_of_ble_eq_true rfl) ?_
        exact W.iret (v := (0 : Int32)) hx hb hr (fun t ht hW9 => ⟨⟨(0 : Int32), w_29_a, rfl, h, rpt ht hR⟩, hS.F ht⟩) hS.2.2 dX8_ring_36
abbrev rm_X8_free : Room := { frames := 4, cells := 1, slots := 4, locals := 93 }
def sp_X8_free (κ : Kx) (y : Ly) (post : Int32 → Wd → Prop) (w : Wd) (p1 : Int32) : Prop := (vp_in (p1) (mC y)) ∧ (sp_X8_pledged κ y (fun r_16 w_16 => post ((gv w 26 (((p1).toNatClampNeg)) 0) - r_16) w_16) w p1)
theorem hd_X8_free : yX8_free.cls = RX8 ∧ yX8_free.cls ≠ "java/lang/invoke/MethodHandle" ∧ yX8_free.cls ≠ "java/lang/invoke/VarHandle" ∧ (parseMethodDescriptor yX8_free.desc).map (fun d => d.parameters.length) = some 1 := by decide +kernel
set_option maxHeartbeats 4000000 in
theorem m_X8_free {l : Launch} {κ : Kx} {y : Ly} {X : XR} {post : Int32 → Wd → Prop} {w : Wd} {p1 : Int32}  (hM : WFm κ y) (l0 : live y 20 0) (h : sp_X8_free κ y post w p1) : Met l yX8_free (ws_ yX8_free cX8_free 2 (Option.some Jvm.ClassFile.FieldType.int)) rm_X8_free (va_Pc [.ref (y.2 20 0), .int (p1)] (RC κ w y X)) (va_Qi post (fun w t => Rp κ w y X [] t.heap) (Af κ)) 1 4 (Af κ) := by
  unfold sp_X8_free at h
  refine Met.ofW (cc := cX8_free) (maxL := 2) (ret := (Option.some Jvm.ClassFile.FieldType.int)) (by decide) rfl ?_
  intro p e s m args below meth c s₁ B hml hv
  obtain ⟨rfl, hR, hK⟩ := hv
  have hx := B.exec
  have hb := B.bytes
  have hr := B.returns
  have hts := atoms_spec (ws := ws_ yX8_free cX8_free 2 (Option.some Jvm.ClassFile.FieldType.int)) B.pre
  have hts : ∀ w ∈ lw_all, w.before _ s = true := fun w h => hts w (List.mem_cons_of_mem _ h)
  have hown : s.vm.findClass RX8 = some m.cls := findClass_of_methodNamed B.named
  have hlocks := B.notSynchronized
  have hS : va_S (Af κ) s.heap s.heap [] := va_S.rf
  have hl := lv_entry ([.ref (y.2 20 0), .int (p1)]) (n := 2) (Nat.le_of_ble_eq_true rfl)
  rw [lg_entry_eq]
  generalize (lg_sl ([.ref (y.2 20 0), .int (p1)]) ++ List.replicate (2 - (lg_sl ([.ref (y.2 20 0), .int (p1)])).length) Slot.unset).toArray = ls at hl ⊢
  have hl : lv_has ls 2 [(0, .ref (y.2 20 0)), (1, .int (p1))] := hl
  refine lv_aload_n hx hb dX8_free_0 rfl (lv_at hl 0 rfl) ?_
  refine g20_4 hx hb hts hown hK hR l0 q1949 dX8_free_1 ?_
  refine lv_iload_n hx hb dX8_free_4 rfl (lv_at hl 1 rfl) ?_
  have o_5 := h.1
  have h := h.2
  refine jr_get (a := y.2 26 ((p1).toNatClampNeg)) ⟨hx, hb, hml, hown, hts⟩ hK hR ⟨fun _ _ _ _ _ => rfl, fun _ _ _ _ _ => rfl⟩ hM.lsC ⟨hM.arC (Nat.lt_of_le_of_lt (Nat.zero_le _) (vp_lt o_5)), (Nat.le_trans hM.mC4 (by decide))⟩ o_5 (hM.elC (vp_lt o_5)) q2101 ⟨Nat.le_of_ble_eq_true rfl, Nat.le_of_ble_eq_true rfl⟩ hl.1 (Nat.le_of_ble_eq_true rfl) dX8_free_5 ⟨(Nat.le_of_ble_eq_true rfl), (Nat.le_of_ble_eq_true rfl)⟩ ?_
  refine jr_castS (ci := 13) hx hb hown hK hts (hR.role (hM.com (vp_lt o_5))) rfl q2141 dX8_free_8 ?_
  refine g26_0 hx hb hts hown hK hR (hM.com (vp_lt o_5)) q2149 dX8_free_11 ?_
  refine lv_aload_n hx hb dX8_free_14 rfl (lv_at hl 0 rfl) ?_
  refine lv_iload_n hx hb dX8_free_15 rfl (lv_at hl 1 rfl) ?_
  refine ce_qi (fw := fun u => u) (fy := fun _ => y) (cr_V (n := 1) (As := [.int (p1)]) (rest := [.int (gv w 26 (((p1).toNatClampNeg)) 0)]) ⟨hx, hb, hml, hown, hts⟩ hK hR (m_X8_pledged hM l0 h) q2316 q2318 qs46 q85 q2319 rfl rfl hd_X8_pledged ⟨Nat.le_of_ble_eq_true rfl, Nat.le_of_ble_eq_true rfl⟩ (rv hK hR l0 (ci := 11) rfl rfl) rfl rfl hl.1 rfl (lv_room (Nat.le_of_ble_eq_true rfl)) dX8_free_16 ⟨(Nat.le_of_ble_eq_true rfl), (Nat.le_of_ble_eq_true rfl)⟩) hR hS (fun r_16 w_16 H locs h hR _ hS => ?_)
  refine lv_isub hx hb dX8_free_19 ?_
  refine W.widen (k := 1) (n := 4) (Nat.le_of_ble_eq_true rfl) (Nat.le_of_ble_eq_true rfl) ?_
  exact W.iret (v := (gv w 26 (((p1).toNatClampNeg)) 0) - r_16) hx hb hr (fun t ht hW9 => ⟨⟨(gv w 26 (((p1).toNatClampNeg)) 0) - r_16, w_16, rfl, h, rpt ht hR⟩, hS.F ht⟩) hS.2.2 dX8_free_20
abbrev rm_X8_counts : Room := { frames := 5, cells := 1, slots := 4, locals := 114 }
def sp_X8_counts (κ : Kx) (y : Ly) (post : Int32 → Wd → Prop) (w : Wd) (a1 : Nat) (p2 : Int32) : Prop := (vp_in (p2) 4) ∧ (∀ x_6 : Int32, x_6 = gv w 28 a1 (p2).toNatClampNeg → ((x_6 ≤ 0) → (post ((0 : Int32)) w)) ∧ ((¬ (x_6 ≤ 0)) → (((x_6 < gv w 27 a1 3) → (post ((0 : Int32)) w)) ∧ ((¬ (x_6 < gv w 27 a1 3)) → ((vp_in (p2) (mC y)) ∧ (((¬ gv w 26 (((p2).toNatClampNeg)) 4 = 0) → (post ((0 : Int32)) w)) ∧ ((gv w 26 (((p2).toNatClampNeg)) 4 = 0) → (sp_X8_free κ y (fun r_38 w_38 => ((r_38 < x_6 / (4 : Int32)) → (post ((0 : Int32)) w_38)) ∧ ((¬ (r_38 < x_6 / (4 : Int32))) → (post ((1 : Int32)) w_38))) w p2))))))))
theorem hd_X8_counts : yX8_counts.cls = RX8 ∧ yX8_counts.cls ≠ "java/lang/invoke/MethodHandle" ∧ yX8_counts.cls ≠ "java/lang/invoke/VarHandle" ∧ (parseMethodDescriptor yX8_counts.desc).map (fun d => d.parameters.length) = some 2 := by decide +kernel
set_option maxHeartbeats 4000000 in
theorem m_X8_counts {l : Launch} {κ : Kx} {y : Ly} {X : XR} {post : Int32 → Wd → Prop} {w : Wd} {a1 : Nat} {p2 : Int32}  (hM : WFm κ y) (l0 : live y 20 0) (l1 : live y 27 a1) (h : sp_X8_counts κ y post w a1 p2) : Met l yX8_counts (ws_ yX8_counts cX8_counts 4 (Option.some Jvm.ClassFile.FieldType.boolean)) rm_X8_counts (va_Pc [.ref (y.2 20 0), .ref (y.2 27 a1), .int (p2)] (RC κ w y X)) (va_Qi post (fun w t => Rp κ w y X [] t.heap) (Af κ)) 1 4 (Af κ) := by
  unfold sp_X8_counts at h
  refine Met.ofW (cc := cX8_counts) (maxL := 4) (ret := (Option.some Jvm.ClassFile.FieldType.boolean)) (by decide) rfl ?_
  intro p e s m args below meth c s₁ B hml hv
  obtain ⟨rfl, hR, hK⟩ := hv
  have hx := B.exec
  have hb := B.bytes
  have hr := B.returns
  have hts := atoms_spec (ws := ws_ yX8_counts cX8_counts 4 (Option.some Jvm.ClassFile.FieldType.boolean)) B.pre
  have hts : ∀ w ∈ lw_all, w.before _ s = true := fun w h => hts w (List.mem_cons_of_mem _ h)
  have hown : s.vm.findClass RX8 = some m.cls := findClass_of_methodNamed B.named
  have hlocks := B.notSynchronized
  have hS : va_S (Af κ) s.heap s.heap [] := va_S.rf
  have hl := lv_entry ([.ref (y.2 20 0), .ref (y.2 27 a1), .int (p2)]) (n := 4) (Nat.le_of_ble_eq_true rfl)
  rw [lg_entry_eq]
  generalize (lg_sl ([.ref (y.2 20 0), .ref (y.2 27 a1), .int (p2)]) ++ List.replicate (4 - (lg_sl ([.ref (y.2 20 0), .ref (y.2 27 a1), .int (p2)])).length) Slot.unset).toArray = ls at hl ⊢
  have hl : lv_has ls 4 [(0, .ref (y.2 20 0)), (1, .ref (y.2 27 a1)), (2, .int (p2))] := hl
  refine lv_aload_n hx hb dX8_counts_0 rfl (lv_at hl 1 rfl) ?_
  refine g27_11 hx hb hts hown hK hR l1 q2274 dX8_counts_1 ?_
  refine lv_iload_n hx hb dX8_counts_4 rfl (lv_at hl 2 rfl) ?_
  have o_5 := h.1
  have h := h.2
  refine a28 hx hb hK hR (hM.bid l1) o_5 dX8_counts_5 ?_
  refine lv_topi (fun x_6 ex_6 => ?_)
  have h := h x_6 ex_6
  refine lv_istore_n (lv' := [(3, .int (x_6)), (0, .ref (y.2 20 0)), (1, .ref (y.2 27 a1)), (2, .int (p2))]) hx hb dX8_counts_6 rfl hl (by decide) rfl (fun ls hl => ?_)
  refine lv_iload_n hx hb dX8_counts_7 rfl (lv_at hl 0 rfl) ?_
  refine lv_if_le (tgt := 51) hx hb dX8_counts_8 (by decide) (fun c_8 => ?_) (fun c_8 => ?_)
  · have h := h.1 c_8
    refine lv_iconst (v := (0 : Int32)) hx hb dX8_counts_51 (by decide) ?_
    refine W.widen (k := 1) (n := 4) (Nat.le_of_ble_eq_true rfl) (Nat.le_of_ble_eq_true rfl) ?_
    exact W.zret (v := (0 : Int32)) hx hb hr nbo_0.n (fun t ht hW9 => ⟨⟨(0 : Int32), w, rfl, h, rpt ht hR⟩, hS.F ht⟩) hS.2.2 dX8_counts_52
  · have h := h.2 c_8
    refine lv_iload_n hx hb dX8_counts_11 rfl (lv_at hl 0 rfl) ?_
    refine lv_aload_n hx hb dX8_counts_12 rfl (lv_at hl 2 rfl) ?_
    refine g27_3 hx hb hts hown hK hR l1 q2262 dX8_counts_13 ?_
    refine lv_icmp_lt (tgt := 51) hx hb dX8_counts_16 (by decide) (fun c_16 => ?_) (fun c_16 => ?_)
    · have h := h.1 c_16
      refine lv_iconst (v := (0 : Int32)) hx hb dX8_counts_51 (by decide) ?_
      refine W.widen (k := 1) (n := 4) (Nat.le_of_ble_eq_true rfl) (Nat.le_of_ble_eq_true rfl) ?_
      exact W.zret (v := (0 : Int32)) hx hb hr nbo_0.n (fun t ht hW9 => ⟨⟨(0 : Int32), w, rfl, h, rpt ht hR⟩, hS.F ht⟩) hS.2.2 dX8_counts_52
    · have h := h.2 c_16
      refine lv_aload_n hx hb dX8_counts_19 rfl (lv_at hl 1 rfl) ?_
      refine g20_4 hx hb hts hown hK hR l0 q1949 dX8_counts_20 ?_
      refine lv_iload_n hx hb dX8_counts_23 rfl (lv_at hl 3 rfl) ?_
      have o_24 := h.1
      have h := h.2
      refine jr_get (a := y.2 26 ((p2).toNatClampNeg)) ⟨hx, hb, hml, hown, hts⟩ hK hR ⟨fun _ _ _ _ _ => rfl, fun _ _ _ _ _ => rfl⟩ hM.lsC ⟨hM.arC (Nat.lt_of_le_of_lt (Nat.zero_le _) (vp_lt o_24)), (Nat.le_trans hM.mC4 (by decide))⟩ o_24 (hM.elC (vp_lt o_24)) q2101 ⟨Nat.le_of_ble_eq_true rfl, Nat.le_of_ble_eq_true rfl⟩ hl.1 (Nat.le_of_ble_eq_true rfl) dX8_counts_24 ⟨(Nat.le_of_ble_eq_true rfl), (Nat.le_of_ble_eq_true rfl)⟩ ?_
      refine jr_castS (ci := 13) hx hb hown hK hts (hR.role (hM.com (vp_lt o_24))) rfl q2141 dX8_counts_27 ?_
      refine g26_4 hx hb hts hown hK hR (hM.com (vp_lt o_24)) q2153 dX8_counts_30 ?_
      refine lv_if_ne (tgt := 51) hx hb dX8_counts_33 (by decide) (fun c_33 => ?_) (fun c_33 => ?_)
      · have h := h.1 c_33
        refine lv_iconst (v := (0 : Int32)) hx hb dX8_counts_51 (by decide) ?_
        refine W.widen (k := 1) (n := 4) (Nat.le_of_ble_eq_true rfl) (Nat.le_of_ble_eq_true rfl) ?_
        exact W.zret (v := (0 : Int32)) hx hb hr nbo_0.n (fun t ht hW9 => ⟨⟨(0 : Int32), w, rfl, h, rpt ht hR⟩, hS.F ht⟩) hS.2.2 dX8_counts_52
      · have h := h.2 c_33
        refine lv_aload_n hx hb dX8_counts_36 rfl (lv_at hl 1 rfl) ?_
        refine lv_iload_n hx hb dX8_counts_37 rfl (lv_at hl 3 rfl) ?_
        refine ce_qi (fw := fun u => u) (fy := fun _ => y) (cr_V (n := 1) (As := [.int (p2)]) (rest := []) ⟨hx, hb, hml, hown, hts⟩ hK hR (m_X8_free hM l0 h) q2312 q2314 qs45 q85 q2315 rfl rfl hd_X8_free ⟨Nat.le_of_ble_eq_true rfl, Nat.le_of_ble_eq_true rfl⟩ (rv hK hR l0 (ci := 11) rfl rfl) rfl rfl hl.1 rfl (lv_room (Nat.le_of_ble_eq_true rfl)) dX8_counts_38 ⟨(Nat.le_of_ble_eq_true rfl), (Nat.le_of_ble_eq_true rfl)⟩) hR hS (fun r_38 w_38 H locs h hR _ hS => ?_)
        refine lv_iload_n hx hb dX8_counts_41 rfl (lv_at hl 0 rfl) ?_
        refine lv_iconst (v := (4 : Int32)) hx hb dX8_counts_42 (by decide) ?_
        refine lv_idiv hx hb dX8_counts_43 (by decide) ?_
        refine lv_icmp_lt (tgt := 51) hx hb dX8_counts_44 (by decide) (fun c_44 => ?_) (fun c_44 => ?_)
        · have h := h.1 c_44
          refine lv_iconst (v := (0 : Int32)) hx hb dX8_counts_51 (by decide) ?_
          refine W.widen (k := 1) (n := 4) (Nat.le_of_ble_eq_true rfl) (Nat.le_of_ble_eq_true rfl) ?_
          exact W.zret (v := (0 : Int32)) hx hb hr nbo_0.n (fun t ht hW9 => ⟨⟨(0 : Int32), w_38, rfl, h, rpt ht hR⟩, hS.F ht⟩) hS.2.2 dX8_counts_52
        · have h := h.2 c_44
          refine lv_iconst (v := (1 : Int32)) hx hb dX8_counts_47 (by decide) ?_
          refine lv_goto (tgt := 52) hx hb dX8_counts_48 (by decide) ?_
          refine W.widen (k := 1) (n := 4) (Nat.le_of_ble_eq_true rfl) (Nat.le_of_ble_eq_true rfl) ?_
          exact W.zret (v := (1 : Int32)) hx hb hr nbo_1.n (fun t ht hW9 => ⟨⟨(1 : Int32), w_38, rfl, h, rpt ht hR⟩, hS.F ht⟩) hS.2.2 dX8_counts_52
abbrev rm_X8_force : Room := { frames := 3, cells := 0, slots := 0, locals := 93 }
def sp_X8_force (κ : Kx) (y : Ly) (post : Int32 → Wd → Prop) (w : Wd) (p1 : Int32) (p2 : Int32) : Prop := sp_X8_isNoCompany κ y (fun r_3 w_3 => sp_X8_start κ y (fun r_7 w_7 => ((¬ r_7 = 0) → (post ((0 : Int32)) w_7)) ∧ ((r_7 = 0) → (sp_X8_isIn κ y (fun r_17 w_17 => ((¬ r_17 = 0) → (sp_X8_refuse κ y (fun r_29 w_29 => ((r_29 = 0) → ((vp_in (p1) (mC y)) ∧ (∀ x_51 : Int32, x_51 = gv w_29 26 (((p1).toNatClampNeg)) 3 → (vp_in (p1) (mC y)) ∧ (∀ w_64 : Wd, w_64 = sv w_29 26 (((p1).toNatClampNeg)) 3 (p2) → post (x_51) w_64)))) ∧ ((¬ (r_29 = 0)) → (post ((0 : Int32)) w_29))) w_17 (0 : Int32) (2 : Int32))) ∧ ((r_17 = 0) → (sp_X8_refuse κ y (fun r_29_a w_29_a => ((r_29_a = 0) → ((vp_in (p1) (mC y)) ∧ (∀ x_51_a : Int32, x_51_a = gv w_29_a 26 (((p1).toNatClampNeg)) 3 → (vp_in (p1) (mC y)) ∧ (∀ w_64_a : Wd, w_64_a = sv w_29_a 26 (((p1).toNatClampNeg)) 3 (p2) → post (x_51_a) w_64_a)))) ∧ ((¬ (r_29_a = 0)) → (post ((0 : Int32)) w_29_a))) w_17 (1 : Int32) (2 : Int32)))) w_7 p2 (0 : Int32) (3 : Int32)))) w_3 r_3 (1 : Int32)) w p1
theorem hd_X8_force : yX8_force.cls = RX8 ∧ yX8_force.cls ≠ "java/lang/invoke/MethodHandle" ∧ yX8_force.cls ≠ "java/lang/invoke/VarHandle" ∧ (parseMethodDescriptor yX8_force.desc).map (fun d => d.parameters.length) = some 2 := by decide +kernel
set_option maxHeartbeats 4000000 in
theorem m_X8_force {l : Launch} {κ : Kx} {y : Ly} {X : XR} {post : Int32 → Wd → Prop} {w : Wd} {p1 : Int32} {p2 : Int32}  (hM : WFm κ y) (l0 : live y 20 0) (h : sp_X8_force κ y post w p1 p2) : Met l yX8_force (ws_ yX8_force cX8_force 4 (Option.some Jvm.ClassFile.FieldType.int)) rm_X8_force (va_Pc [.ref (y.2 20 0), .int (p1), .int (p2)] (RC κ w y X)) (va_Qi post (fun w t => Rp κ w y X [] t.heap) (Af κ)) 0 0 (Af κ) := by
  unfold sp_X8_force at h
  refine Met.ofW (cc := cX8_force) (maxL := 4) (ret := (Option.some Jvm.ClassFile.FieldType.int)) (by decide) rfl ?_
  intro p e s m args below meth c s₁ B hml hv
  obtain ⟨rfl, hR, hK⟩ := hv
  have hx := B.exec
  have hb := B.bytes
  have hr := B.returns
  have hts := atoms_spec (ws := ws_ yX8_force cX8_force 4 (Option.some Jvm.ClassFile.FieldType.int)) B.pre
  have hts : ∀ w ∈ lw_all, w.before _ s = true := fun w h => hts w (List.mem_cons_of_mem _ h)
  have hown : s.vm.findClass RX8 = some m.cls := findClass_of_methodNamed B.named
  have hlocks := B.notSynchronized
  have hS : va_S (Af κ) s.heap s.heap [] := va_S.rf
  have hl := lv_entry ([.ref (y.2 20 0), .int (p1), .int (p2)]) (n := 4) (Nat.le_of_ble_eq_true rfl)
  rw [lg_entry_eq]
  generalize (lg_sl ([.ref (y.2 20 0), .int (p1), .int (p2)]) ++ List.replicate (4 - (lg_sl ([.ref (y.2 20 0), .int (p1), .int (p2)])).length) Slot.unset).toArray = ls at hl ⊢
  have hl : lv_has ls 4 [(0, .ref (y.2 20 0)), (1, .int (p1)), (2, .int (p2))] := hl
  refine lv_aload_n hx hb dX8_force_0 rfl (lv_at hl 0 rfl) ?_
  refine lv_aload_n hx hb dX8_force_1 rfl (lv_at hl 0 rfl) ?_
  refine lv_iload_n hx hb dX8_force_2 rfl (lv_at hl 1 rfl) ?_
  refine ce_qi (fw := fun u => u) (fy := fun _ => y) (cr_V (n := 1) (As := [.int (p1)]) (rest := [.ref (y.2 20 0)]) ⟨hx, hb, hml, hown, hts⟩ hK hR (m_X8_isNoCompany hM l0 h) q2189 q2191 qs42 q85 q2192 rfl rfl hd_X8_isNoCompany ⟨Nat.le_of_ble_eq_true rfl, Nat.le_of_ble_eq_true rfl⟩ (rv hK hR l0 (ci := 11) rfl rfl) rfl rfl hl.1 rfl (lv_room (Nat.le_of_ble_eq_true rfl)) dX8_force_3 ⟨(Nat.le_of_ble_eq_true rfl), (Nat.le_of_ble_eq_true rfl)⟩) hR hS (fun r_3 w_3 H locs h hR _ hS => ?_)
  refine lv_iconst (v := (1 : Int32)) hx hb dX8_force_6 (by decide) ?_
  refine ce_qi (fw := fun u => u) (fy := fun _ => y) (cr_V (n := 2) (As := [.int (r_3), .int ((1 : Int32))]) (rest := []) ⟨hx, hb, hml, hown, hts⟩ hK hR (m_X8_start hM l0 h) q2023 q2025 qs37 q85 q2026 rfl rfl hd_X8_start ⟨Nat.le_of_ble_eq_true rfl, Nat.le_of_ble_eq_true rfl⟩ (rv hK hR l0 (ci := 11) rfl rfl) rfl rfl hl.1 rfl (lv_room (Nat.le_of_ble_eq_true rfl)) dX8_force_7 ⟨(Nat.le_of_ble_eq_true rfl), (Nat.le_of_ble_eq_true rfl)⟩) hR hS (fun r_7 w_7 H locs h hR _ hS => ?_)
  refine lv_if_ne (tgt := 35) hx hb dX8_force_10 (by decide) (fun c_10 => ?_) (fun c_10 => ?_)
  · have h := h.1 c_10
    refine lv_iconst (v := (0 : Int32)) hx hb dX8_force_35 (by decide) ?_
    refine W.widen (k := 0) (n := 0) (Nat.le_of_ble_eq_true rfl) (Nat.le_of_ble_eq_true rfl) ?_
    exact W.iret (v := (0 : Int32)) hx hb hr (fun t ht hW9 => ⟨⟨(0 : Int32), w_7, rfl, h, rpt ht hR⟩, hS.F ht⟩) hS.2.2 dX8_force_36
  · have h := h.2 c_10
    refine lv_aload_n hx hb dX8_force_13 rfl (lv_at hl 0 rfl) ?_
    refine lv_iload_n hx hb dX8_force_14 rfl (lv_at hl 2 rfl) ?_
    refine lv_iconst (v := (0 : Int32)) hx hb dX8_force_15 (by decide) ?_
    refine lv_iconst (v := (3 : Int32)) hx hb dX8_force_16 (by decide) ?_
    refine ce_qi (fw := fun u => u) (fy := fun _ => y) (cr_S (n := 3) (As := [.int (p2), .int ((0 : Int32)), .int ((3 : Int32))]) (rest := [.ref (y.2 20 0)]) ⟨hx, hb, hml, hown, hts⟩ hK hR (m_X8_isIn hM h) q2020 q2021 q85 q2022 rfl rfl hds_X8_isIn ⟨Nat.le_of_ble_eq_true rfl, Nat.le_of_ble_eq_true rfl⟩ rfl rfl hl.1 rfl (lv_room (Nat.le_of_ble_eq_true rfl)) dX8_force_17 ⟨(Nat.le_of_ble_eq_true rfl), (Nat.le_of_ble_eq_true rfl)⟩) hR hS (fun r_17 w_17 H locs h hR _ hS => ?_)
    refine lv_if_ne (tgt := 27) hx hb dX8_force_20 (by decide) (fun c_20 => ?_) (fun c_20 => ?_)
    · have h := h.1 c_20
      refine lv_iconst (v := (0 : Int32)) hx hb dX8_force_27 (by decide) ?_
      refine lv_iconst (v := (2 : Int32)) hx hb dX8_force_28 (by decide) ?_
      refine ce_qi (fw := fun u => u) (fy := fun _ => y) (cr_V (n := 2) (As := [.int ((0 : Int32)), .int ((2 : Int32))]) (rest := []) ⟨hx, hb, hml, hown, hts⟩ hK hR (m_X8_refuse hM l0 h) q2027 q2029 qs38 q85 q2030 rfl rfl hd_X8_refuse ⟨Nat.le_of_ble_eq_true rfl, Nat.le_of_ble_eq_true rfl⟩ (rv hK hR l0 (ci := 11) rfl rfl) rfl rfl hl.1 rfl (lv_room (Nat.le_of_ble_eq_true rfl)) dX8_force_29 ⟨(Nat.le_of_ble_eq_true rfl), (Nat.le_of_ble_eq_true rfl)⟩) hR hS (fun r_29 w_29 H locs h hR _ hS => ?_)
      refine lv_if_eq (tgt := 37) hx hb dX8_force_32 (by decide) (fun c_32 => ?_) (fun c_32 => ?_)
      · have h := h.1 c_32
        refine lv_aload_n hx hb dX8_force_37 rfl (lv_at hl 0 rfl) ?_
        refine g20_4 hx hb hts hown hK hR l0 q1949 dX8_force_38 ?_
        refine lv_iload_n hx hb dX8_force_41 rfl (lv_at hl 1 rfl) ?_
        have o_42 := h.1
        have h := h.2
        refine jr_get (a := y.2 26 ((p1).toNatClampNeg)) ⟨hx, hb, hml, hown, hts⟩ hK hR ⟨fun _ _ _ _ _ => rfl, fun _ _ _ _ _ => rfl⟩ hM.lsC ⟨hM.arC (Nat.lt_of_le_of_lt (Nat.zero_le _) (vp_lt o_42)), (Nat.le_trans hM.mC4 (by decide))⟩ o_42 (hM.elC (vp_lt o_42)) q2101 ⟨Nat.le_of_ble_eq_true rfl, Nat.le_of_ble_eq_true rfl⟩ hl.1 (Nat.le_of_ble_eq_true rfl) dX8_force_42 ⟨(Nat.le_of_ble_eq_true rfl), (Nat.le_of_ble_eq_true rfl)⟩ ?_
        refine jr_castS (ci := 13) hx hb hown hK hts (hR.role (hM.com (vp_lt o_42))) rfl q2141 dX8_force_45 ?_
        refine g26_3 hx hb hts hown hK hR (hM.com (vp_lt o_42)) q2152 dX8_force_48 ?_
        refine lv_topi (fun x_51 ex_51 => ?_)
        have h := h x_51 ex_51
        refine lv_istore_n (lv' := [(3, .int (x_51)), (0, .ref (y.2 20 0)), (1, .int (p1)), (2, .int (p2))]) hx hb dX8_force_51 rfl hl (by decide) rfl (fun ls hl => ?_)
        refine lv_aload_n hx hb dX8_force_52 rfl (lv_at hl 1 rfl) ?_
        refine g20_4 hx hb hts hown hK hR l0 q1949 dX8_force_53 ?_
        refine lv_iload_n hx hb dX8_force_56 rfl (lv_at hl 2 rfl) ?_
        have o_57 := h.1
        have h := h.2
        refine jr_get (a := y.2 26 ((p1).toNatClampNeg)) ⟨hx, hb, hml, hown, hts⟩ hK hR ⟨fun _ _ _ _ _ => rfl, fun _ _ _ _ _ => rfl⟩ hM.lsC ⟨hM.arC (Nat.lt_of_le_of_lt (Nat.zero_le _) (vp_lt o_57)), (Nat.le_trans hM.mC4 (by decide))⟩ o_57 (hM.elC (vp_lt o_57)) q2101 ⟨Nat.le_of_ble_eq_true rfl, Nat.le_of_ble_eq_true rfl⟩ hl.1 (Nat.le_of_ble_eq_true rfl) dX8_force_57 ⟨(Nat.le_of_ble_eq_true rfl), (Nat.le_of_ble_eq_true rfl)⟩ ?_
        refine jr_castS (ci := 13) hx hb hown hK hts (hR.role (hM.com (vp_lt o_57))) rfl q2141 dX8_force_60 ?_
        refine lv_iload_n hx hb dX8_force_63 rfl (lv_at hl 3 rfl) ?_
        refine p26_3 hx hb hts hown hK hR hS (hM.com (vp_lt o_57)) q2152 dX8_force_64 (fun H locs w_64 ew_64 hR hS => ?_)
        have h := h w_64 ew_64
        refine lv_iload_n hx hb dX8_force_67 rfl (lv_at hl 0 rfl) ?_
        refine W.widen (k := 0) (n := 0) (Nat.le_of_ble_eq_true rfl) (Nat.le_of_ble_eq_true rfl) ?_
        exact W.iret (v := x_51) hx hb hr (fun t ht hW9 => ⟨⟨x_51, w_64, rfl, h, rpt ht hR⟩, hS.F ht⟩) hS.2.2 dX8_force_68
      · have h := h.2 c_32
        refine lv_iconst (v := (0 : Int32)) hx hb dX8_force_35 (by decide) ?_
        refine W.widen (k := 0) (n := 0) (Nat.le_of_ble_eq_true rfl) (Nat.le_of_ble_eq_true rfl) ?_
        exact W.iret (v := (0 : Int32)) hx hb hr (fun t ht hW9 => ⟨⟨(0 : Int32), w_29, rfl, h, rpt ht hR⟩, hS.F ht⟩) hS.2.2 dX8_force_36
    · have h := h.2 c_20
      refine lv_iconst (v := (1 : Int32)) hx hb dX8_force_23 (by decide) ?_
      refine lv_goto (tgt := 28) hx hb dX8_force_24 (by decide) ?_
      refine lv_iconst (v := (2 : Int32)) hx hb dX8_force_28 (by decide) ?_
      refine ce_qi (fw := fun u => u) (fy := fun _ => y) (cr_V (n := 2) (As := [.int ((1 : Int32)), .int ((2 : Int32))]) (rest := []) ⟨hx, hb, hml, hown, hts⟩ hK hR (m_X8_refuse hM l0 h) q2027 q2029 qs38 q85 q2030 rfl rfl hd_X8_refuse ⟨Nat.le_of_ble_eq_true rfl, Nat.le_of_ble_eq_true rfl⟩ (rv hK hR l0 (ci := 11) rfl rfl) rfl rfl hl.1 rfl (lv_room (Nat.le_of_ble_eq_true rfl)) dX8_force_29 ⟨(Nat.le_of_ble_eq_true rfl), (Nat.le_of_ble_eq_true rfl)⟩) hR hS (fun r_29_a w_29_a H locs h hR _ hS => ?_)
      refine lv_if_eq (tgt := 37) hx hb dX8_force_32 (by decide) (fun c_32_a => ?_) (fun c_32_a => ?_)
      · have h := h.1 c_32_a
        refine lv_aload_n hx hb dX8_force_37 rfl (lv_at hl 0 rfl) ?_
        refine g20_4 hx hb hts hown hK hR l0 q1949 dX8_force_38 ?_
        refine lv_iload_n hx hb dX8_force_41 rfl (lv_at hl 1 rfl) ?_
        have o_42_a := h.1
        have h := h.2
        refine jr_get (a := y.2 26 ((p1).toNatClampNeg)) ⟨hx, hb, hml, hown, hts⟩ hK hR ⟨fun _ _ _ _ _ => rfl, fun _ _ _ _ _ => rfl⟩ hM.lsC ⟨hM.arC (Nat.lt_of_le_of_lt (Nat.zero_le _) (vp_lt o_42_a)), (Nat.le_trans hM.mC4 (by decide))⟩ o_42_a (hM.elC (vp_lt o_42_a)) q2101 ⟨Nat.le_of_ble_eq_true rfl, Nat.le_of_ble_eq_true rfl⟩ hl.1 (Nat.le_of_ble_eq_true rfl) dX8_force_42 ⟨(Nat.le_of_ble_eq_true rfl), (Nat.le_of_ble_eq_true rfl)⟩ ?_
        refine jr_castS (ci := 13) hx hb hown hK hts (hR.role (hM.com (vp_lt o_42_a))) rfl q2141 dX8_force_45 ?_
        refine g26_3 hx hb hts hown hK hR (hM.com (vp_lt o_42_a)) q2152 dX8_force_48 ?_
        refine lv_topi (fun x_51_a ex_51_a => ?_)
        have h := h x_51_a ex_51_a
        refine lv_istore_n (lv' := [(3, .int (x_51_a)), (0, .ref (y.2 20 0)), (1, .int (p1)), (2, .int (p2))]) hx hb dX8_force_51 rfl hl (by decide) rfl (fun ls hl => ?_)
        refine lv_aload_n hx hb dX8_force_52 rfl (lv_at hl 1 rfl) ?_
        refine g20_4 hx hb hts hown hK hR l0 q1949 dX8_force_53 ?_
        refine lv_iload_n hx hb dX8_force_56 rfl (lv_at hl 2 rfl) ?_
        have o_57_a := h.1
        have h := h.2
        refine jr_get (a := y.2 26 ((p1).toNatClampNeg)) ⟨hx, hb, hml, hown, hts⟩ hK hR ⟨fun _ _ _ _ _ => rfl, fun _ _ _ _ _ => rfl⟩ hM.lsC ⟨hM.arC (Nat.lt_of_le_of_lt (Nat.zero_le _) (vp_lt o_57_a)), (Nat.le_trans hM.mC4 (by decide))⟩ o_57_a (hM.elC (vp_lt o_57_a)) q2101 ⟨Nat.le_of_ble_eq_true rfl, Nat.le_of_ble_eq_true rfl⟩ hl.1 (Nat.le_of_ble_eq_true rfl) dX8_force_57 ⟨(Nat.le_of_ble_eq_true rfl), (Nat.le_of_ble_eq_true rfl)⟩ ?_
        refine jr_castS (ci := 13) hx hb hown hK hts (hR.role (hM.com (vp_lt o_57_a))) rfl q2141 dX8_force_60 ?_
        refine lv_iload_n hx hb dX8_force_63 rfl (lv_at hl 3 rfl) ?_
        refine p26_3 hx hb hts hown hK hR hS (hM.com (vp_lt o_57_a)) q2152 dX8_force_64 (fun H locs w_64_a ew_64_a hR hS => ?_)
        have h := h w_64_a ew_64_a
        refine lv_iload_n hx hb dX8_force_67 rfl (lv_at hl 0 rfl) ?_
        refine W.widen (k := 0) (n := 0) (Nat.le_of_ble_eq_true rfl) (Nat.le_of_ble_eq_true rfl) ?_
        exact W.iret (v := x_51_a) hx hb hr (fun t ht hW9 => ⟨⟨x_51_a, w_64_a, rfl, h, rpt ht hR⟩, hS.F ht⟩) hS.2.2 dX8_force_68
      · have h := h.2 c_32_a
        refine lv_iconst (v := (0 : Int32)) hx hb dX8_force_35 (by decide) ?_
        refine W.widen (k := 0) (n := 0) (Nat.le_of_ble_eq_true rfl) (Nat.le_of_ble_eq_true rfl) ?_
        exact W.iret (v := (0 : Int32)) hx hb hr (fun t ht hW9 => ⟨⟨(0 : Int32), w_29_a, rfl, h, rpt ht hR⟩, hS.F ht⟩) hS.2.2 dX8_force_36
abbrev rm_X8_letOn : Room := { frames := 3, cells := 0, slots := 0, locals := 93 }
def sp_X8_letOn (κ : Kx) (y : Ly) (post : Int32 → Wd → Prop) (w : Wd) (p1 : Int32) (p2 : Int32) (p3 : Int32) : Prop := sp_X8_isNoLot κ y (fun r_3 w_3 => ∀ j22 : Wd → Int32 → Prop, (j22 = fun (w22 : Wd) (s0_22 : Int32) => sp_X8_start κ y (fun r_23 w_23 => ((¬ r_23 = 0) → (post ((0 : Int32)) w_23)) ∧ ((r_23 = 0) → (sp_X8_isIn κ y (fun r_35 w_35 => ∀ j46 : Wd → Int32 → Prop, (j46 = fun (w46 : Wd) (s0_46 : Int32) => sp_X8_refuse κ y (fun r_47 w_47 => ((r_47 = 0) → ((vp_in (p1) (mL y)) ∧ (∀ j105 : Wd → Int32 → Prop, (j105 = fun (w105 : Wd) (s0_105 : Int32) => sp_X8_refuse κ y (fun r_106 w_106 => ((r_106 = 0) → ((vp_in (p2) 8) ∧ (∀ w_121 : Wd, w_121 = sv w_106 29 (((((p1).toNatClampNeg)))) (p2).toNatClampNeg (p3) → sp_X8_letOnOf κ y (fun r_124 w_124 => post (r_124) w_124) w_121 (((p1).toNatClampNeg))))) ∧ ((¬ (r_106 = 0)) → (post ((0 : Int32)) w_106))) w105 s0_105 (3 : Int32)) → (((¬ gv w_47 27 (((p1).toNatClampNeg)) 4 = (1 : Int32)) → (j105 w_47 (1 : Int32))) ∧ ((gv w_47 27 (((p1).toNatClampNeg)) 4 = (1 : Int32)) → (sp_X8_has κ y (fun r_84 w_84 => ((r_84 = 0) → (j105 w_84 (1 : Int32))) ∧ ((¬ (r_84 = 0)) → ((vp_in (p2) 8) ∧ (((gv w_84 29 (((((p1).toNatClampNeg)))) (p2).toNatClampNeg ≤ 0) → (j105 w_84 (0 : Int32))) ∧ ((¬ (gv w_84 29 (((((p1).toNatClampNeg)))) (p2).toNatClampNeg ≤ 0)) → (j105 w_84 (1 : Int32))))))) w_47 (gv w_47 27 (((p1).toNatClampNeg)) 1) p2)))))) ∧ ((¬ (r_47 = 0)) → (post ((0 : Int32)) w_47))) w46 s0_46 (2 : Int32)) → (((¬ r_35 = 0) → (j46 w_35 (0 : Int32))) ∧ ((r_35 = 0) → (j46 w_35 (1 : Int32))))) w_23 p3 (1 : Int32) (999 : Int32)))) w22 s0_22 (1 : Int32)) → (((¬ r_3 = 0) → (j22 w_3 (1 : Int32))) ∧ ((r_3 = 0) → (sp_X8_isNoVillage κ y (fun r_11 w_11 => ((r_11 = 0) → (j22 w_11 (0 : Int32))) ∧ ((¬ (r_11 = 0)) → (j22 w_11 (1 : Int32)))) w_3 p2)))) w p1
theorem hd_X8_letOn : yX8_letOn.cls = RX8 ∧ yX8_letOn.cls ≠ "java/lang/invoke/MethodHandle" ∧ yX8_letOn.cls ≠ "java/lang/invoke/VarHandle" ∧ (parseMethodDescriptor yX8_letOn.desc).map (fun d => d.parameters.length) = some 3 := by decide +kernel
set_option maxHeartbeats 4000000 in
theorem m_X8_letOn {l : Launch} {κ : Kx} {y : Ly} {X : XR} {post : Int32 → Wd → Prop} {w : Wd} {p1 : Int32} {p2 : Int32} {p3 : Int32}  (hM : WFm κ y) (l0 : live y 20 0) (h : sp_X8_letOn κ y post w p1 p2 p3) : Met l yX8_letOn (ws_ yX8_letOn cX8_letOn 5 (Option.some Jvm.ClassFile.FieldType.int)) rm_X8_letOn (va_Pc [.ref (y.2 20 0), .int (p1), .int (p2), .int (p3)] (RC κ w y X)) (va_Qi post (fun w t => Rp κ w y X [] t.heap) (Af κ)) 0 0 (Af κ) := by
  unfold sp_X8_letOn at h
  refine Met.ofW (cc := cX8_letOn) (maxL := 5) (ret := (Option.some Jvm.ClassFile.FieldType.int)) (by decide) rfl ?_
  intro p e s m args below meth c s₁ B hml hv
  obtain ⟨rfl, hR, hK⟩ := hv
  have hx := B.exec
  have hb := B.bytes
  have hr := B.returns
  have hts := atoms_spec (ws := ws_ yX8_letOn cX8_letOn 5 (Option.some Jvm.ClassFile.FieldType.int)) B.pre
  have hts : ∀ w ∈ lw_all, w.before _ s = true := fun w h => hts w (List.mem_cons_of_mem _ h)
  have hown : s.vm.findClass RX8 = some m.cls := findClass_of_methodNamed B.named
  have hlocks := B.notSynchronized
  have hS : va_S (Af κ) s.heap s.heap [] := va_S.rf
  have hl := lv_entry ([.ref (y.2 20 0), .int (p1), .int (p2), .int (p3)]) (n := 5) (Nat.le_of_ble_eq_true rfl)
  rw [lg_entry_eq]
  generalize (lg_sl ([.ref (y.2 20 0), .int (p1), .int (p2), .int (p3)]) ++ List.replicate (5 - (lg_sl ([.ref (y.2 20 0), .int (p1), .int (p2), .int (p3)])).length) Slot.unset).toArray = ls at hl ⊢
  have hl : lv_has ls 5 [(0, .ref (y.2 20 0)), (1, .int (p1)), (2, .int (p2)), (3, .int (p3))] := hl
  refine lv_aload_n hx hb dX8_letOn_0 rfl (lv_at hl 0 rfl) ?_
  refine lv_aload_n hx hb dX8_letOn_1 rfl (lv_at hl 0 rfl) ?_
  refine lv_iload_n hx hb dX8_letOn_2 rfl (lv_at hl 1 rfl) ?_
  refine ce_qi (fw := fun u => u) (fy := fun _ => y) (cr_V (n := 1) (As := [.int (p1)]) (rest := [.ref (y.2 20 0)]) ⟨hx, hb, hml, hown, hts⟩ hK hR (m_X8_isNoLot hM l0 h) q2308 q2310 qs44 q85 q2311 rfl rfl hd_X8_isNoLot ⟨Nat.le_of_ble_eq_true rfl, Nat.le_of_ble_eq_true rfl⟩ (rv hK hR l0 (ci := 11) rfl rfl) rfl rfl hl.1 rfl (lv_room (Nat.le_of_ble_eq_true rfl)) dX8_letOn_3 ⟨(Nat.le_of_ble_eq_true rfl), (Nat.le_of_ble_eq_true rfl)⟩) hR hS (fun r_3 w_3 H locs h hR _ hS => ?_)
  refine jn_elim h (fun j22 ej22 h => ?_)
  have Jj22 : ∀ (w22 : Wd) (s0_22 : Int32) (H : Heap) (locs : List Loc) (ls : Array Slot), j22 w22 s0_22 → Rp κ w22 y X [] H → va_S (Af κ) s.heap H locs → lv_has ls 5 [(0, .ref (y.2 20 0)), (1, .int (p1)), (2, .int (p2)), (3, .int (p3))] → W p l e (headSpec (ws_ yX8_letOn cX8_letOn 5 (Option.some Jvm.ClassFile.FieldType.int)) rm_X8_letOn).room s m ([.ref (y.2 20 0), .int (p1), .int (p2), .int (p3)] : List Value).toArray below meth c H locs (0) (0) (MQ below (va_Qi post (fun w t => Rp κ w y X [] t.heap) (Af κ)) ([.ref (y.2 20 0), .int (p1), .int (p2), .int (p3)] : List Value).toArray s 0 0 (Af κ)) (F0 m 22 ls [.int (s0_22), .ref (y.2 20 0)]) := by
    clear h
    intro w22 s0_22 H locs ls h hR hS hl
    subst ej22
    refine lv_iconst (v := (1 : Int32)) hx hb dX8_letOn_22 (by decide) ?_
    refine ce_qi (fw := fun u => u) (fy := fun _ => y) (cr_V (n := 2) (As := [.int (s0_22), .int ((1 : Int32))]) (rest := []) ⟨hx, hb, hml, hown, hts⟩ hK hR (m_X8_start hM l0 h) q2023 q2025 qs37 q85 q2026 rfl rfl hd_X8_start ⟨Nat.le_of_ble_eq_true rfl, Nat.le_of_ble_eq_true rfl⟩ (rv hK hR l0 (ci := 11) rfl rfl) rfl rfl hl.1 rfl (lv_room (Nat.le_of_ble_eq_true rfl)) dX8_letOn_23 ⟨(Nat.le_of_ble_eq_true rfl), (Nat.le_of_ble_eq_true rfl)⟩) hR hS (fun r_23 w_23 H locs h hR _ hS => ?_)
    refine lv_if_ne (tgt := 53) hx hb dX8_letOn_26 (by decide) (fun c_26 => ?_) (fun c_26 => ?_)
    · have h := h.1 c_26
      refine lv_iconst (v := (0 : Int32)) hx hb dX8_letOn_53 (by decide) ?_
      refine W.widen (k := 0) (n := 0) (Nat.le_of_ble_eq_true rfl) (Nat.le_of_ble_eq_true rfl) ?_
      exact W.iret (v := (0 : Int32)) hx hb hr (fun t ht hW9 => ⟨⟨(0 : Int32), w_23, rfl, h, rpt ht hR⟩, hS.F ht⟩) hS.2.2 dX8_letOn_54
    · have h := h.2 c_26
      refine lv_aload_n hx hb dX8_letOn_29 rfl (lv_at hl 0 rfl) ?_
      refine lv_iload_n hx hb dX8_letOn_30 rfl (lv_at hl 3 rfl) ?_
      refine lv_iconst (v := (1 : Int32)) hx hb dX8_letOn_31 (by decide) ?_
      refine lv_sipush (v := (999 : Int32)) hx hb dX8_letOn_32 (by decide) ?_
      refine ce_qi (fw := fun u => u) (fy := fun _ => y) (cr_S (n := 3) (As := [.int (p3), .int ((1 : Int32)), .int ((999 : Int32))]) (rest := [.ref (y.2 20 0)]) ⟨hx, hb, hml, hown, hts⟩ hK hR (m_X8_isIn hM h) q2020 q2021 q85 q2022 rfl rfl hds_X8_isIn ⟨Nat.le_of_ble_eq_true rfl, Nat.le_of_ble_eq_true rfl⟩ rfl rfl hl.1 rfl (lv_room (Nat.le_of_ble_eq_true rfl)) dX8_letOn_35 ⟨(Nat.le_of_ble_eq_true rfl), (Nat.le_of_ble_eq_true rfl)⟩) hR hS (fun r_35 w_35 H locs h hR _ hS => ?_)
      refine jn_elim h (fun j46 ej46 h => ?_)
      have Jj46 : ∀ (w46 : Wd) (s0_46 : Int32) (H : Heap) (locs : List Loc) (ls : Array Slot), j46 w46 s0_46 → Rp κ w46 y X [] H → va_S (Af κ) s.heap H locs → lv_has ls 5 [(0, .ref (y.2 20 0)), (1, .int (p1)), (2, .int (p2)), (3, .int (p3))] → W p l e (headSpec (ws_ yX8_letOn cX8_letOn 5 (Option.some Jvm.ClassFile.FieldType.int)) rm_X8_letOn).room s m ([.ref (y.2 20 0), .int (p1), .int (p2), .int (p3)] : List Value).toArray below meth c H locs (0) (0) (MQ below (va_Qi post (fun w t => Rp κ w y X [] t.heap) (Af κ)) ([.ref (y.2 20 0), .int (p1), .int (p2), .int (p3)] : List Value).toArray s 0 0 (Af κ)) (F0 m 46 ls [.int (s0_46), .ref (y.2 20 0)]) := by
        clear h
        intro w46 s0_46 H locs ls h hR hS hl
        subst ej46
        refine lv_iconst (v := (2 : Int32)) hx hb dX8_letOn_46 (by decide) ?_
        refine ce_qi (fw := fun u => u) (fy := fun _ => y) (cr_V (n := 2) (As := [.int (s0_46), .int ((2 : Int32))]) (rest := []) ⟨hx, hb, hml, hown, hts⟩ hK hR (m_X8_refuse hM l0 h) q2027 q2029 qs38 q85 q2030 rfl rfl hd_X8_refuse ⟨Nat.le_of_ble_eq_true rfl, Nat.le_of_ble_eq_true rfl⟩ (rv hK hR l0 (ci := 11) rfl rfl) rfl rfl hl.1 rfl (lv_room (Nat.le_of_ble_eq_true rfl)) dX8_letOn_47 ⟨(Nat.le_of_ble_eq_true rfl), (Nat.le_of_ble_eq_true rfl)⟩) hR hS (fun r_47 w_47 H locs h hR _ hS => ?_)
        refine lv_if_eq (tgt := 55) hx hb dX8_letOn_50 (by decide) (fun c_50 => ?_) (fun c_50 => ?_)
        · have h := h.1 c_50
          refine lv_aload_n hx hb dX8_letOn_55 rfl (lv_at hl 0 rfl) ?_
          refine g20_5 hx hb hts hown hK hR l0 q1950 dX8_letOn_56 ?_
          refine lv_iload_n hx hb dX8_letOn_59 rfl (lv_at hl 1 rfl) ?_
          have o_60 := h.1
          have h := h.2
          refine jr_get (a := y.2 27 ((p1).toNatClampNeg)) ⟨hx, hb, hml, hown, hts⟩ hK hR ⟨fun _ _ _ _ _ => rfl, fun _ _ _ _ _ => rfl⟩ hM.lsL ⟨hM.arL (Nat.lt_of_le_of_lt (Nat.zero_le _) (vp_lt o_60)), (Nat.le_trans hM.mL8 (by decide))⟩ o_60 (hM.elL (vp_lt o_60)) q2101 ⟨Nat.le_of_ble_eq_true rfl, Nat.le_of_ble_eq_true rfl⟩ hl.1 (Nat.le_of_ble_eq_true rfl) dX8_letOn_60 ⟨(Nat.le_of_ble_eq_true rfl), (Nat.le_of_ble_eq_true rfl)⟩ ?_
          refine jr_castS (ci := 14) hx hb hown hK hts (hR.role (hM.lot (vp_lt o_60))) rfl q2253 dX8_letOn_63 ?_
          refine lv_astore (lv' := [(4, .ref (y.2 27 ((p1).toNatClampNeg))), (0, .ref (y.2 20 0)), (1, .int (p1)), (2, .int (p2)), (3, .int (p3))]) hx hb dX8_letOn_66 hl (by decide) rfl (fun ls hl => ?_)
          refine lv_aload_n hx hb dX8_letOn_68 rfl (lv_at hl 1 rfl) ?_
          refine lv_aload hx hb dX8_letOn_69 (lv_at hl 0 rfl) ?_
          refine g27_4 hx hb hts hown hK hR (hM.lot (vp_lt o_60)) q2264 dX8_letOn_71 ?_
          refine lv_iconst (v := (1 : Int32)) hx hb dX8_letOn_74 (by decide) ?_
          refine jn_elim h (fun j105 ej105 h => ?_)
          have Jj105 : ∀ (w105 : Wd) (s0_105 : Int32) (H : Heap) (locs : List Loc) (ls : Array Slot), j105 w105 s0_105 → Rp κ w105 y X [] H → va_S (Af κ) s.heap H locs → lv_has ls 5 [(4, .ref (y.2 27 ((p1).toNatClampNeg))), (2, .int (p2)), (3, .int (p3))] → W p l e (headSpec (ws_ yX8_letOn cX8_letOn 5 (Option.some Jvm.ClassFile.FieldType.int)) rm_X8_letOn).room s m ([.ref (y.2 20 0), .int (p1), .int (p2), .int (p3)] : List Value).toArray below meth c H locs (0) (0) (MQ below (va_Qi post (fun w t => Rp κ w y X [] t.heap) (Af κ)) ([.ref (y.2 20 0), .int (p1), .int (p2), .int (p3)] : List Value).toArray s 0 0 (Af κ)) (F0 m 105 ls [.int (s0_105), .ref (y.2 20 0)]) := by
            clear h
            intro w105 s0_105 H locs ls h hR hS hl
            subst ej105
            refine lv_iconst (v := (3 : Int32)) hx hb dX8_letOn_105 (by decide) ?_
            refine ce_qi (fw := fun u => u) (fy := fun _ => y) (cr_V (n := 2) (As := [.int (s0_105), .int ((3 : Int32))]) (rest := []) ⟨hx, hb, hml, hown, hts⟩ hK hR (m_X8_refuse hM l0 h) q2027 q2029 qs38 q85 q2030 rfl rfl hd_X8_refuse ⟨Nat.le_of_ble_eq_true rfl, Nat.le_of_ble_eq_true rfl⟩ (rv hK hR l0 (ci := 11) rfl rfl) rfl rfl hl.1 rfl (lv_room (Nat.le_of_ble_eq_true rfl)) dX8_letOn_106 ⟨(Nat.le_of_ble_eq_true rfl), (Nat.le_of_ble_eq_true rfl)⟩) hR hS (fun r_106 w_106 H locs h hR _ hS => ?_)
            refine lv_if_eq (tgt := 114) hx hb dX8_letOn_109 (by decide) (fun c_109 => ?_) (fun c_109 => ?_)
            · have h := h.1 c_109
              refine lv_aload hx hb dX8_letOn_114 (lv_at hl 0 rfl) ?_
              refine g27_12 hx hb hts hown hK hR (hM.lot (vp_lt o_60)) q2276 dX8_letOn_116 ?_
              refine lv_iload_n hx hb dX8_letOn_119 rfl (lv_at hl 1 rfl) ?_
              refine lv_iload_n hx hb dX8_letOn_120 rfl (lv_at hl 2 rfl) ?_
              have o_121 := h.1
              have h := h.2
              refine b29 hx hb hK hR hS (hM.age (hM.lot (vp_lt o_60))) o_121 dX8_letOn_121 (fun H locs w_121 ew_121 hR hS => ?_)
              have h := h w_121 ew_121
              refine lv_aload hx hb dX8_letOn_122 (lv_at hl 0 rfl) ?_
              refine ce_qi (fw := fun u => u) (fy := fun _ => y) (cr_S (n := 1) (As := [.ref (y.2 27 ((p1).toNatClampNeg))]) (rest := []) ⟨hx, hb, hml, hown, hts⟩ hK hR (m_X8_letOnOf hM (hM.lot (vp_lt o_60)) h) q2348 q2349 q85 q2350 rfl rfl hds_X8_letOnOf ⟨Nat.le_of_ble_eq_true rfl, Nat.le_of_ble_eq_true rfl⟩ rfl rfl hl.1 rfl (lv_room (Nat.le_of_ble_eq_true rfl)) dX8_letOn_124 ⟨(Nat.le_of_ble_eq_true rfl), (Nat.le_of_ble_eq_true rfl)⟩) hR hS (fun r_124 w_124 H locs h hR _ hS => ?_)
              refine W.widen (k := 0) (n := 0) (Nat.le_of_ble_eq_true rfl) (Nat.le_of_ble_eq_true rfl) ?_
              exact W.iret (v := r_124) hx hb hr (fun t ht hW9 => ⟨⟨r_124, w_124, rfl, h, rpt ht hR⟩, hS.F ht⟩) hS.2.2 dX8_letOn_127
            · have h := h.2 c_109
              refine lv_iconst (v := (0 : Int32)) hx hb dX8_letOn_112 (by decide) ?_
              refine W.widen (k := 0) (n := 0) (Nat.le_of_ble_eq_true rfl) (Nat.le_of_ble_eq_true rfl) ?_
              exact W.iret (v := (0 : Int32)) hx hb hr (fun t ht hW9 => ⟨⟨(0 : Int32), w_106, rfl, h, rpt ht hR⟩, hS.F ht⟩) hS.2.2 dX8_letOn_113
          refine lv_icmp_ne (tgt := 100) hx hb dX8_letOn_75 (by decide) (fun c_75 => ?_) (fun c_75 => ?_)
          · have h := h.1 c_75
            refine lv_iconst (v := (1 : Int32)) hx hb dX8_letOn_100 (by decide) ?_
            refine lv_goto (tgt := 105) hx hb dX8_letOn_101 (by decide) ?_
            refine W.widen (k := 0) (n := 0) (Nat.le_of_ble_eq_true rfl) (Nat.le_of_ble_eq_true rfl) ?_
            exact Jj105 w_47 (1 : Int32) _ _ _ h hR hS (lv_sub hl [0, 3, 4] rfl)
          · have h := h.2 c_75
            refine lv_aload hx hb dX8_letOn_78 (lv_at hl 0 rfl) ?_
            refine g27_1 hx hb hts hown hK hR (hM.lot (vp_lt o_60)) q2260 dX8_letOn_80 ?_
            refine lv_iload_n hx hb dX8_letOn_83 rfl (lv_at hl 3 rfl) ?_
            refine ce_qi (fw := fun u => u) (fy := fun _ => y) (cr_S (n := 2) (As := [.int (gv w_47 27 (((p1).toNatClampNeg)) 1), .int (p2)]) (rest := [.ref (y.2 20 0)]) ⟨hx, hb, hml, hown, hts⟩ hK hR (m_X8_has hM h) q2102 q2103 q85 q2104 rfl rfl hds_X8_has ⟨Nat.le_of_ble_eq_true rfl, Nat.le_of_ble_eq_true rfl⟩ rfl rfl hl.1 rfl (lv_room (Nat.le_of_ble_eq_true rfl)) dX8_letOn_84 ⟨(Nat.le_of_ble_eq_true rfl), (Nat.le_of_ble_eq_true rfl)⟩) hR hS (fun r_84 w_84 H locs h hR _ hS => ?_)
            refine lv_if_eq (tgt := 100) hx hb dX8_letOn_87 (by decide) (fun c_87 => ?_) (fun c_87 => ?_)
            · have h := h.1 c_87
              refine lv_iconst (v := (1 : Int32)) hx hb dX8_letOn_100 (by decide) ?_
              refine lv_goto (tgt := 105) hx hb dX8_letOn_101 (by decide) ?_
              refine W.widen (k := 0) (n := 0) (Nat.le_of_ble_eq_true rfl) (Nat.le_of_ble_eq_true rfl) ?_
              exact Jj105 w_84 (1 : Int32) _ _ _ h hR hS (lv_sub hl [0, 3, 4] rfl)
            · have h := h.2 c_87
              refine lv_aload hx hb dX8_letOn_90 (lv_at hl 0 rfl) ?_
              refine g27_12 hx hb hts hown hK hR (hM.lot (vp_lt o_60)) q2276 dX8_letOn_92 ?_
              refine lv_iload_n hx hb dX8_letOn_95 rfl (lv_at hl 3 rfl) ?_
              have o_96 := h.1
              have h := h.2
              refine a29 hx hb hK hR (hM.age (hM.lot (vp_lt o_60))) o_96 dX8_letOn_96 ?_
              refine lv_if_le (tgt := 104) hx hb dX8_letOn_97 (by decide) (fun c_97 => ?_) (fun c_97 => ?_)
              · have h := h.1 c_97
                refine lv_iconst (v := (0 : Int32)) hx hb dX8_letOn_104 (by decide) ?_
                refine W.widen (k := 0) (n := 0) (Nat.le_of_ble_eq_true rfl) (Nat.le_of_ble_eq_true rfl) ?_
                exact Jj105 w_84 (0 : Int32) _ _ _ h hR hS (lv_sub hl [0, 3, 4] rfl)
              · have h := h.2 c_97
                refine lv_iconst (v := (1 : Int32)) hx hb dX8_letOn_100 (by decide) ?_
                refine lv_goto (tgt := 105) hx hb dX8_letOn_101 (by decide) ?_
                refine W.widen (k := 0) (n := 0) (Nat.le_of_ble_eq_true rfl) (Nat.le_of_ble_eq_true rfl) ?_
                exact Jj105 w_84 (1 : Int32) _ _ _ h hR hS (lv_sub hl [0, 3, 4] rfl)
        · have h := h.2 c_50
          refine lv_iconst (v := (0 : Int32)) hx hb dX8_letOn_53 (by decide) ?_
          refine W.widen (k := 0) (n := 0) (Nat.le_of_ble_eq_true rfl) (Nat.le_of_ble_eq_true rfl) ?_
          exact W.iret (v := (0 : Int32)) hx hb hr (fun t ht hW9 => ⟨⟨(0 : Int32), w_47, rfl, h, rpt ht hR⟩, hS.F ht⟩) hS.2.2 dX8_letOn_54
      refine lv_if_ne (tgt := 45) hx hb dX8_letOn_38 (by decide) (fun c_38 => ?_) (fun c_38 => ?_)
      · have h := h.1 c_38
        refine lv_iconst (v := (0 : Int32)) hx hb dX8_letOn_45 (by decide) ?_
        refine W.widen (k := 0) (n := 0) (Nat.le_of_ble_eq_true rfl) (Nat.le_of_ble_eq_true rfl) ?_
        exact Jj46 w_35 (0 : Int32) _ _ _ h hR hS (lv_sub hl [0, 1, 2, 3] rfl)
      · have h := h.2 c_38
        refine lv_iconst (v := (1 : Int32)) hx hb dX8_letOn_41 (by decide) ?_
        refine lv_goto (tgt := 46) hx hb dX8_letOn_42 (by decide) ?_
        refine W.widen (k := 0) (n := 0) (Nat.le_of_ble_eq_true rfl) (Nat.le_of_ble_eq_true rfl) ?_
        exact Jj46 w_35 (1 : Int32) _ _ _ h hR hS (lv_sub hl [0, 1, 2, 3] rfl)
  refine lv_if_ne (tgt := 17) hx hb dX8_letOn_6 (by decide) (fun c_6 => ?_) (fun c_6 => ?_)
  · have h := h.1 c_6
    refine lv_iconst (v := (1 : Int32)) hx hb dX8_letOn_17 (by decide) ?_
    refine lv_goto (tgt := 22) hx hb dX8_letOn_18 (by decide) ?_
    refine W.widen (k := 0) (n := 0) (Nat.le_of_ble_eq_true rfl) (Nat.le_of_ble_eq_true rfl) ?_
    exact Jj22 w_3 (1 : Int32) _ _ _ h hR hS (lv_sub hl [0, 1, 2, 3] rfl)
  · have h := h.2 c_6
    refine lv_aload_n hx hb dX8_letOn_9 rfl (lv_at hl 0 rfl) ?_
    refine lv_iload_n hx hb dX8_letOn_10 rfl (lv_at hl 2 rfl) ?_
    refine ce_qi (fw := fun u => u) (fy := fun _ => y) (cr_V (n := 1) (As := [.int (p2)]) (rest := [.ref (y.2 20 0)]) ⟨hx, hb, hml, hown, hts⟩ hK hR (m_X8_isNoVillage hM l0 h) q2109 q2111 qs40 q85 q2112 rfl rfl hd_X8_isNoVillage ⟨Nat.le_of_ble_eq_true rfl, Nat.le_of_ble_eq_true rfl⟩ (rv hK hR l0 (ci := 11) rfl rfl) rfl rfl hl.1 rfl (lv_room (Nat.le_of_ble_eq_true rfl)) dX8_letOn_11 ⟨(Nat.le_of_ble_eq_true rfl), (Nat.le_of_ble_eq_true rfl)⟩) hR hS (fun r_11 w_11 H locs h hR _ hS => ?_)
    refine lv_if_eq (tgt := 21) hx hb dX8_letOn_14 (by decide) (fun c_14 => ?_) (fun c_14 => ?_)
    · have h := h.1 c_14
      refine lv_iconst (v := (0 : Int32)) hx hb dX8_letOn_21 (by decide) ?_
      refine W.widen (k := 0) (n := 0) (Nat.le_of_ble_eq_true rfl) (Nat.le_of_ble_eq_true rfl) ?_
      exact Jj22 w_11 (0 : Int32) _ _ _ h hR hS (lv_sub hl [0, 1, 2, 3] rfl)
    · have h := h.2 c_14
      refine lv_iconst (v := (1 : Int32)) hx hb dX8_letOn_17 (by decide) ?_
      refine lv_goto (tgt := 22) hx hb dX8_letOn_18 (by decide) ?_
      refine W.widen (k := 0) (n := 0) (Nat.le_of_ble_eq_true rfl) (Nat.le_of_ble_eq_true rfl) ?_
      exact Jj22 w_11 (1 : Int32) _ _ _ h hR hS (lv_sub hl [0, 1, 2, 3] rfl)
abbrev rm_X8_deliver : Room := { frames := 3, cells := 0, slots := 0, locals := 93 }
def sp_X8_deliver (κ : Kx) (y : Ly) (post : Int32 → Wd → Prop) (w : Wd) (p1 : Int32) (p2 : Int32) : Prop := sp_X8_isNoCompany κ y (fun r_3 w_3 => sp_X8_start κ y (fun r_7 w_7 => ((¬ r_7 = 0) → (post ((0 : Int32)) w_7)) ∧ ((r_7 = 0) → (sp_X8_isIn κ y (fun r_19 w_19 => ((¬ r_19 = 0) → (sp_X8_refuse κ y (fun r_31 w_31 => ((¬ r_31 = 0) → (post ((0 : Int32)) w_31)) ∧ ((r_31 = 0) → ((vp_in (p1) (mC y)) ∧ ((((2 : Int32) * p2 ≤ gv w_31 26 (((p1).toNatClampNeg)) 1) → (sp_X8_refuse κ y (fun r_64 w_64 => ((r_64 = 0) → ((vp_in (p1) (mC y)) ∧ (∀ w_93 : Wd, w_93 = sv w_64 26 (((p1).toNatClampNeg)) 1 ((gv w_64 26 (((p1).toNatClampNeg)) 1) - ((2 : Int32) * p2)) → ∀ w_105 : Wd, w_105 = sv w_93 20 0 15 ((gv w_93 20 0 15) + ((2 : Int32) * p2)) → ∀ w_117 : Wd, w_117 = sv w_105 26 (((p1).toNatClampNeg)) 5 ((gv w_105 26 (((p1).toNatClampNeg)) 5) + ((3 : Int32) * p2)) → post (gv w_117 26 (((p1).toNatClampNeg)) 5) w_117))) ∧ ((¬ (r_64 = 0)) → (post ((0 : Int32)) w_64))) w_31 (0 : Int32) (3 : Int32))) ∧ ((¬ ((2 : Int32) * p2 ≤ gv w_31 26 (((p1).toNatClampNeg)) 1)) → (sp_X8_refuse κ y (fun r_64_a w_64_a => ((r_64_a = 0) → ((vp_in (p1) (mC y)) ∧ (∀ w_93_a : Wd, w_93_a = sv w_64_a 26 (((p1).toNatClampNeg)) 1 ((gv w_64_a 26 (((p1).toNatClampNeg)) 1) - ((2 : Int32) * p2)) → ∀ w_105_a : Wd, w_105_a = sv w_93_a 20 0 15 ((gv w_93_a 20 0 15) + ((2 : Int32) * p2)) → ∀ w_117_a : Wd, w_117_a = sv w_105_a 26 (((p1).toNatClampNeg)) 5 ((gv w_105_a 26 (((p1).toNatClampNeg)) 5) + ((3 : Int32) * p2)) → post (gv w_117_a 26 (((p1).toNatClampNeg)) 5) w_117_a))) ∧ ((¬ (r_64_a = 0)) → (post ((0 : Int32)) w_64_a))) w_31 (1 : Int32) (3 : Int32))))))) w_19 (0 : Int32) (2 : Int32))) ∧ ((r_19 = 0) → (sp_X8_refuse κ y (fun r_31_a w_31_a => ((¬ r_31_a = 0) → (post ((0 : Int32)) w_31_a)) ∧ ((r_31_a = 0) → ((vp_in (p1) (mC y)) ∧ ((((2 : Int32) * p2 ≤ gv w_31_a 26 (((p1).toNatClampNeg)) 1) → (sp_X8_refuse κ y (fun r_64_b w_64_b => ((r_64_b = 0) → ((vp_in (p1) (mC y)) ∧ (∀ w_93_b : Wd, w_93_b = sv w_64_b 26 (((p1).toNatClampNeg)) 1 ((gv w_64_b 26 (((p1).toNatClampNeg)) 1) - ((2 : Int32) * p2)) → ∀ w_105_b : Wd, w_105_b = sv w_93_b 20 0 15 ((gv w_93_b 20 0 15) + ((2 : Int32) * p2)) → ∀ w_117_b : Wd, w_117_b = sv w_105_b 26 (((p1).toNatClampNeg)) 5 ((gv w_105_b 26 (((p1).toNatClampNeg)) 5) + ((3 : Int32) * p2)) → post (gv w_117_b 26 (((p1).toNatClampNeg)) 5) w_117_b))) ∧ ((¬ (r_64_b = 0)) → (post ((0 : Int32)) w_64_b))) w_31_a (0 : Int32) (3 : Int32))) ∧ ((¬ ((2 : Int32) * p2 ≤ gv w_31_a 26 (((p1).toNatClampNeg)) 1)) → (sp_X8_refuse κ y (fun r_64_c w_64_c => ((r_64_c = 0) → ((vp_in (p1) (mC y)) ∧ (∀ w_93_c : Wd, w_93_c = sv w_64_c 26 (((p1).toNatClampNeg)) 1 ((gv w_64_c 26 (((p1).toNatClampNeg)) 1) - ((2 : Int32) * p2)) → ∀ w_105_c : Wd, w_105_c = sv w_93_c 20 0 15 ((gv w_93_c 20 0 15) + ((2 : Int32) * p2)) → ∀ w_117_c : Wd, w_117_c = sv w_105_c 26 (((p1).toNatClampNeg)) 5 ((gv w_105_c 26 (((p1).toNatClampNeg)) 5) + ((3 : Int32) * p2)) → post (gv w_117_c 26 (((p1).toNatClampNeg)) 5) w_117_c))) ∧ ((¬ (r_64_c = 0)) → (post ((0 : Int32)) w_64_c))) w_31_a (1 : Int32) (3 : Int32))))))) w_19 (1 : Int32) (2 : Int32)))) w_7 p2 (1 : Int32) (500 : Int32)))) w_3 r_3 (1 : Int32)) w p1
theorem hd_X8_deliver : yX8_deliver.cls = RX8 ∧ yX8_deliver.cls ≠ "java/lang/invoke/MethodHandle" ∧ yX8_deliver.cls ≠ "java/lang/invoke/VarHandle" ∧ (parseMethodDescriptor yX8_deliver.desc).map (fun d => d.parameters.length) = some 2 := by decide +kernel
set_option maxHeartbeats 4000000 in
theorem m_X8_deliver {l : Launch} {κ : Kx} {y : Ly} {X : XR} {post : Int32 → Wd → Prop} {w : Wd} {p1 : Int32} {p2 : Int32}  (hM : WFm κ y) (l0 : live y 20 0) (h : sp_X8_deliver κ y post w p1 p2) : Met l yX8_deliver (ws_ yX8_deliver cX8_deliver 4 (Option.some Jvm.ClassFile.FieldType.int)) rm_X8_deliver (va_Pc [.ref (y.2 20 0), .int (p1), .int (p2)] (RC κ w y X)) (va_Qi post (fun w t => Rp κ w y X [] t.heap) (Af κ)) 0 0 (Af κ) := by
  unfold sp_X8_deliver at h
  refine Met.ofW (cc := cX8_deliver) (maxL := 4) (ret := (Option.some Jvm.ClassFile.FieldType.int)) (by decide) rfl ?_
  intro p e s m args below meth c s₁ B hml hv
  obtain ⟨rfl, hR, hK⟩ := hv
  have hx := B.exec
  have hb := B.bytes
  have hr := B.returns
  have hts := atoms_spec (ws := ws_ yX8_deliver cX8_deliver 4 (Option.some Jvm.ClassFile.FieldType.int)) B.pre
  have hts : ∀ w ∈ lw_all, w.before _ s = true := fun w h => hts w (List.mem_cons_of_mem _ h)
  have hown : s.vm.findClass RX8 = some m.cls := findClass_of_methodNamed B.named
  have hlocks := B.notSynchronized
  have hS : va_S (Af κ) s.heap s.heap [] := va_S.rf
  have hl := lv_entry ([.ref (y.2 20 0), .int (p1), .int (p2)]) (n := 4) (Nat.le_of_ble_eq_true rfl)
  rw [lg_entry_eq]
  generalize (lg_sl ([.ref (y.2 20 0), .int (p1), .int (p2)]) ++ List.replicate (4 - (lg_sl ([.ref (y.2 20 0), .int (p1), .int (p2)])).length) Slot.unset).toArray = ls at hl ⊢
  have hl : lv_has ls 4 [(0, .ref (y.2 20 0)), (1, .int (p1)), (2, .int (p2))] := hl
  refine lv_aload_n hx hb dX8_deliver_0 rfl (lv_at hl 0 rfl) ?_
  refine lv_aload_n hx hb dX8_deliver_1 rfl (lv_at hl 0 rfl) ?_
  refine lv_iload_n hx hb dX8_deliver_2 rfl (lv_at hl 1 rfl) ?_
  refine ce_qi (fw := fun u => u) (fy := fun _ => y) (cr_V (n := 1) (As := [.int (p1)]) (rest := [.ref (y.2 20 0)]) ⟨hx, hb, hml, hown, hts⟩ hK hR (m_X8_isNoCompany hM l0 h) q2189 q2191 qs42 q85 q2192 rfl rfl hd_X8_isNoCompany ⟨Nat.le_of_ble_eq_true rfl, Nat.le_of_ble_eq_true rfl⟩ (rv hK hR l0 (ci := 11) rfl rfl) rfl rfl hl.1 rfl (lv_room (Nat.le_of_ble_eq_true rfl)) dX8_deliver_3 ⟨(Nat.le_of_ble_eq_true rfl), (Nat.le_of_ble_eq_true rfl)⟩) hR hS (fun r_3 w_3 H locs h hR _ hS => ?_)
  refine lv_iconst (v := (1 : Int32)) hx hb dX8_deliver_6 (by decide) ?_
  refine ce_qi (fw := fun u => u) (fy := fun _ => y) (cr_V (n := 2) (As := [.int (r_3), .int ((1 : Int32))]) (rest := []) ⟨hx, hb, hml, hown, hts⟩ hK hR (m_X8_start hM l0 h) q2023 q2025 qs37 q85 q2026 rfl rfl hd_X8_start ⟨Nat.le_of_ble_eq_true rfl, Nat.le_of_ble_eq_true rfl⟩ (rv hK hR l0 (ci := 11) rfl rfl) rfl rfl hl.1 rfl (lv_room (Nat.le_of_ble_eq_true rfl)) dX8_deliver_7 ⟨(Nat.le_of_ble_eq_true rfl), (Nat.le_of_ble_eq_true rfl)⟩) hR hS (fun r_7 w_7 H locs h hR _ hS => ?_)
  refine lv_if_ne (tgt := 70) hx hb dX8_deliver_10 (by decide) (fun c_10 => ?_) (fun c_10 => ?_)
  · have h := h.1 c_10
    refine lv_iconst (v := (0 : Int32)) hx hb dX8_deliver_70 (by decide) ?_
    refine W.widen (k := 0) (n := 0) (Nat.le_of_ble_eq_true rfl) (Nat.le_of_ble_eq_true rfl) ?_
    exact W.iret (v := (0 : Int32)) hx hb hr (fun t ht hW9 => ⟨⟨(0 : Int32), w_7, rfl, h, rpt ht hR⟩, hS.F ht⟩) hS.2.2 dX8_deliver_71
  · have h := h.2 c_10
    refine lv_aload_n hx hb dX8_deliver_13 rfl (lv_at hl 0 rfl) ?_
    refine lv_iload_n hx hb dX8_deliver_14 rfl (lv_at hl 2 rfl) ?_
    refine lv_iconst (v := (1 : Int32)) hx hb dX8_deliver_15 (by decide) ?_
    refine lv_sipush (v := (500 : Int32)) hx hb dX8_deliver_16 (by decide) ?_
    refine ce_qi (fw := fun u => u) (fy := fun _ => y) (cr_S (n := 3) (As := [.int (p2), .int ((1 : Int32)), .int ((500 : Int32))]) (rest := [.ref (y.2 20 0)]) ⟨hx, hb, hml, hown, hts⟩ hK hR (m_X8_isIn hM h) q2020 q2021 q85 q2022 rfl rfl hds_X8_isIn ⟨Nat.le_of_ble_eq_true rfl, Nat.le_of_ble_eq_true rfl⟩ rfl rfl hl.1 rfl (lv_room (Nat.le_of_ble_eq_true rfl)) dX8_deliver_19 ⟨(Nat.le_of_ble_eq_true rfl), (Nat.le_of_ble_eq_true rfl)⟩) hR hS (fun r_19 w_19 H locs h hR _ hS => ?_)
    refine lv_if_ne (tgt := 29) hx hb dX8_deliver_22 (by decide) (fun c_22 => ?_) (fun c_22 => ?_)
    · have h := h.1 c_22
      refine lv_iconst (v := (0 : Int32)) hx hb dX8_deliver_29 (by decide) ?_
      refine lv_iconst (v := (2 : Int32)) hx hb dX8_deliver_30 (by decide) ?_
      refine ce_qi (fw := fun u => u) (fy := fun _ => y) (cr_V (n := 2) (As := [.int ((0 : Int32)), .int ((2 : Int32))]) (rest := []) ⟨hx, hb, hml, hown, hts⟩ hK hR (m_X8_refuse hM l0 h) q2027 q2029 qs38 q85 q2030 rfl rfl hd_X8_refuse ⟨Nat.le_of_ble_eq_true rfl, Nat.le_of_ble_eq_true rfl⟩ (rv hK hR l0 (ci := 11) rfl rfl) rfl rfl hl.1 rfl (lv_room (Nat.le_of_ble_eq_true rfl)) dX8_deliver_31 ⟨(Nat.le_of_ble_eq_true rfl), (Nat.le_of_ble_eq_true rfl)⟩) hR hS (fun r_31 w_31 H locs h hR _ hS => ?_)
      refine lv_if_ne (tgt := 70) hx hb dX8_deliver_34 (by decide) (fun c_34 => ?_) (fun c_34 => ?_)
      · have h := h.1 c_34
        refine lv_iconst (v := (0 : Int32)) hx hb dX8_deliver_70 (by decide) ?_
        refine W.widen (k := 0) (n := 0) (Nat.le_of_ble_eq_true rfl) (Nat.le_of_ble_eq_true rfl) ?_
        exact W.iret (v := (0 : Int32)) hx hb hr (fun t ht hW9 => ⟨⟨(0 : Int32), w_31, rfl, h, rpt ht hR⟩, hS.F ht⟩) hS.2.2 dX8_deliver_71
      · have h := h.2 c_34
        refine lv_aload_n hx hb dX8_deliver_37 rfl (lv_at hl 0 rfl) ?_
        refine lv_aload_n hx hb dX8_deliver_38 rfl (lv_at hl 0 rfl) ?_
        refine g20_4 hx hb hts hown hK hR l0 q1949 dX8_deliver_39 ?_
        refine lv_iload_n hx hb dX8_deliver_42 rfl (lv_at hl 1 rfl) ?_
        have o_43 := h.1
        have h := h.2
        refine jr_get (a := y.2 26 ((p1).toNatClampNeg)) ⟨hx, hb, hml, hown, hts⟩ hK hR ⟨fun _ _ _ _ _ => rfl, fun _ _ _ _ _ => rfl⟩ hM.lsC ⟨hM.arC (Nat.lt_of_le_of_lt (Nat.zero_le _) (vp_lt o_43)), (Nat.le_trans hM.mC4 (by decide))⟩ o_43 (hM.elC (vp_lt o_43)) q2101 ⟨Nat.le_of_ble_eq_true rfl, Nat.le_of_ble_eq_true rfl⟩ hl.1 (Nat.le_of_ble_eq_true rfl) dX8_deliver_43 ⟨(Nat.le_of_ble_eq_true rfl), (Nat.le_of_ble_eq_true rfl)⟩ ?_
        refine jr_castS (ci := 13) hx hb hown hK hts (hR.role (hM.com (vp_lt o_43))) rfl q2141 dX8_deliver_46 ?_
        refine g26_1 hx hb hts hown hK hR (hM.com (vp_lt o_43)) q2150 dX8_deliver_49 ?_
        refine lv_iconst (v := (2 : Int32)) hx hb dX8_deliver_52 (by decide) ?_
        refine lv_iload_n hx hb dX8_deliver_53 rfl (lv_at hl 2 rfl) ?_
        refine lv_imul hx hb dX8_deliver_54 ?_
        refine lv_icmp_ge (tgt := 62) hx hb dX8_deliver_55 (by decide) (fun c_55 => ?_) (fun c_55 => ?_)
        · have h := h.1 c_55
          refine lv_iconst (v := (0 : Int32)) hx hb dX8_deliver_62 (by decide) ?_
          refine lv_iconst (v := (3 : Int32)) hx hb dX8_deliver_63 (by decide) ?_
          refine ce_qi (fw := fun u => u) (fy := fun _ => y) (cr_V (n := 2) (As := [.int ((0 : Int32)), .int ((3 : Int32))]) (rest := []) ⟨hx, hb, hml, hown, hts⟩ hK hR (m_X8_refuse hM l0 h) q2027 q2029 qs38 q85 q2030 rfl rfl hd_X8_refuse ⟨Nat.le_of_ble_eq_true rfl, Nat.le_of_ble_eq_true rfl⟩ (rv hK hR l0 (ci := 11) rfl rfl) rfl rfl hl.1 rfl (lv_room (Nat.le_of_ble_eq_true rfl)) dX8_deliver_64 ⟨(Nat.le_of_ble_eq_true rfl), (Nat.le_of_ble_eq_true rfl)⟩) hR hS (fun r_64 w_64 H locs h hR _ hS => ?_)
          refine lv_if_eq (tgt := 72) hx hb dX8_deliver_67 (by decide) (fun c_67 => ?_) (fun c_67 => ?_)
          · have h := h.1 c_67
            refine lv_aload_n hx hb dX8_deliver_72 rfl (lv_at hl 0 rfl) ?_
            refine g20_4 hx hb hts hown hK hR l0 q1949 dX8_deliver_73 ?_
            refine lv_iload_n hx hb dX8_deliver_76 rfl (lv_at hl 1 rfl) ?_
            have o_77 := h.1
            have h := h.2
            refine jr_get (a := y.2 26 ((p1).toNatClampNeg)) ⟨hx, hb, hml, hown, hts⟩ hK hR ⟨fun _ _ _ _ _ => rfl, fun _ _ _ _ _ => rfl⟩ hM.lsC ⟨hM.arC (Nat.lt_of_le_of_lt (Nat.zero_le _) (vp_lt o_77)), (Nat.le_trans hM.mC4 (by decide))⟩ o_77 (hM.elC (vp_lt o_77)) q2101 ⟨Nat.le_of_ble_eq_true rfl, Nat.le_of_ble_eq_true rfl⟩ hl.1 (Nat.le_of_ble_eq_true rfl) dX8_deliver_77 ⟨(Nat.le_of_ble_eq_true rfl), (Nat.le_of_ble_eq_true rfl)⟩ ?_
            refine jr_castS (ci := 13) hx hb hown hK hts (hR.role (hM.com (vp_lt o_77))) rfl q2141 dX8_deliver_80 ?_
            refine lv_astore_n (lv' := [(3, .ref (y.2 26 ((p1).toNatClampNeg))), (0, .ref (y.2 20 0)), (1, .int (p1)), (2, .int (p2))]) hx hb dX8_deliver_83 rfl hl (by decide) rfl (fun ls hl => ?_)
            refine lv_aload_n hx hb dX8_deliver_84 rfl (lv_at hl 0 rfl) ?_
            refine lv_dup hx hb dX8_deliver_85 rfl ?_
            refine g26_1 hx hb hts hown hK hR (hM.com (vp_lt o_77)) q2150 dX8_deliver_86 ?_
            refine lv_iconst (v := (2 : Int32)) hx hb dX8_deliver_89 (by decide) ?_
            refine lv_iload_n hx hb dX8_deliver_90 rfl (lv_at hl 3 rfl) ?_
            refine lv_imul hx hb dX8_deliver_91 ?_
            refine lv_isub hx hb dX8_deliver_92 ?_
            refine p26_1 hx hb hts hown hK hR hS (hM.com (vp_lt o_77)) q2150 dX8_deliver_93 (fun H locs w_93 ew_93 hR hS => ?_)
            have h := h w_93 ew_93
            refine lv_aload_n hx hb dX8_deliver_96 rfl (lv_at hl 1 rfl) ?_
            refine lv_dup hx hb dX8_deliver_97 rfl ?_
            refine g20_15 hx hb hts hown hK hR l0 q1960 dX8_deliver_98 ?_
            refine lv_iconst (v := (2 : Int32)) hx hb dX8_deliver_101 (by decide) ?_
            refine lv_iload_n hx hb dX8_deliver_102 rfl (lv_at hl 3 rfl) ?_
            refine lv_imul hx hb dX8_deliver_103 ?_
            refine lv_iadd hx hb dX8_deliver_104 ?_
            refine p20_15 hx hb hts hown hK hR hS l0 q1960 dX8_deliver_105 (fun H locs w_105 ew_105 hR hS => ?_)
            have h := h w_105 ew_105
            refine lv_aload_n hx hb dX8_deliver_108 rfl (lv_at hl 0 rfl) ?_
            refine lv_dup hx hb dX8_deliver_109 rfl ?_
            refine g26_5 hx hb hts hown hK hR (hM.com (vp_lt o_77)) q2154 dX8_deliver_110 ?_
            refine lv_iconst (v := (3 : Int32)) hx hb dX8_deliver_113 (by decide) ?_
            refine lv_iload_n hx hb dX8_deliver_114 rfl (lv_at hl 3 rfl) ?_
            refine lv_imul hx hb dX8_deliver_115 ?_
            refine lv_iadd hx hb dX8_deliver_116 ?_
            refine p26_5 hx hb hts hown hK hR hS (hM.com (vp_lt o_77)) q2154 dX8_deliver_117 (fun H locs w_117 ew_117 hR hS => ?_)
            have h := h w_117 ew_117
            refine lv_aload_n hx hb dX8_deliver_120 rfl (lv_at hl 0 rfl) ?_
            refine g26_5 hx hb hts hown hK hR (hM.com (vp_lt o_77)) q2154 dX8_deliver_121 ?_
            refine W.widen (k := 0) (n := 0) (Nat.le_of_ble_eq_true rfl) (Nat.le_of_ble_eq_true rfl) ?_
            exact W.iret (v := gv w_117 26 (((p1).toNatClampNeg)) 5) hx hb hr (fun t ht hW9 => ⟨⟨gv w_117 26 (((p1).toNatClampNeg)) 5, w_117, rfl, h, rpt ht hR⟩, hS.F ht⟩) hS.2.2 dX8_deliver_124
          · have h := h.2 c_67
            refine lv_iconst (v := (0 : Int32)) hx hb dX8_deliver_70 (by decide) ?_
            refine W.widen (k := 0) (n := 0) (Nat.le_of_ble_eq_true rfl) (Nat.le_of_ble_eq_true rfl) ?_
            exact W.iret (v := (0 : Int32)) hx hb hr (fun t ht hW9 => ⟨⟨(0 : Int32), w_64, rfl, h, rpt ht hR⟩, hS.F ht⟩) hS.2.2 dX8_deliver_71
        · have h := h.2 c_55
          refine lv_iconst (v := (1 : Int32)) hx hb dX8_deliver_58 (by decide) ?_
          refine lv_goto (tgt := 63) hx hb dX8_deliver_59 (by decide) ?_
          refine lv_iconst (v := (3 : Int32)) hx hb dX8_deliver_63 (by decide) ?_
          refine ce_qi (fw := fun u => u) (fy := fun _ => y) (cr_V (n := 2) (As := [.int ((1 : Int32)), .int ((3 : Int32))]) (rest := []) ⟨hx, hb, hml, hown, hts⟩ hK hR (m_X8_refuse hM l0 h) q2027 q2029 qs38 q85 q2030 rfl rfl hd_X8_refuse ⟨Nat.le_of_ble_eq_true rfl, Nat.le_of_ble_eq_true rfl⟩ (rv hK hR l0 (ci := 11) rfl rfl) rfl rfl hl.1 rfl (lv_room (Nat.le_of_ble_eq_true rfl)) dX8_deliver_64 ⟨(Nat.le_of_ble_eq_true rfl), (Nat.le_of_ble_eq_true rfl)⟩) hR hS (fun r_64_a w_64_a H locs h hR _ hS => ?_)
          refine lv_if_eq (tgt := 72) hx hb dX8_deliver_67 (by decide) (fun c_67_a => ?_) (fun c_67_a => ?_)
          · have h := h.1 c_67_a
            refine lv_aload_n hx hb dX8_deliver_72 rfl (lv_at hl 0 rfl) ?_
            refine g20_4 hx hb hts hown hK hR l0 q1949 dX8_deliver_73 ?_
            refine lv_iload_n hx hb dX8_deliver_76 rfl (lv_at hl 1 rfl) ?_
            have o_77_a := h.1
            have h := h.2
            refine jr_get (a := y.2 26 ((p1).toNatClampNeg)) ⟨hx, hb, hml, hown, hts⟩ hK hR ⟨fun _ _ _ _ _ => rfl, fun _ _ _ _ _ => rfl⟩ hM.lsC ⟨hM.arC (Nat.lt_of_le_of_lt (Nat.zero_le _) (vp_lt o_77_a)), (Nat.le_trans hM.mC4 (by decide))⟩ o_77_a (hM.elC (vp_lt o_77_a)) q2101 ⟨Nat.le_of_ble_eq_true rfl, Nat.le_of_ble_eq_true rfl⟩ hl.1 (Nat.le_of_ble_eq_true rfl) dX8_deliver_77 ⟨(Nat.le_of_ble_eq_true rfl), (Nat.le_of_ble_eq_true rfl)⟩ ?_
            refine jr_castS (ci := 13) hx hb hown hK hts (hR.role (hM.com (vp_lt o_77_a))) rfl q2141 dX8_deliver_80 ?_
            refine lv_astore_n (lv' := [(3, .ref (y.2 26 ((p1).toNatClampNeg))), (0, .ref (y.2 20 0)), (1, .int (p1)), (2, .int (p2))]) hx hb dX8_deliver_83 rfl hl (by decide) rfl (fun ls hl => ?_)
            refine lv_aload_n hx hb dX8_deliver_84 rfl (lv_at hl 0 rfl) ?_
            refine lv_dup hx hb dX8_deliver_85 rfl ?_
            refine g26_1 hx hb hts hown hK hR (hM.com (vp_lt o_77_a)) q2150 dX8_deliver_86 ?_
            refine lv_iconst (v := (2 : Int32)) hx hb dX8_deliver_89 (by decide) ?_
            refine lv_iload_n hx hb dX8_deliver_90 rfl (lv_at hl 3 rfl) ?_
            refine lv_imul hx hb dX8_deliver_91 ?_
            refine lv_isub hx hb dX8_deliver_92 ?_
            refine p26_1 hx hb hts hown hK hR hS (hM.com (vp_lt o_77_a)) q2150 dX8_deliver_93 (fun H locs w_93_a ew_93_a hR hS => ?_)
            have h := h w_93_a ew_93_a
            refine lv_aload_n hx hb dX8_deliver_96 rfl (lv_at hl 1 rfl) ?_
            refine lv_dup hx hb dX8_deliver_97 rfl ?_
            refine g20_15 hx hb hts hown hK hR l0 q1960 dX8_deliver_98 ?_
            refine lv_iconst (v := (2 : Int32)) hx hb dX8_deliver_101 (by decide) ?_
            refine lv_iload_n hx hb dX8_deliver_102 rfl (lv_at hl 3 rfl) ?_
            refine lv_imul hx hb dX8_deliver_103 ?_
            refine lv_iadd hx hb dX8_deliver_104 ?_
            refine p20_15 hx hb hts hown hK hR hS l0 q1960 dX8_deliver_105 (fun H locs w_105_a ew_105_a hR hS => ?_)
            have h := h w_105_a ew_105_a
            refine lv_aload_n hx hb dX8_deliver_108 rfl (lv_at hl 0 rfl) ?_
            refine lv_dup hx hb dX8_deliver_109 rfl ?_
            refine g26_5 hx hb hts hown hK hR (hM.com (vp_lt o_77_a)) q2154 dX8_deliver_110 ?_
            refine lv_iconst (v := (3 : Int32)) hx hb dX8_deliver_113 (by decide) ?_
            refine lv_iload_n hx hb dX8_deliver_114 rfl (lv_at hl 3 rfl) ?_
            refine lv_imul hx hb dX8_deliver_115 ?_
            refine lv_iadd hx hb dX8_deliver_116 ?_
            refine p26_5 hx hb hts hown hK hR hS (hM.com (vp_lt o_77_a)) q2154 dX8_deliver_117 (fun H locs w_117_a ew_117_a hR hS => ?_)
            have h := h w_117_a ew_117_a
            refine lv_aload_n hx hb dX8_deliver_120 rfl (lv_at hl 0 rfl) ?_
            refine g26_5 hx hb hts hown hK hR (hM.com (vp_lt o_77_a)) q2154 dX8_deliver_121 ?_
            refine W.widen (k := 0) (n := 0) (Nat.le_of_ble_eq_true rfl) (Nat.le_of_ble_eq_true rfl) ?_
            exact W.iret (v := gv w_117_a 26 (((p1).toNatClampNeg)) 5) hx hb hr (fun t ht hW9 => ⟨⟨gv w_117_a 26 (((p1).toNatClampNeg)) 5, w_117_a, rfl, h, rpt ht hR⟩, hS.F ht⟩) hS.2.2 dX8_deliver_124
          · have h := h.2 c_67_a
            refine lv_iconst (v := (0 : Int32)) hx hb dX8_deliver_70 (by decide) ?_
            refine W.widen (k := 0) (n := 0) (Nat.le_of_ble_eq_true rfl) (Nat.le_of_ble_eq_true rfl) ?_
            exact W.iret (v := (0 : Int32)) hx hb hr (fun t ht hW9 => ⟨⟨(0 : Int32), w_64_a, rfl, h, rpt ht hR⟩, hS.F ht⟩) hS.2.2 dX8_deliver_71
    · have h := h.2 c_22
      refine lv_iconst (v := (1 : Int32)) hx hb dX8_deliver_25 (by decide) ?_
      refine lv_goto (tgt := 30) hx hb dX8_deliver_26 (by decide) ?_
      refine lv_iconst (v := (2 : Int32)) hx hb dX8_deliver_30 (by decide) ?_
      refine ce_qi (fw := fun u => u) (fy := fun _ => y) (cr_V (n := 2) (As := [.int ((1 : Int32)), .int ((2 : Int32))]) (rest := []) ⟨hx, hb, hml, hown, hts⟩ hK hR (m_X8_refuse hM l0 h) q2027 q2029 qs38 q85 q2030 rfl rfl hd_X8_refuse ⟨Nat.le_of_ble_eq_true rfl, Nat.le_of_ble_eq_true rfl⟩ (rv hK hR l0 (ci := 11) rfl rfl) rfl rfl hl.1 rfl (lv_room (Nat.le_of_ble_eq_true rfl)) dX8_deliver_31 ⟨(Nat.le_of_ble_eq_true rfl), (Nat.le_of_ble_eq_true rfl)⟩) hR hS (fun r_31_a w_31_a H locs h hR _ hS => ?_)
      refine lv_if_ne (tgt := 70) hx hb dX8_deliver_34 (by decide) (fun c_34_a => ?_) (fun c_34_a => ?_)
      · have h := h.1 c_34_a
        refine lv_iconst (v := (0 : Int32)) hx hb dX8_deliver_70 (by decide) ?_
        refine W.widen (k := 0) (n := 0) (Nat.le_of_ble_eq_true rfl) (Nat.le_of_ble_eq_true rfl) ?_
        exact W.iret (v := (0 : Int32)) hx hb hr (fun t ht hW9 => ⟨⟨(0 : Int32), w_31_a, rfl, h, rpt ht hR⟩, hS.F ht⟩) hS.2.2 dX8_deliver_71
      · have h := h.2 c_34_a
        refine lv_aload_n hx hb dX8_deliver_37 rfl (lv_at hl 0 rfl) ?_
        refine lv_aload_n hx hb dX8_deliver_38 rfl (lv_at hl 0 rfl) ?_
        refine g20_4 hx hb hts hown hK hR l0 q1949 dX8_deliver_39 ?_
        refine lv_iload_n hx hb dX8_deliver_42 rfl (lv_at hl 1 rfl) ?_
        have o_43_a := h.1
        have h := h.2
        refine jr_get (a := y.2 26 ((p1).toNatClampNeg)) ⟨hx, hb, hml, hown, hts⟩ hK hR ⟨fun _ _ _ _ _ => rfl, fun _ _ _ _ _ => rfl⟩ hM.lsC ⟨hM.arC (Nat.lt_of_le_of_lt (Nat.zero_le _) (vp_lt o_43_a)), (Nat.le_trans hM.mC4 (by decide))⟩ o_43_a (hM.elC (vp_lt o_43_a)) q2101 ⟨Nat.le_of_ble_eq_true rfl, Nat.le_of_ble_eq_true rfl⟩ hl.1 (Nat.le_of_ble_eq_true rfl) dX8_deliver_43 ⟨(Nat.le_of_ble_eq_true rfl), (Nat.le_of_ble_eq_true rfl)⟩ ?_
        refine jr_castS (ci := 13) hx hb hown hK hts (hR.role (hM.com (vp_lt o_43_a))) rfl q2141 dX8_deliver_46 ?_
        refine g26_1 hx hb hts hown hK hR (hM.com (vp_lt o_43_a)) q2150 dX8_deliver_49 ?_
        refine lv_iconst (v := (2 : Int32)) hx hb dX8_deliver_52 (by decide) ?_
        refine lv_iload_n hx hb dX8_deliver_53 rfl (lv_at hl 2 rfl) ?_
        refine lv_imul hx hb dX8_deliver_54 ?_
        refine lv_icmp_ge (tgt := 62) hx hb dX8_deliver_55 (by decide) (fun c_55_a => ?_) (fun c_55_a => ?_)
        · have h := h.1 c_55_a
          refine lv_iconst (v := (0 : Int32)) hx hb dX8_deliver_62 (by decide) ?_
          refine lv_iconst (v := (3 : Int32)) hx hb dX8_deliver_63 (by decide) ?_
          refine ce_qi (fw := fun u => u) (fy := fun _ => y) (cr_V (n := 2) (As := [.int ((0 : Int32)), .int ((3 : Int32))]) (rest := []) ⟨hx, hb, hml, hown, hts⟩ hK hR (m_X8_refuse hM l0 h) q2027 q2029 qs38 q85 q2030 rfl rfl hd_X8_refuse ⟨Nat.le_of_ble_eq_true rfl, Nat.le_of_ble_eq_true rfl⟩ (rv hK hR l0 (ci := 11) rfl rfl) rfl rfl hl.1 rfl (lv_room (Nat.le_of_ble_eq_true rfl)) dX8_deliver_64 ⟨(Nat.le_of_ble_eq_true rfl), (Nat.le_of_ble_eq_true rfl)⟩) hR hS (fun r_64_b w_64_b H locs h hR _ hS => ?_)
          refine lv_if_eq (tgt := 72) hx hb dX8_deliver_67 (by decide) (fun c_67_b => ?_) (fun c_67_b => ?_)
          · have h := h.1 c_67_b
            refine lv_aload_n hx hb dX8_deliver_72 rfl (lv_at hl 0 rfl) ?_
            refine g20_4 hx hb hts hown hK hR l0 q1949 dX8_deliver_73 ?_
            refine lv_iload_n hx hb dX8_deliver_76 rfl (lv_at hl 1 rfl) ?_
            have o_77_b := h.1
            have h := h.2
            refine jr_get (a := y.2 26 ((p1).toNatClampNeg)) ⟨hx, hb, hml, hown, hts⟩ hK hR ⟨fun _ _ _ _ _ => rfl, fun _ _ _ _ _ => rfl⟩ hM.lsC ⟨hM.arC (Nat.lt_of_le_of_lt (Nat.zero_le _) (vp_lt o_77_b)), (Nat.le_trans hM.mC4 (by decide))⟩ o_77_b (hM.elC (vp_lt o_77_b)) q2101 ⟨Nat.le_of_ble_eq_true rfl, Nat.le_of_ble_eq_true rfl⟩ hl.1 (Nat.le_of_ble_eq_true rfl) dX8_deliver_77 ⟨(Nat.le_of_ble_eq_true rfl), (Nat.le_of_ble_eq_true rfl)⟩ ?_
            refine jr_castS (ci := 13) hx hb hown hK hts (hR.role (hM.com (vp_lt o_77_b))) rfl q2141 dX8_deliver_80 ?_
            refine lv_astore_n (lv' := [(3, .ref (y.2 26 ((p1).toNatClampNeg))), (0, .ref (y.2 20 0)), (1, .int (p1)), (2, .int (p2))]) hx hb dX8_deliver_83 rfl hl (by decide) rfl (fun ls hl => ?_)
            refine lv_aload_n hx hb dX8_deliver_84 rfl (lv_at hl 0 rfl) ?_
            refine lv_dup hx hb dX8_deliver_85 rfl ?_
            refine g26_1 hx hb hts hown hK hR (hM.com (vp_lt o_77_b)) q2150 dX8_deliver_86 ?_
            refine lv_iconst (v := (2 : Int32)) hx hb dX8_deliver_89 (by decide) ?_
            refine lv_iload_n hx hb dX8_deliver_90 rfl (lv_at hl 3 rfl) ?_
            refine lv_imul hx hb dX8_deliver_91 ?_
            refine lv_isub hx hb dX8_deliver_92 ?_
            refine p26_1 hx hb hts hown hK hR hS (hM.com (vp_lt o_77_b)) q2150 dX8_deliver_93 (fun H locs w_93_b ew_93_b hR hS => ?_)
            have h := h w_93_b ew_93_b
            refine lv_aload_n hx hb dX8_deliver_96 rfl (lv_at hl 1 rfl) ?_
            refine lv_dup hx hb dX8_deliver_97 rfl ?_
            refine g20_15 hx hb hts hown hK hR l0 q1960 dX8_deliver_98 ?_
            refine lv_iconst (v := (2 : Int32)) hx hb dX8_deliver_101 (by decide) ?_
            refine lv_iload_n hx hb dX8_deliver_102 rfl (lv_at hl 3 rfl) ?_
            refine lv_imul hx hb dX8_deliver_103 ?_
            refine lv_iadd hx hb dX8_deliver_104 ?_
            refine p20_15 hx hb hts hown hK hR hS l0 q1960 dX8_deliver_105 (fun H locs w_105_b ew_105_b hR hS => ?_)
            have h := h w_105_b ew_105_b
            refine lv_aload_n hx hb dX8_deliver_108 rfl (lv_at hl 0 rfl) ?_
            refine lv_dup hx hb dX8_deliver_109 rfl ?_
            refine g26_5 hx hb hts hown hK hR (hM.com (vp_lt o_77_b)) q2154 dX8_deliver_110 ?_
            refine lv_iconst (v := (3 : Int32)) hx hb dX8_deliver_113 (by decide) ?_
            refine lv_iload_n hx hb dX8_deliver_114 rfl (lv_at hl 3 rfl) ?_
            refine lv_imul hx hb dX8_deliver_115 ?_
            refine lv_iadd hx hb dX8_deliver_116 ?_
            refine p26_5 hx hb hts hown hK hR hS (hM.com (vp_lt o_77_b)) q2154 dX8_deliver_117 (fun H locs w_117_b ew_117_b hR hS => ?_)
            have h := h w_117_b ew_117_b
            refine lv_aload_n hx hb dX8_deliver_120 rfl (lv_at hl 0 rfl) ?_
            refine g26_5 hx hb hts hown hK hR (hM.com (vp_lt o_77_b)) q2154 dX8_deliver_121 ?_
            refine W.widen (k := 0) (n := 0) (Nat.le_of_ble_eq_true rfl) (Nat.le_of_ble_eq_true rfl) ?_
            exact W.iret (v := gv w_117_b 26 (((p1).toNatClampNeg)) 5) hx hb hr (fun t ht hW9 => ⟨⟨gv w_117_b 26 (((p1).toNatClampNeg)) 5, w_117_b, rfl, h, rpt ht hR⟩, hS.F ht⟩) hS.2.2 dX8_deliver_124
          · have h := h.2 c_67_b
            refine lv_iconst (v := (0 : Int32)) hx hb dX8_deliver_70 (by decide) ?_
            refine W.widen (k := 0) (n := 0) (Nat.le_of_ble_eq_true rfl) (Nat.le_of_ble_eq_true rfl) ?_
            exact W.iret (v := (0 : Int32)) hx hb hr (fun t ht hW9 => ⟨⟨(0 : Int32), w_64_b, rfl, h, rpt ht hR⟩, hS.F ht⟩) hS.2.2 dX8_deliver_71
        · have h := h.2 c_55_a
          refine lv_iconst (v := (1 : Int32)) hx hb dX8_deliver_58 (by decide) ?_
          refine lv_goto (tgt := 63) hx hb dX8_deliver_59 (by decide) ?_
          refine lv_iconst (v := (3 : Int32)) hx hb dX8_deliver_63 (by decide) ?_
          refine ce_qi (fw := fun u => u) (fy := fun _ => y) (cr_V (n := 2) (As := [.int ((1 : Int32)), .int ((3 : Int32))]) (rest := []) ⟨hx, hb, hml, hown, hts⟩ hK hR (m_X8_refuse hM l0 h) q2027 q2029 qs38 q85 q2030 rfl rfl hd_X8_refuse ⟨Nat.le_of_ble_eq_true rfl, Nat.le_of_ble_eq_true rfl⟩ (rv hK hR l0 (ci := 11) rfl rfl) rfl rfl hl.1 rfl (lv_room (Nat.le_of_ble_eq_true rfl)) dX8_deliver_64 ⟨(Nat.le_of_ble_eq_true rfl), (Nat.le_of_ble_eq_true rfl)⟩) hR hS (fun r_64_c w_64_c H locs h hR _ hS => ?_)
          refine lv_if_eq (tgt := 72) hx hb dX8_deliver_67 (by decide) (fun c_67_c => ?_) (fun c_67_c => ?_)
          · have h := h.1 c_67_c
            refine lv_aload_n hx hb dX8_deliver_72 rfl (lv_at hl 0 rfl) ?_
            refine g20_4 hx hb hts hown hK hR l0 q1949 dX8_deliver_73 ?_
            refine lv_iload_n hx hb dX8_deliver_76 rfl (lv_at hl 1 rfl) ?_
            have o_77_c := h.1
            have h := h.2
            refine jr_get (a := y.2 26 ((p1).toNatClampNeg)) ⟨hx, hb, hml, hown, hts⟩ hK hR ⟨fun _ _ _ _ _ => rfl, fun _ _ _ _ _ => rfl⟩ hM.lsC ⟨hM.arC (Nat.lt_of_le_of_lt (Nat.zero_le _) (vp_lt o_77_c)), (Nat.le_trans hM.mC4 (by decide))⟩ o_77_c (hM.elC (vp_lt o_77_c)) q2101 ⟨Nat.le_of_ble_eq_true rfl, Nat.le_of_ble_eq_true rfl⟩ hl.1 (Nat.le_of_ble_eq_true rfl) dX8_deliver_77 ⟨(Nat.le_of_ble_eq_true rfl), (Nat.le_of_ble_eq_true rfl)⟩ ?_
            refine jr_castS (ci := 13) hx hb hown hK hts (hR.role (hM.com (vp_lt o_77_c))) rfl q2141 dX8_deliver_80 ?_
            refine lv_astore_n (lv' := [(3, .ref (y.2 26 ((p1).toNatClampNeg))), (0, .ref (y.2 20 0)), (1, .int (p1)), (2, .int (p2))]) hx hb dX8_deliver_83 rfl hl (by decide) rfl (fun ls hl => ?_)
            refine lv_aload_n hx hb dX8_deliver_84 rfl (lv_at hl 0 rfl) ?_
            refine lv_dup hx hb dX8_deliver_85 rfl ?_
            refine g26_1 hx hb hts hown hK hR (hM.com (vp_lt o_77_c)) q2150 dX8_deliver_86 ?_
            refine lv_iconst (v := (2 : Int32)) hx hb dX8_deliver_89 (by decide) ?_
            refine lv_iload_n hx hb dX8_deliver_90 rfl (lv_at hl 3 rfl) ?_
            refine lv_imul hx hb dX8_deliver_91 ?_
            refine lv_isub hx hb dX8_deliver_92 ?_
            refine p26_1 hx hb hts hown hK hR hS (hM.com (vp_lt o_77_c)) q2150 dX8_deliver_93 (fun H locs w_93_c ew_93_c hR hS => ?_)
            have h := h w_93_c ew_93_c
            refine lv_aload_n hx hb dX8_deliver_96 rfl (lv_at hl 1 rfl) ?_
            refine lv_dup hx hb dX8_deliver_97 rfl ?_
            refine g20_15 hx hb hts hown hK hR l0 q1960 dX8_deliver_98 ?_
            refine lv_iconst (v := (2 : Int32)) hx hb dX8_deliver_101 (by decide) ?_
            refine lv_iload_n hx hb dX8_deliver_102 rfl (lv_at hl 3 rfl) ?_
            refine lv_imul hx hb dX8_deliver_103 ?_
            refine lv_iadd hx hb dX8_deliver_104 ?_
            refine p20_15 hx hb hts hown hK hR hS l0 q1960 dX8_deliver_105 (fun H locs w_105_c ew_105_c hR hS => ?_)
            have h := h w_105_c ew_105_c
            refine lv_aload_n hx hb dX8_deliver_108 rfl (lv_at hl 0 rfl) ?_
            refine lv_dup hx hb dX8_deliver_109 rfl ?_
            refine g26_5 hx hb hts hown hK hR (hM.com (vp_lt o_77_c)) q2154 dX8_deliver_110 ?_
            refine lv_iconst (v := (3 : Int32)) hx hb dX8_deliver_113 (by decide) ?_
            refine lv_iload_n hx hb dX8_deliver_114 rfl (lv_at hl 3 rfl) ?_
            refine lv_imul hx hb dX8_deliver_115 ?_
            refine lv_iadd hx hb dX8_deliver_116 ?_
            refine p26_5 hx hb hts hown hK hR hS (hM.com (vp_lt o_77_c)) q2154 dX8_deliver_117 (fun H locs w_117_c ew_117_c hR hS => ?_)
            have h := h w_117_c ew_117_c
            refine lv_aload_n hx hb dX8_deliver_120 rfl (lv_at hl 0 rfl) ?_
            refine g26_5 hx hb hts hown hK hR (hM.com (vp_lt o_77_c)) q2154 dX8_deliver_121 ?_
            refine W.widen (k := 0) (n := 0) (Nat.le_of_ble_eq_true rfl) (Nat.le_of_ble_eq_true rfl) ?_
            exact W.iret (v := gv w_117_c 26 (((p1).toNatClampNeg)) 5) hx hb hr (fun t ht hW9 => ⟨⟨gv w_117_c 26 (((p1).toNatClampNeg)) 5, w_117_c, rfl, h, rpt ht hR⟩, hS.F ht⟩) hS.2.2 dX8_deliver_124
          · have h := h.2 c_67_c
            refine lv_iconst (v := (0 : Int32)) hx hb dX8_deliver_70 (by decide) ?_
            refine W.widen (k := 0) (n := 0) (Nat.le_of_ble_eq_true rfl) (Nat.le_of_ble_eq_true rfl) ?_
            exact W.iret (v := (0 : Int32)) hx hb hr (fun t ht hW9 => ⟨⟨(0 : Int32), w_64_c, rfl, h, rpt ht hR⟩, hS.F ht⟩) hS.2.2 dX8_deliver_71
abbrev rm_X8_sue : Room := { frames := 3, cells := 0, slots := 0, locals := 93 }
def sp_X8_sue (κ : Kx) (y : Ly) (post : Int32 → Wd → Prop) (w : Wd) (p1 : Int32) (p2 : Int32) : Prop := sp_X8_isNoVillage κ y (fun r_3 w_3 => ∀ j21 : Wd → Int32 → Prop, (j21 = fun (w21 : Wd) (s0_21 : Int32) => sp_X8_start κ y (fun r_22 w_22 => ((r_22 = 0) → ((vp_in (p1) (mV y)) ∧ ((vp_in (p2) 3) ∧ ((y.1 25 (3 * (((((p1).toNatClampNeg)))) + (p2).toNatClampNeg) = 1 → (sp_X8_year κ y (fun r_61 w_61 => ∀ j80 : Wd → Int32 → Prop, (j80 = fun (w80 : Wd) (s0_80 : Int32) => sp_X8_refuse κ y (fun r_81 w_81 => ((r_81 = 0) → (∀ w_93 : Wd, w_93 = sv w_81 25 ((3 * (((((p1).toNatClampNeg)))) + (p2).toNatClampNeg)) ((5 : Int32)).toNatClampNeg ((1 : Int32)) → ∀ x_103 : Int32, x_103 = (gv w_93 25 ((3 * (((((p1).toNatClampNeg)))) + (p2).toNatClampNeg)) ((2 : Int32)).toNatClampNeg) - (gv w_93 25 ((3 * (((((p1).toNatClampNeg)))) + (p2).toNatClampNeg)) ((3 : Int32)).toNatClampNeg) → ((x_103 ≤ 0) → (∀ w_135 : Wd, w_135 = sv w_93 20 0 18 ((gv w_93 20 0 18) + (1 : Int32)) → sp_X11_anger κ y (fun w_140 => post ((0 : Int32)) w_140) w_135 (((p1).toNatClampNeg)) (1 : Int32))) ∧ ((¬ (x_103 ≤ 0)) → (sp_X8_votesNow κ y (fun r_121 w_121 => (((4 : Int32) ≤ r_121) → ((vp_in (gv w_121 25 ((3 * (((((p1).toNatClampNeg)))) + (p2).toNatClampNeg)) ((4 : Int32)).toNatClampNeg) (mL y)) ∧ ((vp_in (gv w_121 27 (((gv w_121 25 ((3 * (((((p1).toNatClampNeg)))) + (p2).toNatClampNeg)) ((4 : Int32)).toNatClampNeg).toNatClampNeg)) 5) (mC y)) ∧ (((gv w_121 26 (((gv w_121 27 (((gv w_121 25 ((3 * (((((p1).toNatClampNeg)))) + (p2).toNatClampNeg)) ((4 : Int32)).toNatClampNeg).toNatClampNeg)) 5).toNatClampNeg)) 6 < (50 : Int32)) → (∀ j238 : Wd → Int32 → Int32 → Prop, (j238 = fun (w238 : Wd) (s0_238 : Int32) (s1_238 : Int32) => ∀ x_241 : Int32, x_241 = jmin s1_238 s0_238 → ∀ w_252 : Wd, w_252 = sv w238 26 (((gv w_121 27 (((gv w_121 25 ((3 * (((((p1).toNatClampNeg)))) + (p2).toNatClampNeg)) ((4 : Int32)).toNatClampNeg).toNatClampNeg)) 5).toNatClampNeg)) 1 ((gv w238 26 (((gv w_121 27 (((gv w_121 25 ((3 * (((((p1).toNatClampNeg)))) + (p2).toNatClampNeg)) ((4 : Int32)).toNatClampNeg).toNatClampNeg)) 5).toNatClampNeg)) 1) - x_241) → ∀ w_263 : Wd, w_263 = sv w_252 21 (((p1).toNatClampNeg)) 5 ((gv w_252 21 (((p1).toNatClampNeg)) 5) + x_241) → sp_X11_anger κ y (fun w_269 => ∀ w_279 : Wd, w_279 = sv w_269 20 0 17 ((gv w_269 20 0 17) + (1 : Int32)) → post ((1 : Int32)) w_279) w_263 (((p1).toNatClampNeg)) (-2 : Int32)) → (((¬ p2 = 0) → (j238 w_121 ((2 : Int32) * x_103) (gv w_121 26 (((gv w_121 27 (((gv w_121 25 ((3 * (((((p1).toNatClampNeg)))) + (p2).toNatClampNeg)) ((4 : Int32)).toNatClampNeg).toNatClampNeg)) 5).toNatClampNeg)) 1))) ∧ ((p2 = 0) → (j238 w_121 ((4 : Int32) * x_103) (gv w_121 26 (((gv w_121 27 (((gv w_121 25 ((3 * (((((p1).toNatClampNeg)))) + (p2).toNatClampNeg)) ((4 : Int32)).toNatClampNeg).toNatClampNeg)) 5).toNatClampNeg)) 1)))))) ∧ ((¬ (gv w_121 26 (((gv w_121 27 (((gv w_121 25 ((3 * (((((p1).toNatClampNeg)))) + (p2).toNatClampNeg)) ((4 : Int32)).toNatClampNeg).toNatClampNeg)) 5).toNatClampNeg)) 6 < (50 : Int32))) → (∀ w_193 : Wd, w_193 = sv w_121 26 (((gv w_121 27 (((gv w_121 25 ((3 * (((((p1).toNatClampNeg)))) + (p2).toNatClampNeg)) ((4 : Int32)).toNatClampNeg).toNatClampNeg)) 5).toNatClampNeg)) 6 ((gv w_121 26 (((gv w_121 27 (((gv w_121 25 ((3 * (((((p1).toNatClampNeg)))) + (p2).toNatClampNeg)) ((4 : Int32)).toNatClampNeg).toNatClampNeg)) 5).toNatClampNeg)) 6) - (50 : Int32)) → ∀ w_203 : Wd, w_203 = sv w_193 20 0 16 ((gv w_193 20 0 16) + (1 : Int32)) → ∀ w_213 : Wd, w_213 = sv w_203 20 0 19 ((gv w_203 20 0 19) + (1 : Int32)) → post ((2 : Int32)) w_213)))))) ∧ ((¬ ((4 : Int32) ≤ r_121)) → (∀ w_135_a : Wd, w_135_a = sv w_121 20 0 18 ((gv w_121 20 0 18) + (1 : Int32)) → sp_X11_anger κ y (fun w_140_a => post ((0 : Int32)) w_140_a) w_135_a (((p1).toNatClampNeg)) (1 : Int32)))) w_93 x_103 (gv w_93 25 ((3 * (((((p1).toNatClampNeg)))) + (p2).toNatClampNeg)) ((3 : Int32)).toNatClampNeg) (gv w_93 20 0 20))))) ∧ ((¬ (r_81 = 0)) → (post ((0 : Int32)) w_81))) w80 s0_80 (2 : Int32)) → (((¬ gv w_22 25 ((3 * (((((p1).toNatClampNeg)))) + (p2).toNatClampNeg)) ((0 : Int32)).toNatClampNeg = r_61) → (j80 w_61 (1 : Int32))) ∧ ((gv w_22 25 ((3 * (((((p1).toNatClampNeg)))) + (p2).toNatClampNeg)) ((0 : Int32)).toNatClampNeg = r_61) → (((¬ gv w_61 25 ((3 * (((((p1).toNatClampNeg)))) + (p2).toNatClampNeg)) ((5 : Int32)).toNatClampNeg = (1 : Int32)) → (j80 w_61 (0 : Int32))) ∧ ((gv w_61 25 ((3 * (((((p1).toNatClampNeg)))) + (p2).toNatClampNeg)) ((5 : Int32)).toNatClampNeg = (1 : Int32)) → (j80 w_61 (1 : Int32))))))) w_22 )) ∧ (¬ y.1 25 (3 * (((((p1).toNatClampNeg)))) + (p2).toNatClampNeg) = 1 → (sp_X8_refuse κ y (fun r_81_a w_81_a => ((r_81_a = 0) → (False)) ∧ ((¬ (r_81_a = 0)) → (post ((0 : Int32)) w_81_a))) w_22 (1 : Int32) (2 : Int32))))))) ∧ ((¬ (r_22 = 0)) → (post ((0 : Int32)) w_22))) w21 s0_21 (1 : Int32)) → (((¬ r_3 = 0) → (j21 w_3 (1 : Int32))) ∧ ((r_3 = 0) → (sp_X8_isNoDuty κ y (fun r_10 w_10 => ((r_10 = 0) → (j21 w_10 (0 : Int32))) ∧ ((¬ (r_10 = 0)) → (j21 w_10 (1 : Int32)))) w_3 p2)))) w p1
theorem hd_X8_sue : yX8_sue.cls = RX8 ∧ yX8_sue.cls ≠ "java/lang/invoke/MethodHandle" ∧ yX8_sue.cls ≠ "java/lang/invoke/VarHandle" ∧ (parseMethodDescriptor yX8_sue.desc).map (fun d => d.parameters.length) = some 2 := by decide +kernel
set_option maxHeartbeats 4000000 in
theorem m_X8_sue {l : Launch} {κ : Kx} {y : Ly} {X : XR} {post : Int32 → Wd → Prop} {w : Wd} {p1 : Int32} {p2 : Int32}  (hM : WFm κ y) (l0 : live y 20 0) (h : sp_X8_sue κ y post w p1 p2) : Met l yX8_sue (ws_ yX8_sue cX8_sue 8 (Option.some Jvm.ClassFile.FieldType.int)) rm_X8_sue (va_Pc [.ref (y.2 20 0), .int (p1), .int (p2)] (RC κ w y X)) (va_Qi post (fun w t => Rp κ w y X [] t.heap) (Af κ)) 0 0 (Af κ) := by
  unfold sp_X8_sue at h
  refine Met.ofW (cc := cX8_sue) (maxL := 8) (ret := (Option.some Jvm.ClassFile.FieldType.int)) (by decide) rfl ?_
  intro p e s m args below meth c s₁ B hml hv
  obtain ⟨rfl, hR, hK⟩ := hv
  have hx := B.exec
  have hb := B.bytes
  have hr := B.returns
  have hts := atoms_spec (ws := ws_ yX8_sue cX8_sue 8 (Option.some Jvm.ClassFile.FieldType.int)) B.pre
  have hts : ∀ w ∈ lw_all, w.before _ s = true := fun w h => hts w (List.mem_cons_of_mem _ h)
  have hown : s.vm.findClass RX8 = some m.cls := findClass_of_methodNamed B.named
  have hlocks := B.notSynchronized
  have hS : va_S (Af κ) s.heap s.heap [] := va_S.rf
  have hl := lv_entry ([.ref (y.2 20 0), .int (p1), .int (p2)]) (n := 8) (Nat.le_of_ble_eq_true rfl)
  rw [lg_entry_eq]
  generalize (lg_sl ([.ref (y.2 20 0), .int (p1), .int (p2)]) ++ List.replicate (8 - (lg_sl ([.ref (y.2 20 0), .int (p1), .int (p2)])).length) Slot.unset).toArray = ls at hl ⊢
  have hl : lv_has ls 8 [(0, .ref (y.2 20 0)), (1, .int (p1)), (2, .int (p2))] := hl
  refine lv_aload_n hx hb dX8_sue_0 rfl (lv_at hl 0 rfl) ?_
  refine lv_aload_n hx hb dX8_sue_1 rfl (lv_at hl 0 rfl) ?_
  refine lv_iload_n hx hb dX8_sue_2 rfl (lv_at hl 1 rfl) ?_
  refine ce_qi (fw := fun u => u) (fy := fun _ => y) (cr_V (n := 1) (As := [.int (p1)]) (rest := [.ref (y.2 20 0)]) ⟨hx, hb, hml, hown, hts⟩ hK hR (m_X8_isNoVillage hM l0 h) q2109 q2111 qs40 q85 q2112 rfl rfl hd_X8_isNoVillage ⟨Nat.le_of_ble_eq_true rfl, Nat.le_of_ble_eq_true rfl⟩ (rv hK hR l0 (ci := 11) rfl rfl) rfl rfl hl.1 rfl (lv_room (Nat.le_of_ble_eq_true rfl)) dX8_sue_3 ⟨(Nat.le_of_ble_eq_true rfl), (Nat.le_of_ble_eq_true rfl)⟩) hR hS (fun r_3 w_3 H locs h hR _ hS => ?_)
  refine jn_elim h (fun j21 ej21 h => ?_)
  have Jj21 : ∀ (w21 : Wd) (s0_21 : Int32) (H : Heap) (locs : List Loc) (ls : Array Slot), j21 w21 s0_21 → Rp κ w21 y X [] H → va_S (Af κ) s.heap H locs → lv_has ls 8 [(0, .ref (y.2 20 0)), (1, .int (p1)), (2, .int (p2))] → W p l e (headSpec (ws_ yX8_sue cX8_sue 8 (Option.some Jvm.ClassFile.FieldType.int)) rm_X8_sue).room s m ([.ref (y.2 20 0), .int (p1), .int (p2)] : List Value).toArray below meth c H locs (0) (0) (MQ below (va_Qi post (fun w t => Rp κ w y X [] t.heap) (Af κ)) ([.ref (y.2 20 0), .int (p1), .int (p2)] : List Value).toArray s 0 0 (Af κ)) (F0 m 21 ls [.int (s0_21), .ref (y.2 20 0)]) := by
    clear h
    intro w21 s0_21 H locs ls h hR hS hl
    subst ej21
    refine lv_iconst (v := (1 : Int32)) hx hb dX8_sue_21 (by decide) ?_
    refine ce_qi (fw := fun u => u) (fy := fun _ => y) (cr_V (n := 2) (As := [.int (s0_21), .int ((1 : Int32))]) (rest := []) ⟨hx, hb, hml, hown, hts⟩ hK hR (m_X8_start hM l0 h) q2023 q2025 qs37 q85 q2026 rfl rfl hd_X8_start ⟨Nat.le_of_ble_eq_true rfl, Nat.le_of_ble_eq_true rfl⟩ (rv hK hR l0 (ci := 11) rfl rfl) rfl rfl hl.1 rfl (lv_room (Nat.le_of_ble_eq_true rfl)) dX8_sue_22 ⟨(Nat.le_of_ble_eq_true rfl), (Nat.le_of_ble_eq_true rfl)⟩) hR hS (fun r_22 w_22 H locs h hR _ hS => ?_)
    refine lv_if_eq (tgt := 30) hx hb dX8_sue_25 (by decide) (fun c_25 => ?_) (fun c_25 => ?_)
    · have h := h.1 c_25
      refine lv_aload_n hx hb dX8_sue_30 rfl (lv_at hl 0 rfl) ?_
      refine g20_3 hx hb hts hown hK hR l0 q1948 dX8_sue_31 ?_
      refine lv_iload_n hx hb dX8_sue_34 rfl (lv_at hl 1 rfl) ?_
      have o_35 := h.1
      have h := h.2
      refine jr_get (a := y.2 21 ((p1).toNatClampNeg)) ⟨hx, hb, hml, hown, hts⟩ hK hR ⟨fun _ _ _ _ _ => rfl, fun _ _ _ _ _ => rfl⟩ hM.lsV ⟨hM.arV (Nat.lt_of_le_of_lt (Nat.zero_le _) (vp_lt o_35)), (Nat.le_trans hM.mV8 (by decide))⟩ o_35 (hM.elV (vp_lt o_35)) q2101 ⟨Nat.le_of_ble_eq_true rfl, Nat.le_of_ble_eq_true rfl⟩ hl.1 (Nat.le_of_ble_eq_true rfl) dX8_sue_35 ⟨(Nat.le_of_ble_eq_true rfl), (Nat.le_of_ble_eq_true rfl)⟩ ?_
      refine jr_castS (ci := 12) hx hb hown hK hts (hR.role (hM.vil (vp_lt o_35))) rfl q2032 dX8_sue_38 ?_
      refine lv_astore_n (lv' := [(3, .ref (y.2 21 ((p1).toNatClampNeg))), (0, .ref (y.2 20 0)), (1, .int (p1)), (2, .int (p2))]) hx hb dX8_sue_41 rfl hl (by decide) rfl (fun ls hl => ?_)
      refine lv_aload_n hx hb dX8_sue_42 rfl (lv_at hl 0 rfl) ?_
      refine g21_16 hx hb hts hown hK hR (hM.vil (vp_lt o_35)) q2060 dX8_sue_43 ?_
      refine lv_iload_n hx hb dX8_sue_46 rfl (lv_at hl 3 rfl) ?_
      have o_47 := h.1
      have h := h.2
      refine a24 hx hb hK hR (hM.vle (hM.vil (vp_lt o_35))) o_47 dX8_sue_47 (fun c_47 => ?_) (fun c_47 => ?_)
      · have h := h.1 c_47
        refine lv_astore (lv' := [(4, .ref (y.2 25 (3 * (((((p1).toNatClampNeg)))) + (p2).toNatClampNeg))), (3, .ref (y.2 21 ((p1).toNatClampNeg))), (0, .ref (y.2 20 0)), (1, .int (p1)), (2, .int (p2))]) hx hb dX8_sue_48 hl (by decide) rfl (fun ls hl => ?_)
        refine lv_aload_n hx hb dX8_sue_50 rfl (lv_at hl 2 rfl) ?_
        refine lv_aload hx hb dX8_sue_51 (lv_at hl 0 rfl) ?_
        refine lv_ifnull hx hb dX8_sue_53 ?_
        refine lv_aload hx hb dX8_sue_56 (lv_at hl 0 rfl) ?_
        refine lv_iconst (v := (0 : Int32)) hx hb dX8_sue_58 (by decide) ?_
        refine a25 hx hb hK hR ⟨c_47, by decide⟩ (by unfold vp_in; decide) dX8_sue_59 ?_
        refine lv_aload_n hx hb dX8_sue_60 rfl (lv_at hl 2 rfl) ?_
        refine ce_qi (fw := fun u => u) (fy := fun _ => y) (cr_V (n := 0) (As := []) (rest := [.int (gv w_22 25 ((3 * (((((p1).toNatClampNeg)))) + (p2).toNatClampNeg)) ((0 : Int32)).toNatClampNeg), .ref (y.2 20 0)]) ⟨hx, hb, hml, hown, hts⟩ hK hR (m_X8_year hM l0 h) q2359 q2361 qs50 q85 q2362 rfl rfl hd_X8_year ⟨Nat.le_of_ble_eq_true rfl, Nat.le_of_ble_eq_true rfl⟩ (rv hK hR l0 (ci := 11) rfl rfl) rfl rfl hl.1 rfl (lv_room (Nat.le_of_ble_eq_true rfl)) dX8_sue_61 ⟨(Nat.le_of_ble_eq_true rfl), (Nat.le_of_ble_eq_true rfl)⟩) hR hS (fun r_61 w_61 H locs h hR _ hS => ?_)
        refine jn_elim h (fun j80 ej80 h => ?_)
        have Jj80 : ∀ (w80 : Wd) (s0_80 : Int32) (H : Heap) (locs : List Loc) (ls : Array Slot), j80 w80 s0_80 → Rp κ w80 y X [] H → va_S (Af κ) s.heap H locs → lv_has ls 8 [(4, .ref (y.2 25 (3 * (((((p1).toNatClampNeg)))) + (p2).toNatClampNeg))), (3, .ref (y.2 21 ((p1).toNatClampNeg))), (0, .ref (y.2 20 0)), (2, .int (p2))] → W p l e (headSpec (ws_ yX8_sue cX8_sue 8 (Option.some Jvm.ClassFile.FieldType.int)) rm_X8_sue).room s m ([.ref (y.2 20 0), .int (p1), .int (p2)] : List Value).toArray below meth c H locs (0) (0) (MQ below (va_Qi post (fun w t => Rp κ w y X [] t.heap) (Af κ)) ([.ref (y.2 20 0), .int (p1), .int (p2)] : List Value).toArray s 0 0 (Af κ)) (F0 m 80 ls [.int (s0_80), .ref (y.2 20 0)]) := by
          clear h
          intro w80 s0_80 H locs ls h hR hS hl
          subst ej80
          refine lv_iconst (v := (2 : Int32)) hx hb dX8_sue_80 (by decide) ?_
          refine ce_qi (fw := fun u => u) (fy := fun _ => y) (cr_V (n := 2) (As := [.int (s0_80), .int ((2 : Int32))]) (rest := []) ⟨hx, hb, hml, hown, hts⟩ hK hR (m_X8_refuse hM l0 h) q2027 q2029 qs38 q85 q2030 rfl rfl hd_X8_refuse ⟨Nat.le_of_ble_eq_true rfl, Nat.le_of_ble_eq_true rfl⟩ (rv hK hR l0 (ci := 11) rfl rfl) rfl rfl hl.1 rfl (lv_room (Nat.le_of_ble_eq_true rfl)) dX8_sue_81 ⟨(Nat.le_of_ble_eq_true rfl), (Nat.le_of_ble_eq_true rfl)⟩) hR hS (fun r_81 w_81 H locs h hR _ hS => ?_)
          refine lv_if_eq (tgt := 89) hx hb dX8_sue_84 (by decide) (fun c_84 => ?_) (fun c_84 => ?_)
          · have h := h.1 c_84
            refine lv_aload hx hb dX8_sue_89 (lv_at hl 0 rfl) ?_
            refine lv_iconst (v := (5 : Int32)) hx hb dX8_sue_91 (by decide) ?_
            refine lv_iconst (v := (1 : Int32)) hx hb dX8_sue_92 (by decide) ?_
            refine b25 hx hb hK hR hS ⟨c_47, by decide⟩ (by unfold vp_in; decide) dX8_sue_93 (fun H locs w_93 ew_93 hR hS => ?_)
            have h := h w_93 ew_93
            refine lv_aload hx hb dX8_sue_94 (lv_at hl 0 rfl) ?_
            refine lv_iconst (v := (2 : Int32)) hx hb dX8_sue_96 (by decide) ?_
            refine a25 hx hb hK hR ⟨c_47, by decide⟩ (by unfold vp_in; decide) dX8_sue_97 ?_
            refine lv_aload hx hb dX8_sue_98 (lv_at hl 0 rfl) ?_
            refine lv_iconst (v := (3 : Int32)) hx hb dX8_sue_100 (by decide) ?_
            refine a25 hx hb hK hR ⟨c_47, by decide⟩ (by unfold vp_in; decide) dX8_sue_101 ?_
            refine lv_isub hx hb dX8_sue_102 ?_
            refine lv_topi (fun x_103 ex_103 => ?_)
            have h := h x_103 ex_103
            refine lv_istore (lv' := [(5, .int (x_103)), (4, .ref (y.2 25 (3 * (((((p1).toNatClampNeg)))) + (p2).toNatClampNeg))), (3, .ref (y.2 21 ((p1).toNatClampNeg))), (0, .ref (y.2 20 0)), (2, .int (p2))]) hx hb dX8_sue_103 hl (by decide) rfl (fun ls hl => ?_)
            refine lv_iload hx hb dX8_sue_105 (lv_at hl 0 rfl) ?_
            refine lv_if_le (tgt := 128) hx hb dX8_sue_107 (by decide) (fun c_107 => ?_) (fun c_107 => ?_)
            · have h := h.1 c_107
              refine lv_aload_n hx hb dX8_sue_128 rfl (lv_at hl 3 rfl) ?_
              refine lv_dup hx hb dX8_sue_129 rfl ?_
              refine g20_18 hx hb hts hown hK hR l0 q1963 dX8_sue_130 ?_
              refine lv_iconst (v := (1 : Int32)) hx hb dX8_sue_133 (by decide) ?_
              refine lv_iadd hx hb dX8_sue_134 ?_
              refine p20_18 hx hb hts hown hK hR hS l0 q1963 dX8_sue_135 (fun H locs w_135 ew_135 hR hS => ?_)
              have h := h w_135 ew_135
              refine lv_aload_n hx hb dX8_sue_138 rfl (lv_at hl 2 rfl) ?_
              refine lv_iconst (v := (1 : Int32)) hx hb dX8_sue_139 (by decide) ?_
              refine ce_qv (fw := fun u => u) (fy := fun _ => y) (cr_V (n := 1) (As := [.int ((1 : Int32))]) (rest := []) ⟨hx, hb, hml, hown, hts⟩ hK hR (m_X11_anger hM (hM.vil (vp_lt o_35)) h) q2367 q2368 q2369 q99 q2370 rfl rfl hd_X11_anger ⟨Nat.le_of_ble_eq_true rfl, Nat.le_of_ble_eq_true rfl⟩ (rv hK hR (hM.vil (vp_lt o_35)) (ci := 12) rfl rfl) rfl rfl hl.1 rfl (lv_room (Nat.le_of_ble_eq_true rfl)) dX8_sue_140 ⟨(Nat.le_of_ble_eq_true rfl), (Nat.le_of_ble_eq_true rfl)⟩) hR hS (fun w_140 H locs h hR _ hS => ?_)
              refine lv_iconst (v := (0 : Int32)) hx hb dX8_sue_143 (by decide) ?_
              refine W.widen (k := 0) (n := 0) (Nat.le_of_ble_eq_true rfl) (Nat.le_of_ble_eq_true rfl) ?_
              exact W.iret (v := (0 : Int32)) hx hb hr (fun t ht hW9 => ⟨⟨(0 : Int32), w_140, rfl, h, rpt ht hR⟩, hS.F ht⟩) hS.2.2 dX8_sue_144
            · have h := h.2 c_107
              refine lv_aload_n hx hb dX8_sue_110 rfl (lv_at hl 3 rfl) ?_
              refine lv_iload hx hb dX8_sue_111 (lv_at hl 0 rfl) ?_
              refine lv_aload hx hb dX8_sue_113 (lv_at hl 1 rfl) ?_
              refine lv_iconst (v := (3 : Int32)) hx hb dX8_sue_115 (by decide) ?_
              refine a25 hx hb hK hR ⟨c_47, by decide⟩ (by unfold vp_in; decide) dX8_sue_116 ?_
              refine lv_aload_n hx hb dX8_sue_117 rfl (lv_at hl 3 rfl) ?_
              refine g20_20 hx hb hts hown hK hR l0 q1965 dX8_sue_118 ?_
              refine ce_qi (fw := fun u => u) (fy := fun _ => y) (cr_V (n := 3) (As := [.int (x_103), .int (gv w_93 25 ((3 * (((((p1).toNatClampNeg)))) + (p2).toNatClampNeg)) ((3 : Int32)).toNatClampNeg), .int (gv w_93 20 0 20)]) (rest := []) ⟨hx, hb, hml, hown, hts⟩ hK hR (m_X8_votesNow hM l0 h) q2363 q2365 qs51 q85 q2366 rfl rfl hd_X8_votesNow ⟨Nat.le_of_ble_eq_true rfl, Nat.le_of_ble_eq_true rfl⟩ (rv hK hR l0 (ci := 11) rfl rfl) rfl rfl hl.1 rfl (lv_room (Nat.le_of_ble_eq_true rfl)) dX8_sue_121 ⟨(Nat.le_of_ble_eq_true rfl), (Nat.le_of_ble_eq_true rfl)⟩) hR hS (fun r_121 w_121 H locs h hR _ hS => ?_)
              refine lv_iconst (v := (4 : Int32)) hx hb dX8_sue_124 (by decide) ?_
              refine lv_icmp_ge (tgt := 145) hx hb dX8_sue_125 (by decide) (fun c_125 => ?_) (fun c_125 => ?_)
              · have h := h.1 c_125
                refine lv_aload_n hx hb dX8_sue_145 rfl (lv_at hl 3 rfl) ?_
                refine g20_4 hx hb hts hown hK hR l0 q1949 dX8_sue_146 ?_
                refine lv_aload_n hx hb dX8_sue_149 rfl (lv_at hl 3 rfl) ?_
                refine g20_5 hx hb hts hown hK hR l0 q1950 dX8_sue_150 ?_
                refine lv_aload hx hb dX8_sue_153 (lv_at hl 1 rfl) ?_
                refine lv_iconst (v := (4 : Int32)) hx hb dX8_sue_155 (by decide) ?_
                refine a25 hx hb hK hR ⟨c_47, by decide⟩ (by unfold vp_in; decide) dX8_sue_156 ?_
                have o_157 := h.1
                have h := h.2
                refine jr_get (a := y.2 27 ((gv w_121 25 ((3 * (((((p1).toNatClampNeg)))) + (p2).toNatClampNeg)) ((4 : Int32)).toNatClampNeg).toNatClampNeg)) ⟨hx, hb, hml, hown, hts⟩ hK hR ⟨fun _ _ _ _ _ => rfl, fun _ _ _ _ _ => rfl⟩ hM.lsL ⟨hM.arL (Nat.lt_of_le_of_lt (Nat.zero_le _) (vp_lt o_157)), (Nat.le_trans hM.mL8 (by decide))⟩ o_157 (hM.elL (vp_lt o_157)) q2101 ⟨Nat.le_of_ble_eq_true rfl, Nat.le_of_ble_eq_true rfl⟩ hl.1 (Nat.le_of_ble_eq_true rfl) dX8_sue_157 ⟨(Nat.le_of_ble_eq_true rfl), (Nat.le_of_ble_eq_true rfl)⟩ ?_
                refine jr_castS (ci := 14) hx hb hown hK hts (hR.role (hM.lot (vp_lt o_157))) rfl q2253 dX8_sue_160 ?_
                refine g27_5 hx hb hts hown hK hR (hM.lot (vp_lt o_157)) q2266 dX8_sue_163 ?_
                have o_166 := h.1
                have h := h.2
                refine jr_get (a := y.2 26 ((gv w_121 27 (((gv w_121 25 ((3 * (((((p1).toNatClampNeg)))) + (p2).toNatClampNeg)) ((4 : Int32)).toNatClampNeg).toNatClampNeg)) 5).toNatClampNeg)) ⟨hx, hb, hml, hown, hts⟩ hK hR ⟨fun _ _ _ _ _ => rfl, fun _ _ _ _ _ => rfl⟩ hM.lsC ⟨hM.arC (Nat.lt_of_le_of_lt (Nat.zero_le _) (vp_lt o_166)), (Nat.le_trans hM.mC4 (by decide))⟩ o_166 (hM.elC (vp_lt o_166)) q2101 ⟨Nat.le_of_ble_eq_true rfl, Nat.le_of_ble_eq_true rfl⟩ hl.1 (Nat.le_of_ble_eq_true rfl) dX8_sue_166 ⟨(Nat.le_of_ble_eq_true rfl), (Nat.le_of_ble_eq_true rfl)⟩ ?_
                refine jr_castS (ci := 13) hx hb hown hK hts (hR.role (hM.com (vp_lt o_166))) rfl q2141 dX8_sue_169 ?_
                refine lv_astore (lv' := [(6, .ref (y.2 26 ((gv w_121 27 (((gv w_121 25 ((3 * (((((p1).toNatClampNeg)))) + (p2).toNatClampNeg)) ((4 : Int32)).toNatClampNeg).toNatClampNeg)) 5).toNatClampNeg))), (5, .int (x_103)), (4, .ref (y.2 25 (3 * (((((p1).toNatClampNeg)))) + (p2).toNatClampNeg))), (3, .ref (y.2 21 ((p1).toNatClampNeg))), (0, .ref (y.2 20 0)), (2, .int (p2))]) hx hb dX8_sue_172 hl (by decide) rfl (fun ls hl => ?_)
                refine lv_aload hx hb dX8_sue_174 (lv_at hl 0 rfl) ?_
                refine g26_6 hx hb hts hown hK hR (hM.com (vp_lt o_166)) q2155 dX8_sue_176 ?_
                refine lv_bipush (v := (50 : Int32)) hx hb dX8_sue_179 (by decide) ?_
                refine lv_icmp_lt (tgt := 218) hx hb dX8_sue_181 (by decide) (fun c_181 => ?_) (fun c_181 => ?_)
                · have h := h.1 c_181
                  refine lv_aload hx hb dX8_sue_218 (lv_at hl 0 rfl) ?_
                  refine g26_1 hx hb hts hown hK hR (hM.com (vp_lt o_166)) q2150 dX8_sue_220 ?_
                  refine lv_iload_n hx hb dX8_sue_223 rfl (lv_at hl 5 rfl) ?_
                  refine jn_elim h (fun j238 ej238 h => ?_)
                  have Jj238 : ∀ (w238 : Wd) (s0_238 : Int32) (s1_238 : Int32) (H : Heap) (locs : List Loc) (ls : Array Slot), j238 w238 s0_238 s1_238 → Rp κ w238 y X [] H → va_S (Af κ) s.heap H locs → lv_has ls 8 [(6, .ref (y.2 26 ((gv w_121 27 (((gv w_121 25 ((3 * (((((p1).toNatClampNeg)))) + (p2).toNatClampNeg)) ((4 : Int32)).toNatClampNeg).toNatClampNeg)) 5).toNatClampNeg))), (3, .ref (y.2 21 ((p1).toNatClampNeg))), (0, .ref (y.2 20 0))] → W p l e (headSpec (ws_ yX8_sue cX8_sue 8 (Option.some Jvm.ClassFile.FieldType.int)) rm_X8_sue).room s m ([.ref (y.2 20 0), .int (p1), .int (p2)] : List Value).toArray below meth c H locs (0) (0) (MQ below (va_Qi post (fun w t => Rp κ w y X [] t.heap) (Af κ)) ([.ref (y.2 20 0), .int (p1), .int (p2)] : List Value).toArray s 0 0 (Af κ)) (F0 m 238 ls [.int (s0_238), .int (s1_238)]) := by
                    clear h
                    intro w238 s0_238 s1_238 H locs ls h hR hS hl
                    subst ej238
                    refine va_mmin hx hb (hml.trans hl.1.symm) hown (hts _ q2113) (hts _ q322) (hts _ q95) (hts _ q323) (Nat.le_of_ble_eq_true rfl) (Nat.le_of_ble_eq_true rfl) (Nat.le_of_ble_eq_true rfl) (Nat.le_of_ble_eq_true rfl) dX8_sue_238 ?_
                    refine lv_topi (fun x_241 ex_241 => ?_)
                    have h := h x_241 ex_241
                    refine lv_istore (lv' := [(7, .int (x_241)), (6, .ref (y.2 26 ((gv w_121 27 (((gv w_121 25 ((3 * (((((p1).toNatClampNeg)))) + (p2).toNatClampNeg)) ((4 : Int32)).toNatClampNeg).toNatClampNeg)) 5).toNatClampNeg))), (3, .ref (y.2 21 ((p1).toNatClampNeg))), (0, .ref (y.2 20 0))]) hx hb dX8_sue_241 hl (by decide) rfl (fun ls hl => ?_)
                    refine lv_aload hx hb dX8_sue_243 (lv_at hl 1 rfl) ?_
                    refine lv_dup hx hb dX8_sue_245 rfl ?_
                    refine g26_1 hx hb hts hown hK hR (hM.com (vp_lt o_166)) q2150 dX8_sue_246 ?_
                    refine lv_iload hx hb dX8_sue_249 (lv_at hl 0 rfl) ?_
                    refine lv_isub hx hb dX8_sue_251 ?_
                    refine p26_1 hx hb hts hown hK hR hS (hM.com (vp_lt o_166)) q2150 dX8_sue_252 (fun H locs w_252 ew_252 hR hS => ?_)
                    have h := h w_252 ew_252
                    refine lv_aload_n hx hb dX8_sue_255 rfl (lv_at hl 2 rfl) ?_
                    refine lv_dup hx hb dX8_sue_256 rfl ?_
                    refine g21_5 hx hb hts hown hK hR (hM.vil (vp_lt o_35)) q2045 dX8_sue_257 ?_
                    refine lv_iload hx hb dX8_sue_260 (lv_at hl 0 rfl) ?_
                    refine lv_iadd hx hb dX8_sue_262 ?_
                    refine p21_5 hx hb hts hown hK hR hS (hM.vil (vp_lt o_35)) q2045 dX8_sue_263 (fun H locs w_263 ew_263 hR hS => ?_)
                    have h := h w_263 ew_263
                    refine lv_aload_n hx hb dX8_sue_266 rfl (lv_at hl 2 rfl) ?_
                    refine lv_bipush (v := (-2 : Int32)) hx hb dX8_sue_267 (by decide) ?_
                    refine ce_qv (fw := fun u => u) (fy := fun _ => y) (cr_V (n := 1) (As := [.int ((-2 : Int32))]) (rest := []) ⟨hx, hb, hml, hown, hts⟩ hK hR (m_X11_anger hM (hM.vil (vp_lt o_35)) h) q2367 q2368 q2369 q99 q2370 rfl rfl hd_X11_anger ⟨Nat.le_of_ble_eq_true rfl, Nat.le_of_ble_eq_true rfl⟩ (rv hK hR (hM.vil (vp_lt o_35)) (ci := 12) rfl rfl) rfl rfl hl.1 rfl (lv_room (Nat.le_of_ble_eq_true rfl)) dX8_sue_269 ⟨(Nat.le_of_ble_eq_true rfl), (Nat.le_of_ble_eq_true rfl)⟩) hR hS (fun w_269 H locs h hR _ hS => ?_)
                    refine lv_aload_n hx hb dX8_sue_272 rfl (lv_at hl 3 rfl) ?_
                    refine lv_dup hx hb dX8_sue_273 rfl ?_
                    refine g20_17 hx hb hts hown hK hR l0 q1962 dX8_sue_274 ?_
                    refine lv_iconst (v := (1 : Int32)) hx hb dX8_sue_277 (by decide) ?_
                    refine lv_iadd hx hb dX8_sue_278 ?_
                    refine p20_17 hx hb hts hown hK hR hS l0 q1962 dX8_sue_279 (fun H locs w_279 ew_279 hR hS => ?_)
                    have h := h w_279 ew_279
                    refine lv_iconst (v := (1 : Int32)) hx hb dX8_sue_282 (by decide) ?_
                    refine W.widen (k := 0) (n := 0) (Nat.le_of_ble_eq_true rfl) (Nat.le_of_ble_eq_true rfl) ?_
                    exact W.iret (v := (1 : Int32)) hx hb hr (fun t ht hW9 => ⟨⟨(1 : Int32), w_279, rfl, h, rpt ht hR⟩, hS.F ht⟩) hS.2.2 dX8_sue_283
                  refine lv_if_ne (tgt := 234) hx hb dX8_sue_224 (by decide) (fun c_224 => ?_) (fun c_224 => ?_)
                  · have h := h.1 c_224
                    refine lv_iconst (v := (2 : Int32)) hx hb dX8_sue_234 (by decide) ?_
                    refine lv_iload hx hb dX8_sue_235 (lv_at hl 1 rfl) ?_
                    refine lv_imul hx hb dX8_sue_237 ?_
                    refine W.widen (k := 0) (n := 0) (Nat.le_of_ble_eq_true rfl) (Nat.le_of_ble_eq_true rfl) ?_
                    exact Jj238 w_121 ((2 : Int32) * x_103) (gv w_121 26 (((gv w_121 27 (((gv w_121 25 ((3 * (((((p1).toNatClampNeg)))) + (p2).toNatClampNeg)) ((4 : Int32)).toNatClampNeg).toNatClampNeg)) 5).toNatClampNeg)) 1) _ _ _ h hR hS (lv_sub hl [0, 3, 4] rfl)
                  · have h := h.2 c_224
                    refine lv_iconst (v := (4 : Int32)) hx hb dX8_sue_227 (by decide) ?_
                    refine lv_iload hx hb dX8_sue_228 (lv_at hl 1 rfl) ?_
                    refine lv_imul hx hb dX8_sue_230 ?_
                    refine lv_goto (tgt := 238) hx hb dX8_sue_231 (by decide) ?_
                    refine W.widen (k := 0) (n := 0) (Nat.le_of_ble_eq_true rfl) (Nat.le_of_ble_eq_true rfl) ?_
                    exact Jj238 w_121 ((4 : Int32) * x_103) (gv w_121 26 (((gv w_121 27 (((gv w_121 25 ((3 * (((((p1).toNatClampNeg)))) + (p2).toNatClampNeg)) ((4 : Int32)).toNatClampNeg).toNatClampNeg)) 5).toNatClampNeg)) 1) _ _ _ h hR hS (lv_sub hl [0, 3, 4] rfl)
                · have h := h.2 c_181
                  refine lv_aload hx hb dX8_sue_184 (lv_at hl 0 rfl) ?_
                  refine lv_dup hx hb dX8_sue_186 rfl ?_
                  refine g26_6 hx hb hts hown hK hR (hM.com (vp_lt o_166)) q2155 dX8_sue_187 ?_
                  refine lv_bipush (v := (50 : Int32)) hx hb dX8_sue_190 (by decide) ?_
                  refine lv_isub hx hb dX8_sue_192 ?_
                  refine p26_6 hx hb hts hown hK hR hS (hM.com (vp_lt o_166)) q2155 dX8_sue_193 (fun H locs w_193 ew_193 hR hS => ?_)
                  have h := h w_193 ew_193
                  refine lv_aload_n hx hb dX8_sue_196 rfl (lv_at hl 4 rfl) ?_
                  refine lv_dup hx hb dX8_sue_197 rfl ?_
                  refine g20_16 hx hb hts hown hK hR l0 q1961 dX8_sue_198 ?_
                  refine lv_iconst (v := (1 : Int32)) hx hb dX8_sue_201 (by decide) ?_
                  refine lv_iadd hx hb dX8_sue_202 ?_
                  refine p20_16 hx hb hts hown hK hR hS l0 q1961 dX8_sue_203 (fun H locs w_203 ew_203 hR hS => ?_)
                  have h := h w_203 ew_203
                  refine lv_aload_n hx hb dX8_sue_206 rfl (lv_at hl 4 rfl) ?_
                  refine lv_dup hx hb dX8_sue_207 rfl ?_
                  refine g20_19 hx hb hts hown hK hR l0 q1964 dX8_sue_208 ?_
                  refine lv_iconst (v := (1 : Int32)) hx hb dX8_sue_211 (by decide) ?_
                  refine lv_iadd hx hb dX8_sue_212 ?_
                  refine p20_19 hx hb hts hown hK hR hS l0 q1964 dX8_sue_213 (fun H locs w_213 ew_213 hR hS => ?_)
                  have h := h w_213 ew_213
                  refine lv_iconst (v := (2 : Int32)) hx hb dX8_sue_216 (by decide) ?_
                  refine W.widen (k := 0) (n := 0) (Nat.le_of_ble_eq_true rfl) (Nat.le_of_ble_eq_true rfl) ?_
                  exact W.iret (v := (2 : Int32)) hx hb hr (fun t ht hW9 => ⟨⟨(2 : Int32), w_213, rfl, h, rpt ht hR⟩, hS.F ht⟩) hS.2.2 dX8_sue_217
              · have h := h.2 c_125
                refine lv_aload_n hx hb dX8_sue_128 rfl (lv_at hl 3 rfl) ?_
                refine lv_dup hx hb dX8_sue_129 rfl ?_
                refine g20_18 hx hb hts hown hK hR l0 q1963 dX8_sue_130 ?_
                refine lv_iconst (v := (1 : Int32)) hx hb dX8_sue_133 (by decide) ?_
                refine lv_iadd hx hb dX8_sue_134 ?_
                refine p20_18 hx hb hts hown hK hR hS l0 q1963 dX8_sue_135 (fun H locs w_135_a ew_135_a hR hS => ?_)
                have h := h w_135_a ew_135_a
                refine lv_aload_n hx hb dX8_sue_138 rfl (lv_at hl 2 rfl) ?_
                refine lv_iconst (v := (1 : Int32)) hx hb dX8_sue_139 (by decide) ?_
                refine ce_qv (fw := fun u => u) (fy := fun _ => y) (cr_V (n := 1) (As := [.int ((1 : Int32))]) (rest := []) ⟨hx, hb, hml, hown, hts⟩ hK hR (m_X11_anger hM (hM.vil (vp_lt o_35)) h) q2367 q2368 q2369 q99 q2370 rfl rfl hd_X11_anger ⟨Nat.le_of_ble_eq_true rfl, Nat.le_of_ble_eq_true rfl⟩ (rv hK hR (hM.vil (vp_lt o_35)) (ci := 12) rfl rfl) rfl rfl hl.1 rfl (lv_room (Nat.le_of_ble_eq_true rfl)) dX8_sue_140 ⟨(Nat.le_of_ble_eq_true rfl), (Nat.le_of_ble_eq_true rfl)⟩) hR hS (fun w_140_a H locs h hR _ hS => ?_)
                refine lv_iconst (v := (0 : Int32)) hx hb dX8_sue_143 (by decide) ?_
                refine W.widen (k := 0) (n := 0) (Nat.le_of_ble_eq_true rfl) (Nat.le_of_ble_eq_true rfl) ?_
                exact W.iret (v := (0 : Int32)) hx hb hr (fun t ht hW9 => ⟨⟨(0 : Int32), w_140_a, rfl, h, rpt ht hR⟩, hS.F ht⟩) hS.2.2 dX8_sue_144
          · have h := h.2 c_84
            refine lv_iconst (v := (0 : Int32)) hx hb dX8_sue_87 (by decide) ?_
            refine W.widen (k := 0) (n := 0) (Nat.le_of_ble_eq_true rfl) (Nat.le_of_ble_eq_true rfl) ?_
            exact W.iret (v := (0 : Int32)) hx hb hr (fun t ht hW9 => ⟨⟨(0 : Int32), w_81, rfl, h, rpt ht hR⟩, hS.F ht⟩) hS.2.2 dX8_sue_88
        refine lv_icmp_ne (tgt := 75) hx hb dX8_sue_64 (by decide) (fun c_64 => ?_) (fun c_64 => ?_)
        · have h := h.1 c_64
          refine lv_iconst (v := (1 : Int32)) hx hb dX8_sue_75 (by decide) ?_
          refine lv_goto (tgt := 80) hx hb dX8_sue_76 (by decide) ?_
          refine W.widen (k := 0) (n := 0) (Nat.le_of_ble_eq_true rfl) (Nat.le_of_ble_eq_true rfl) ?_
          exact Jj80 w_61 (1 : Int32) _ _ _ h hR hS (lv_sub hl [0, 1, 2, 4] rfl)
        · have h := h.2 c_64
          refine lv_aload hx hb dX8_sue_67 (lv_at hl 0 rfl) ?_
          refine lv_iconst (v := (5 : Int32)) hx hb dX8_sue_69 (by decide) ?_
          refine a25 hx hb hK hR ⟨c_47, by decide⟩ (by unfold vp_in; decide) dX8_sue_70 ?_
          refine lv_iconst (v := (1 : Int32)) hx hb dX8_sue_71 (by decide) ?_
          refine lv_icmp_ne (tgt := 79) hx hb dX8_sue_72 (by decide) (fun c_72 => ?_) (fun c_72 => ?_)
          · have h := h.1 c_72
            refine lv_iconst (v := (0 : Int32)) hx hb dX8_sue_79 (by decide) ?_
            refine W.widen (k := 0) (n := 0) (Nat.le_of_ble_eq_true rfl) (Nat.le_of_ble_eq_true rfl) ?_
            exact Jj80 w_61 (0 : Int32) _ _ _ h hR hS (lv_sub hl [0, 1, 2, 4] rfl)
          · have h := h.2 c_72
            refine lv_iconst (v := (1 : Int32)) hx hb dX8_sue_75 (by decide) ?_
            refine lv_goto (tgt := 80) hx hb dX8_sue_76 (by decide) ?_
            refine W.widen (k := 0) (n := 0) (Nat.le_of_ble_eq_true rfl) (Nat.le_of_ble_eq_true rfl) ?_
            exact Jj80 w_61 (1 : Int32) _ _ _ h hR hS (lv_sub hl [0, 1, 2, 4] rfl)
      · have h := h.2 c_47
        refine lv_astoreN (lv' := [(4, .null), (3, .ref (y.2 21 ((p1).toNatClampNeg))), (0, .ref (y.2 20 0)), (1, .int (p1)), (2, .int (p2))]) hx hb dX8_sue_48 hl (by decide) rfl (fun ls hl => ?_)
        refine lv_aload_n hx hb dX8_sue_50 rfl (lv_at hl 2 rfl) ?_
        refine lv_aloadN hx hb dX8_sue_51 (lv_at hl 0 rfl) ?_
        refine lv_ifnullN (tgt := 75) hx hb dX8_sue_53 (by decide) ?_
        refine lv_iconst (v := (1 : Int32)) hx hb dX8_sue_75 (by decide) ?_
        refine lv_goto (tgt := 80) hx hb dX8_sue_76 (by decide) ?_
        refine lv_iconst (v := (2 : Int32)) hx hb dX8_sue_80 (by decide) ?_
        refine ce_qi (fw := fun u => u) (fy := fun _ => y) (cr_V (n := 2) (As := [.int ((1 : Int32)), .int ((2 : Int32))]) (rest := []) ⟨hx, hb, hml, hown, hts⟩ hK hR (m_X8_refuse hM l0 h) q2027 q2029 qs38 q85 q2030 rfl rfl hd_X8_refuse ⟨Nat.le_of_ble_eq_true rfl, Nat.le_of_ble_eq_true rfl⟩ (rv hK hR l0 (ci := 11) rfl rfl) rfl rfl hl.1 rfl (lv_room (Nat.le_of_ble_eq_true rfl)) dX8_sue_81 ⟨(Nat.le_of_ble_eq_true rfl), (Nat.le_of_ble_eq_true rfl)⟩) hR hS (fun r_81_a w_81_a H locs h hR _ hS => ?_)
        refine lv_if_eq (tgt := 89) hx hb dX8_sue_84 (by decide) (fun c_84_a => ?_) (fun c_84_a => ?_)
        · have h := h.1 c_84_a
          refine lv_aloadN hx hb dX8_sue_89 (lv_at hl 0 rfl) ?_
          refine lv_iconst (v := (5 : Int32)) hx hb dX8_sue_91 (by decide) ?_
          refine lv_iconst (v := (1 : Int32)) hx hb dX8_sue_92 (by decide) ?_
          exact h.elim
        · have h := h.2 c_84_a
          refine lv_iconst (v := (0 : Int32)) hx hb dX8_sue_87 (by decide) ?_
          refine W.widen (k := 0) (n := 0) (Nat.le_of_ble_eq_true rfl) (Nat.le_of_ble_eq_true rfl) ?_
          exact W.iret (v := (0 : Int32)) hx hb hr (fun t ht hW9 => ⟨⟨(0 : Int32), w_81_a, rfl, h, rpt ht hR⟩, hS.F ht⟩) hS.2.2 dX8_sue_88
    · have h := h.2 c_25
      refine lv_iconst (v := (0 : Int32)) hx hb dX8_sue_28 (by decide) ?_
      refine W.widen (k := 0) (n := 0) (Nat.le_of_ble_eq_true rfl) (Nat.le_of_ble_eq_true rfl) ?_
      exact W.iret (v := (0 : Int32)) hx hb hr (fun t ht hW9 => ⟨⟨(0 : Int32), w_22, rfl, h, rpt ht hR⟩, hS.F ht⟩) hS.2.2 dX8_sue_29
  refine lv_if_ne (tgt := 16) hx hb dX8_sue_6 (by decide) (fun c_6 => ?_) (fun c_6 => ?_)
  · have h := h.1 c_6
    refine lv_iconst (v := (1 : Int32)) hx hb dX8_sue_16 (by decide) ?_
    refine lv_goto (tgt := 21) hx hb dX8_sue_17 (by decide) ?_
    refine W.widen (k := 0) (n := 0) (Nat.le_of_ble_eq_true rfl) (Nat.le_of_ble_eq_true rfl) ?_
    exact Jj21 w_3 (1 : Int32) _ _ _ h hR hS (lv_sub hl [0, 1, 2] rfl)
  · have h := h.2 c_6
    refine lv_iload_n hx hb dX8_sue_9 rfl (lv_at hl 2 rfl) ?_
    refine ce_qi (fw := fun u => u) (fy := fun _ => y) (cr_S (n := 1) (As := [.int (p2)]) (rest := [.ref (y.2 20 0)]) ⟨hx, hb, hml, hown, hts⟩ hK hR (m_X8_isNoDuty hM h) q2130 q2131 q85 q2132 rfl rfl hds_X8_isNoDuty ⟨Nat.le_of_ble_eq_true rfl, Nat.le_of_ble_eq_true rfl⟩ rfl rfl hl.1 rfl (lv_room (Nat.le_of_ble_eq_true rfl)) dX8_sue_10 ⟨(Nat.le_of_ble_eq_true rfl), (Nat.le_of_ble_eq_true rfl)⟩) hR hS (fun r_10 w_10 H locs h hR _ hS => ?_)
    refine lv_if_eq (tgt := 20) hx hb dX8_sue_13 (by decide) (fun c_13 => ?_) (fun c_13 => ?_)
    · have h := h.1 c_13
      refine lv_iconst (v := (0 : Int32)) hx hb dX8_sue_20 (by decide) ?_
      refine W.widen (k := 0) (n := 0) (Nat.le_of_ble_eq_true rfl) (Nat.le_of_ble_eq_true rfl) ?_
      exact Jj21 w_10 (0 : Int32) _ _ _ h hR hS (lv_sub hl [0, 1, 2] rfl)
    · have h := h.2 c_13
      refine lv_iconst (v := (1 : Int32)) hx hb dX8_sue_16 (by decide) ?_
      refine lv_goto (tgt := 21) hx hb dX8_sue_17 (by decide) ?_
      refine W.widen (k := 0) (n := 0) (Nat.le_of_ble_eq_true rfl) (Nat.le_of_ble_eq_true rfl) ?_
      exact Jj21 w_10 (1 : Int32) _ _ _ h hR hS (lv_sub hl [0, 1, 2] rfl)
abbrev rm_X8_bench : Room := { frames := 2, cells := 0, slots := 0, locals := 44 }
def sp_X8_bench (κ : Kx) (y : Ly) (post : Int32 → Wd → Prop) (w : Wd) (p1 : Int32) : Prop := sp_X8_isIn κ y (fun r_5 w_5 => ((¬ r_5 = 0) → (sp_X8_start κ y (fun r_17 w_17 => ((r_17 = 0) → (∀ x_29 : Int32, x_29 = gv w_17 20 0 20 → ∀ w_32 : Wd, w_32 = sv w_17 20 0 20 (p1) → post (x_29) w_32)) ∧ ((¬ (r_17 = 0)) → (post ((0 : Int32)) w_17))) w_5 (0 : Int32) (1 : Int32))) ∧ ((r_5 = 0) → (sp_X8_start κ y (fun r_17_a w_17_a => ((r_17_a = 0) → (∀ x_29_a : Int32, x_29_a = gv w_17_a 20 0 20 → ∀ w_32_a : Wd, w_32_a = sv w_17_a 20 0 20 (p1) → post (x_29_a) w_32_a)) ∧ ((¬ (r_17_a = 0)) → (post ((0 : Int32)) w_17_a))) w_5 (1 : Int32) (1 : Int32)))) w p1 (0 : Int32) (7 : Int32)
theorem hd_X8_bench : yX8_bench.cls = RX8 ∧ yX8_bench.cls ≠ "java/lang/invoke/MethodHandle" ∧ yX8_bench.cls ≠ "java/lang/invoke/VarHandle" ∧ (parseMethodDescriptor yX8_bench.desc).map (fun d => d.parameters.length) = some 1 := by decide +kernel
set_option maxHeartbeats 4000000 in
theorem m_X8_bench {l : Launch} {κ : Kx} {y : Ly} {X : XR} {post : Int32 → Wd → Prop} {w : Wd} {p1 : Int32}  (hM : WFm κ y) (l0 : live y 20 0) (h : sp_X8_bench κ y post w p1) : Met l yX8_bench (ws_ yX8_bench cX8_bench 3 (Option.some Jvm.ClassFile.FieldType.int)) rm_X8_bench (va_Pc [.ref (y.2 20 0), .int (p1)] (RC κ w y X)) (va_Qi post (fun w t => Rp κ w y X [] t.heap) (Af κ)) 0 0 (Af κ) := by
  unfold sp_X8_bench at h
  refine Met.ofW (cc := cX8_bench) (maxL := 3) (ret := (Option.some Jvm.ClassFile.FieldType.int)) (by decide) rfl ?_
  intro p e s m args below meth c s₁ B hml hv
  obtain ⟨rfl, hR, hK⟩ := hv
  have hx := B.exec
  have hb := B.bytes
  have hr := B.returns
  have hts := atoms_spec (ws := ws_ yX8_bench cX8_bench 3 (Option.some Jvm.ClassFile.FieldType.int)) B.pre
  have hts : ∀ w ∈ lw_all, w.before _ s = true := fun w h => hts w (List.mem_cons_of_mem _ h)
  have hown : s.vm.findClass RX8 = some m.cls := findClass_of_methodNamed B.named
  have hlocks := B.notSynchronized
  have hS : va_S (Af κ) s.heap s.heap [] := va_S.rf
  have hl := lv_entry ([.ref (y.2 20 0), .int (p1)]) (n := 3) (Nat.le_of_ble_eq_true rfl)
  rw [lg_entry_eq]
  generalize (lg_sl ([.ref (y.2 20 0), .int (p1)]) ++ List.replicate (3 - (lg_sl ([.ref (y.2 20 0), .int (p1)])).length) Slot.unset).toArray = ls at hl ⊢
  have hl : lv_has ls 3 [(0, .ref (y.2 20 0)), (1, .int (p1))] := hl
  refine lv_aload_n hx hb dX8_bench_0 rfl (lv_at hl 0 rfl) ?_
  refine lv_iload_n hx hb dX8_bench_1 rfl (lv_at hl 1 rfl) ?_
  refine lv_iconst (v := (0 : Int32)) hx hb dX8_bench_2 (by decide) ?_
  refine lv_bipush (v := (7 : Int32)) hx hb dX8_bench_3 (by decide) ?_
  refine ce_qi (fw := fun u => u) (fy := fun _ => y) (cr_S (n := 3) (As := [.int (p1), .int ((0 : Int32)), .int ((7 : Int32))]) (rest := [.ref (y.2 20 0)]) ⟨hx, hb, hml, hown, hts⟩ hK hR (m_X8_isIn hM h) q2020 q2021 q85 q2022 rfl rfl hds_X8_isIn ⟨Nat.le_of_ble_eq_true rfl, Nat.le_of_ble_eq_true rfl⟩ rfl rfl hl.1 rfl (lv_room (Nat.le_of_ble_eq_true rfl)) dX8_bench_5 ⟨(Nat.le_of_ble_eq_true rfl), (Nat.le_of_ble_eq_true rfl)⟩) hR hS (fun r_5 w_5 H locs h hR _ hS => ?_)
  refine lv_if_ne (tgt := 15) hx hb dX8_bench_8 (by decide) (fun c_8 => ?_) (fun c_8 => ?_)
  · have h := h.1 c_8
    refine lv_iconst (v := (0 : Int32)) hx hb dX8_bench_15 (by decide) ?_
    refine lv_iconst (v := (1 : Int32)) hx hb dX8_bench_16 (by decide) ?_
    refine ce_qi (fw := fun u => u) (fy := fun _ => y) (cr_V (n := 2) (As := [.int ((0 : Int32)), .int ((1 : Int32))]) (rest := []) ⟨hx, hb, hml, hown, hts⟩ hK hR (m_X8_start hM l0 h) q2023 q2025 qs37 q85 q2026 rfl rfl hd_X8_start ⟨Nat.le_of_ble_eq_true rfl, Nat.le_of_ble_eq_true rfl⟩ (rv hK hR l0 (ci := 11) rfl rfl) rfl rfl hl.1 rfl (lv_room (Nat.le_of_ble_eq_true rfl)) dX8_bench_17 ⟨(Nat.le_of_ble_eq_true rfl), (Nat.le_of_ble_eq_true rfl)⟩) hR hS (fun r_17 w_17 H locs h hR _ hS => ?_)
    refine lv_if_eq (tgt := 25) hx hb dX8_bench_20 (by decide) (fun c_20 => ?_) (fun c_20 => ?_)
    · have h := h.1 c_20
      refine lv_aload_n hx hb dX8_bench_25 rfl (lv_at hl 0 rfl) ?_
      refine g20_20 hx hb hts hown hK hR l0 q1965 dX8_bench_26 ?_
      refine lv_topi (fun x_29 ex_29 => ?_)
      have h := h x_29 ex_29
      refine lv_istore_n (lv' := [(2, .int (x_29)), (0, .ref (y.2 20 0)), (1, .int (p1))]) hx hb dX8_bench_29 rfl hl (by decide) rfl (fun ls hl => ?_)
      refine lv_aload_n hx hb dX8_bench_30 rfl (lv_at hl 1 rfl) ?_
      refine lv_iload_n hx hb dX8_bench_31 rfl (lv_at hl 2 rfl) ?_
      refine p20_20 hx hb hts hown hK hR hS l0 q1965 dX8_bench_32 (fun H locs w_32 ew_32 hR hS => ?_)
      have h := h w_32 ew_32
      refine lv_iload_n hx hb dX8_bench_35 rfl (lv_at hl 0 rfl) ?_
      refine W.widen (k := 0) (n := 0) (Nat.le_of_ble_eq_true rfl) (Nat.le_of_ble_eq_true rfl) ?_
      exact W.iret (v := x_29) hx hb hr (fun t ht hW9 => ⟨⟨x_29, w_32, rfl, h, rpt ht hR⟩, hS.F ht⟩) hS.2.2 dX8_bench_36
    · have h := h.2 c_20
      refine lv_iconst (v := (0 : Int32)) hx hb dX8_bench_23 (by decide) ?_
      refine W.widen (k := 0) (n := 0) (Nat.le_of_ble_eq_true rfl) (Nat.le_of_ble_eq_true rfl) ?_
      exact W.iret (v := (0 : Int32)) hx hb hr (fun t ht hW9 => ⟨⟨(0 : Int32), w_17, rfl, h, rpt ht hR⟩, hS.F ht⟩) hS.2.2 dX8_bench_24
  · have h := h.2 c_8
    refine lv_iconst (v := (1 : Int32)) hx hb dX8_bench_11 (by decide) ?_
    refine lv_goto (tgt := 16) hx hb dX8_bench_12 (by decide) ?_
    refine lv_iconst (v := (1 : Int32)) hx hb dX8_bench_16 (by decide) ?_
    refine ce_qi (fw := fun u => u) (fy := fun _ => y) (cr_V (n := 2) (As := [.int ((1 : Int32)), .int ((1 : Int32))]) (rest := []) ⟨hx, hb, hml, hown, hts⟩ hK hR (m_X8_start hM l0 h) q2023 q2025 qs37 q85 q2026 rfl rfl hd_X8_start ⟨Nat.le_of_ble_eq_true rfl, Nat.le_of_ble_eq_true rfl⟩ (rv hK hR l0 (ci := 11) rfl rfl) rfl rfl hl.1 rfl (lv_room (Nat.le_of_ble_eq_true rfl)) dX8_bench_17 ⟨(Nat.le_of_ble_eq_true rfl), (Nat.le_of_ble_eq_true rfl)⟩) hR hS (fun r_17_a w_17_a H locs h hR _ hS => ?_)
    refine lv_if_eq (tgt := 25) hx hb dX8_bench_20 (by decide) (fun c_20_a => ?_) (fun c_20_a => ?_)
    · have h := h.1 c_20_a
      refine lv_aload_n hx hb dX8_bench_25 rfl (lv_at hl 0 rfl) ?_
      refine g20_20 hx hb hts hown hK hR l0 q1965 dX8_bench_26 ?_
      refine lv_topi (fun x_29_a ex_29_a => ?_)
      have h := h x_29_a ex_29_a
      refine lv_istore_n (lv' := [(2, .int (x_29_a)), (0, .ref (y.2 20 0)), (1, .int (p1))]) hx hb dX8_bench_29 rfl hl (by decide) rfl (fun ls hl => ?_)
      refine lv_aload_n hx hb dX8_bench_30 rfl (lv_at hl 1 rfl) ?_
      refine lv_iload_n hx hb dX8_bench_31 rfl (lv_at hl 2 rfl) ?_
      refine p20_20 hx hb hts hown hK hR hS l0 q1965 dX8_bench_32 (fun H locs w_32_a ew_32_a hR hS => ?_)
      have h := h w_32_a ew_32_a
      refine lv_iload_n hx hb dX8_bench_35 rfl (lv_at hl 0 rfl) ?_
      refine W.widen (k := 0) (n := 0) (Nat.le_of_ble_eq_true rfl) (Nat.le_of_ble_eq_true rfl) ?_
      exact W.iret (v := x_29_a) hx hb hr (fun t ht hW9 => ⟨⟨x_29_a, w_32_a, rfl, h, rpt ht hR⟩, hS.F ht⟩) hS.2.2 dX8_bench_36
    · have h := h.2 c_20_a
      refine lv_iconst (v := (0 : Int32)) hx hb dX8_bench_23 (by decide) ?_
      refine W.widen (k := 0) (n := 0) (Nat.le_of_ble_eq_true rfl) (Nat.le_of_ble_eq_true rfl) ?_
      exact W.iret (v := (0 : Int32)) hx hb hr (fun t ht hW9 => ⟨⟨(0 : Int32), w_17_a, rfl, h, rpt ht hR⟩, hS.F ht⟩) hS.2.2 dX8_bench_24
abbrev rm_X8_gift : Room := { frames := 3, cells := 0, slots := 0, locals := 93 }
def sp_X8_gift (κ : Kx) (y : Ly) (post : Int32 → Wd → Prop) (w : Wd) (p1 : Int32) (p2 : Int32) : Prop := sp_X8_isNoCompany κ y (fun r_3 w_3 => sp_X8_start κ y (fun r_7 w_7 => ((¬ r_7 = 0) → (post ((0 : Int32)) w_7)) ∧ ((r_7 = 0) → (sp_X8_isIn κ y (fun r_19 w_19 => ((¬ r_19 = 0) → (sp_X8_refuse κ y (fun r_31 w_31 => ((¬ r_31 = 0) → (post ((0 : Int32)) w_31)) ∧ ((r_31 = 0) → ((vp_in (p1) (mC y)) ∧ (((p2 ≤ gv w_31 26 (((p1).toNatClampNeg)) 1) → (sp_X8_refuse κ y (fun r_62 w_62 => ((r_62 = 0) → ((vp_in (p1) (mC y)) ∧ (∀ w_89 : Wd, w_89 = sv w_62 26 (((p1).toNatClampNeg)) 1 ((gv w_62 26 (((p1).toNatClampNeg)) 1) - p2) → ∀ w_99 : Wd, w_99 = sv w_89 20 0 14 ((gv w_89 20 0 14) + p2) → ∀ w_109 : Wd, w_109 = sv w_99 26 (((p1).toNatClampNeg)) 6 ((gv w_99 26 (((p1).toNatClampNeg)) 6) + p2) → post (gv w_109 26 (((p1).toNatClampNeg)) 6) w_109))) ∧ ((¬ (r_62 = 0)) → (post ((0 : Int32)) w_62))) w_31 (0 : Int32) (3 : Int32))) ∧ ((¬ (p2 ≤ gv w_31 26 (((p1).toNatClampNeg)) 1)) → (sp_X8_refuse κ y (fun r_62_a w_62_a => ((r_62_a = 0) → ((vp_in (p1) (mC y)) ∧ (∀ w_89_a : Wd, w_89_a = sv w_62_a 26 (((p1).toNatClampNeg)) 1 ((gv w_62_a 26 (((p1).toNatClampNeg)) 1) - p2) → ∀ w_99_a : Wd, w_99_a = sv w_89_a 20 0 14 ((gv w_89_a 20 0 14) + p2) → ∀ w_109_a : Wd, w_109_a = sv w_99_a 26 (((p1).toNatClampNeg)) 6 ((gv w_99_a 26 (((p1).toNatClampNeg)) 6) + p2) → post (gv w_109_a 26 (((p1).toNatClampNeg)) 6) w_109_a))) ∧ ((¬ (r_62_a = 0)) → (post ((0 : Int32)) w_62_a))) w_31 (1 : Int32) (3 : Int32))))))) w_19 (0 : Int32) (2 : Int32))) ∧ ((r_19 = 0) → (sp_X8_refuse κ y (fun r_31_a w_31_a => ((¬ r_31_a = 0) → (post ((0 : Int32)) w_31_a)) ∧ ((r_31_a = 0) → ((vp_in (p1) (mC y)) ∧ (((p2 ≤ gv w_31_a 26 (((p1).toNatClampNeg)) 1) → (sp_X8_refuse κ y (fun r_62_b w_62_b => ((r_62_b = 0) → ((vp_in (p1) (mC y)) ∧ (∀ w_89_b : Wd, w_89_b = sv w_62_b 26 (((p1).toNatClampNeg)) 1 ((gv w_62_b 26 (((p1).toNatClampNeg)) 1) - p2) → ∀ w_99_b : Wd, w_99_b = sv w_89_b 20 0 14 ((gv w_89_b 20 0 14) + p2) → ∀ w_109_b : Wd, w_109_b = sv w_99_b 26 (((p1).toNatClampNeg)) 6 ((gv w_99_b 26 (((p1).toNatClampNeg)) 6) + p2) → post (gv w_109_b 26 (((p1).toNatClampNeg)) 6) w_109_b))) ∧ ((¬ (r_62_b = 0)) → (post ((0 : Int32)) w_62_b))) w_31_a (0 : Int32) (3 : Int32))) ∧ ((¬ (p2 ≤ gv w_31_a 26 (((p1).toNatClampNeg)) 1)) → (sp_X8_refuse κ y (fun r_62_c w_62_c => ((r_62_c = 0) → ((vp_in (p1) (mC y)) ∧ (∀ w_89_c : Wd, w_89_c = sv w_62_c 26 (((p1).toNatClampNeg)) 1 ((gv w_62_c 26 (((p1).toNatClampNeg)) 1) - p2) → ∀ w_99_c : Wd, w_99_c = sv w_89_c 20 0 14 ((gv w_89_c 20 0 14) + p2) → ∀ w_109_c : Wd, w_109_c = sv w_99_c 26 (((p1).toNatClampNeg)) 6 ((gv w_99_c 26 (((p1).toNatClampNeg)) 6) + p2) → post (gv w_109_c 26 (((p1).toNatClampNeg)) 6) w_109_c))) ∧ ((¬ (r_62_c = 0)) → (post ((0 : Int32)) w_62_c))) w_31_a (1 : Int32) (3 : Int32))))))) w_19 (1 : Int32) (2 : Int32)))) w_7 p2 (1 : Int32) (500 : Int32)))) w_3 r_3 (1 : Int32)) w p1
theorem hd_X8_gift : yX8_gift.cls = RX8 ∧ yX8_gift.cls ≠ "java/lang/invoke/MethodHandle" ∧ yX8_gift.cls ≠ "java/lang/invoke/VarHandle" ∧ (parseMethodDescriptor yX8_gift.desc).map (fun d => d.parameters.length) = some 2 := by decide +kernel
set_option maxHeartbeats 4000000 in
theorem m_X8_gift {l : Launch} {κ : Kx} {y : Ly} {X : XR} {post : Int32 → Wd → Prop} {w : Wd} {p1 : Int32} {p2 : Int32}  (hM : WFm κ y) (l0 : live y 20 0) (h : sp_X8_gift κ y post w p1 p2) : Met l yX8_gift (ws_ yX8_gift cX8_gift 4 (Option.some Jvm.ClassFile.FieldType.int)) rm_X8_gift (va_Pc [.ref (y.2 20 0), .int (p1), .int (p2)] (RC κ w y X)) (va_Qi post (fun w t => Rp κ w y X [] t.heap) (Af κ)) 0 0 (Af κ) := by
  unfold sp_X8_gift at h
  refine Met.ofW (cc := cX8_gift) (maxL := 4) (ret := (Option.some Jvm.ClassFile.FieldType.int)) (by decide) rfl ?_
  intro p e s m args below meth c s₁ B hml hv
  obtain ⟨rfl, hR, hK⟩ := hv
  have hx := B.exec
  have hb := B.bytes
  have hr := B.returns
  have hts := atoms_spec (ws := ws_ yX8_gift cX8_gift 4 (Option.some Jvm.ClassFile.FieldType.int)) B.pre
  have hts : ∀ w ∈ lw_all, w.before _ s = true := fun w h => hts w (List.mem_cons_of_mem _ h)
  have hown : s.vm.findClass RX8 = some m.cls := findClass_of_methodNamed B.named
  have hlocks := B.notSynchronized
  have hS : va_S (Af κ) s.heap s.heap [] := va_S.rf
  have hl := lv_entry ([.ref (y.2 20 0), .int (p1), .int (p2)]) (n := 4) (Nat.le_of_ble_eq_true rfl)
  rw [lg_entry_eq]
  generalize (lg_sl ([.ref (y.2 20 0), .int (p1), .int (p2)]) ++ List.replicate (4 - (lg_sl ([.ref (y.2 20 0), .int (p1), .int (p2)])).length) Slot.unset).toArray = ls at hl ⊢
  have hl : lv_has ls 4 [(0, .ref (y.2 20 0)), (1, .int (p1)), (2, .int (p2))] := hl
  refine lv_aload_n hx hb dX8_gift_0 rfl (lv_at hl 0 rfl) ?_
  refine lv_aload_n hx hb dX8_gift_1 rfl (lv_at hl 0 rfl) ?_
  refine lv_iload_n hx hb dX8_gift_2 rfl (lv_at hl 1 rfl) ?_
  refine ce_qi (fw := fun u => u) (fy := fun _ => y) (cr_V (n := 1) (As := [.int (p1)]) (rest := [.ref (y.2 20 0)]) ⟨hx, hb, hml, hown, hts⟩ hK hR (m_X8_isNoCompany hM l0 h) q2189 q2191 qs42 q85 q2192 rfl rfl hd_X8_isNoCompany ⟨Nat.le_of_ble_eq_true rfl, Nat.le_of_ble_eq_true rfl⟩ (rv hK hR l0 (ci := 11) rfl rfl) rfl rfl hl.1 rfl (lv_room (Nat.le_of_ble_eq_true rfl)) dX8_gift_3 ⟨(Nat.le_of_ble_eq_true rfl), (Nat.le_of_ble_eq_true rfl)⟩) hR hS (fun r_3 w_3 H locs h hR _ hS => ?_)
  refine lv_iconst (v := (1 : Int32)) hx hb dX8_gift_6 (by decide) ?_
  refine ce_qi (fw := fun u => u) (fy := fun _ => y) (cr_V (n := 2) (As := [.int (r_3), .int ((1 : Int32))]) (rest := []) ⟨hx, hb, hml, hown, hts⟩ hK hR (m_X8_start hM l0 h) q2023 q2025 qs37 q85 q2026 rfl rfl hd_X8_start ⟨Nat.le_of_ble_eq_true rfl, Nat.le_of_ble_eq_true rfl⟩ (rv hK hR l0 (ci := 11) rfl rfl) rfl rfl hl.1 rfl (lv_room (Nat.le_of_ble_eq_true rfl)) dX8_gift_7 ⟨(Nat.le_of_ble_eq_true rfl), (Nat.le_of_ble_eq_true rfl)⟩) hR hS (fun r_7 w_7 H locs h hR _ hS => ?_)
  refine lv_if_ne (tgt := 68) hx hb dX8_gift_10 (by decide) (fun c_10 => ?_) (fun c_10 => ?_)
  · have h := h.1 c_10
    refine lv_iconst (v := (0 : Int32)) hx hb dX8_gift_68 (by decide) ?_
    refine W.widen (k := 0) (n := 0) (Nat.le_of_ble_eq_true rfl) (Nat.le_of_ble_eq_true rfl) ?_
    exact W.iret (v := (0 : Int32)) hx hb hr (fun t ht hW9 => ⟨⟨(0 : Int32), w_7, rfl, h, rpt ht hR⟩, hS.F ht⟩) hS.2.2 dX8_gift_69
  · have h := h.2 c_10
    refine lv_aload_n hx hb dX8_gift_13 rfl (lv_at hl 0 rfl) ?_
    refine lv_iload_n hx hb dX8_gift_14 rfl (lv_at hl 2 rfl) ?_
    refine lv_iconst (v := (1 : Int32)) hx hb dX8_gift_15 (by decide) ?_
    refine lv_sipush (v := (500 : Int32)) hx hb dX8_gift_16 (by decide) ?_
    refine ce_qi (fw := fun u => u) (fy := fun _ => y) (cr_S (n := 3) (As := [.int (p2), .int ((1 : Int32)), .int ((500 : Int32))]) (rest := [.ref (y.2 20 0)]) ⟨hx, hb, hml, hown, hts⟩ hK hR (m_X8_isIn hM h) q2020 q2021 q85 q2022 rfl rfl hds_X8_isIn ⟨Nat.le_of_ble_eq_true rfl, Nat.le_of_ble_eq_true rfl⟩ rfl rfl hl.1 rfl (lv_room (Nat.le_of_ble_eq_true rfl)) dX8_gift_19 ⟨(Nat.le_of_ble_eq_true rfl), (Nat.le_of_ble_eq_true rfl)⟩) hR hS (fun r_19 w_19 H locs h hR _ hS => ?_)
    refine lv_if_ne (tgt := 29) hx hb dX8_gift_22 (by decide) (fun c_22 => ?_) (fun c_22 => ?_)
    · have h := h.1 c_22
      refine lv_iconst (v := (0 : Int32)) hx hb dX8_gift_29 (by decide) ?_
      refine lv_iconst (v := (2 : Int32)) hx hb dX8_gift_30 (by decide) ?_
      refine ce_qi (fw := fun u => u) (fy := fun _ => y) (cr_V (n := 2) (As := [.int ((0 : Int32)), .int ((2 : Int32))]) (rest := []) ⟨hx, hb, hml, hown, hts⟩ hK hR (m_X8_refuse hM l0 h) q2027 q2029 qs38 q85 q2030 rfl rfl hd_X8_refuse ⟨Nat.le_of_ble_eq_true rfl, Nat.le_of_ble_eq_true rfl⟩ (rv hK hR l0 (ci := 11) rfl rfl) rfl rfl hl.1 rfl (lv_room (Nat.le_of_ble_eq_true rfl)) dX8_gift_31 ⟨(Nat.le_of_ble_eq_true rfl), (Nat.le_of_ble_eq_true rfl)⟩) hR hS (fun r_31 w_31 H locs h hR _ hS => ?_)
      refine lv_if_ne (tgt := 68) hx hb dX8_gift_34 (by decide) (fun c_34 => ?_) (fun c_34 => ?_)
      · have h := h.1 c_34
        refine lv_iconst (v := (0 : Int32)) hx hb dX8_gift_68 (by decide) ?_
        refine W.widen (k := 0) (n := 0) (Nat.le_of_ble_eq_true rfl) (Nat.le_of_ble_eq_true rfl) ?_
        exact W.iret (v := (0 : Int32)) hx hb hr (fun t ht hW9 => ⟨⟨(0 : Int32), w_31, rfl, h, rpt ht hR⟩, hS.F ht⟩) hS.2.2 dX8_gift_69
      · have h := h.2 c_34
        refine lv_aload_n hx hb dX8_gift_37 rfl (lv_at hl 0 rfl) ?_
        refine lv_aload_n hx hb dX8_gift_38 rfl (lv_at hl 0 rfl) ?_
        refine g20_4 hx hb hts hown hK hR l0 q1949 dX8_gift_39 ?_
        refine lv_iload_n hx hb dX8_gift_42 rfl (lv_at hl 1 rfl) ?_
        have o_43 := h.1
        have h := h.2
        refine jr_get (a := y.2 26 ((p1).toNatClampNeg)) ⟨hx, hb, hml, hown, hts⟩ hK hR ⟨fun _ _ _ _ _ => rfl, fun _ _ _ _ _ => rfl⟩ hM.lsC ⟨hM.arC (Nat.lt_of_le_of_lt (Nat.zero_le _) (vp_lt o_43)), (Nat.le_trans hM.mC4 (by decide))⟩ o_43 (hM.elC (vp_lt o_43)) q2101 ⟨Nat.le_of_ble_eq_true rfl, Nat.le_of_ble_eq_true rfl⟩ hl.1 (Nat.le_of_ble_eq_true rfl) dX8_gift_43 ⟨(Nat.le_of_ble_eq_true rfl), (Nat.le_of_ble_eq_true rfl)⟩ ?_
        refine jr_castS (ci := 13) hx hb hown hK hts (hR.role (hM.com (vp_lt o_43))) rfl q2141 dX8_gift_46 ?_
        refine g26_1 hx hb hts hown hK hR (hM.com (vp_lt o_43)) q2150 dX8_gift_49 ?_
        refine lv_iload_n hx hb dX8_gift_52 rfl (lv_at hl 2 rfl) ?_
        refine lv_icmp_ge (tgt := 60) hx hb dX8_gift_53 (by decide) (fun c_53 => ?_) (fun c_53 => ?_)
        · have h := h.1 c_53
          refine lv_iconst (v := (0 : Int32)) hx hb dX8_gift_60 (by decide) ?_
          refine lv_iconst (v := (3 : Int32)) hx hb dX8_gift_61 (by decide) ?_
          refine ce_qi (fw := fun u => u) (fy := fun _ => y) (cr_V (n := 2) (As := [.int ((0 : Int32)), .int ((3 : Int32))]) (rest := []) ⟨hx, hb, hml, hown, hts⟩ hK hR (m_X8_refuse hM l0 h) q2027 q2029 qs38 q85 q2030 rfl rfl hd_X8_refuse ⟨Nat.le_of_ble_eq_true rfl, Nat.le_of_ble_eq_true rfl⟩ (rv hK hR l0 (ci := 11) rfl rfl) rfl rfl hl.1 rfl (lv_room (Nat.le_of_ble_eq_true rfl)) dX8_gift_62 ⟨(Nat.le_of_ble_eq_true rfl), (Nat.le_of_ble_eq_true rfl)⟩) hR hS (fun r_62 w_62 H locs h hR _ hS => ?_)
          refine lv_if_eq (tgt := 70) hx hb dX8_gift_65 (by decide) (fun c_65 => ?_) (fun c_65 => ?_)
          · have h := h.1 c_65
            refine lv_aload_n hx hb dX8_gift_70 rfl (lv_at hl 0 rfl) ?_
            refine g20_4 hx hb hts hown hK hR l0 q1949 dX8_gift_71 ?_
            refine lv_iload_n hx hb dX8_gift_74 rfl (lv_at hl 1 rfl) ?_
            have o_75 := h.1
            have h := h.2
            refine jr_get (a := y.2 26 ((p1).toNatClampNeg)) ⟨hx, hb, hml, hown, hts⟩ hK hR ⟨fun _ _ _ _ _ => rfl, fun _ _ _ _ _ => rfl⟩ hM.lsC ⟨hM.arC (Nat.lt_of_le_of_lt (Nat.zero_le _) (vp_lt o_75)), (Nat.le_trans hM.mC4 (by decide))⟩ o_75 (hM.elC (vp_lt o_75)) q2101 ⟨Nat.le_of_ble_eq_true rfl, Nat.le_of_ble_eq_true rfl⟩ hl.1 (Nat.le_of_ble_eq_true rfl) dX8_gift_75 ⟨(Nat.le_of_ble_eq_true rfl), (Nat.le_of_ble_eq_true rfl)⟩ ?_
            refine jr_castS (ci := 13) hx hb hown hK hts (hR.role (hM.com (vp_lt o_75))) rfl q2141 dX8_gift_78 ?_
            refine lv_astore_n (lv' := [(3, .ref (y.2 26 ((p1).toNatClampNeg))), (0, .ref (y.2 20 0)), (1, .int (p1)), (2, .int (p2))]) hx hb dX8_gift_81 rfl hl (by decide) rfl (fun ls hl => ?_)
            refine lv_aload_n hx hb dX8_gift_82 rfl (lv_at hl 0 rfl) ?_
            refine lv_dup hx hb dX8_gift_83 rfl ?_
            refine g26_1 hx hb hts hown hK hR (hM.com (vp_lt o_75)) q2150 dX8_gift_84 ?_
            refine lv_iload_n hx hb dX8_gift_87 rfl (lv_at hl 3 rfl) ?_
            refine lv_isub hx hb dX8_gift_88 ?_
            refine p26_1 hx hb hts hown hK hR hS (hM.com (vp_lt o_75)) q2150 dX8_gift_89 (fun H locs w_89 ew_89 hR hS => ?_)
            have h := h w_89 ew_89
            refine lv_aload_n hx hb dX8_gift_92 rfl (lv_at hl 1 rfl) ?_
            refine lv_dup hx hb dX8_gift_93 rfl ?_
            refine g20_14 hx hb hts hown hK hR l0 q1959 dX8_gift_94 ?_
            refine lv_iload_n hx hb dX8_gift_97 rfl (lv_at hl 3 rfl) ?_
            refine lv_iadd hx hb dX8_gift_98 ?_
            refine p20_14 hx hb hts hown hK hR hS l0 q1959 dX8_gift_99 (fun H locs w_99 ew_99 hR hS => ?_)
            have h := h w_99 ew_99
            refine lv_aload_n hx hb dX8_gift_102 rfl (lv_at hl 0 rfl) ?_
            refine lv_dup hx hb dX8_gift_103 rfl ?_
            refine g26_6 hx hb hts hown hK hR (hM.com (vp_lt o_75)) q2155 dX8_gift_104 ?_
            refine lv_iload_n hx hb dX8_gift_107 rfl (lv_at hl 3 rfl) ?_
            refine lv_iadd hx hb dX8_gift_108 ?_
            refine p26_6 hx hb hts hown hK hR hS (hM.com (vp_lt o_75)) q2155 dX8_gift_109 (fun H locs w_109 ew_109 hR hS => ?_)
            have h := h w_109 ew_109
            refine lv_aload_n hx hb dX8_gift_112 rfl (lv_at hl 0 rfl) ?_
            refine g26_6 hx hb hts hown hK hR (hM.com (vp_lt o_75)) q2155 dX8_gift_113 ?_
            refine W.widen (k := 0) (n := 0) (Nat.le_of_ble_eq_true rfl) (Nat.le_of_ble_eq_true rfl) ?_
            exact W.iret (v := gv w_109 26 (((p1).toNatClampNeg)) 6) hx hb hr (fun t ht hW9 => ⟨⟨gv w_109 26 (((p1).toNatClampNeg)) 6, w_109, rfl, h, rpt ht hR⟩, hS.F ht⟩) hS.2.2 dX8_gift_116
          · have h := h.2 c_65
            refine lv_iconst (v := (0 : Int32)) hx hb dX8_gift_68 (by decide) ?_
            refine W.widen (k := 0) (n := 0) (Nat.le_of_ble_eq_true rfl) (Nat.le_of_ble_eq_true rfl) ?_
            exact W.iret (v := (0 : Int32)) hx hb hr (fun t ht hW9 => ⟨⟨(0 : Int32), w_62, rfl, h, rpt ht hR⟩, hS.F ht⟩) hS.2.2 dX8_gift_69
        · have h := h.2 c_53
          refine lv_iconst (v := (1 : Int32)) hx hb dX8_gift_56 (by decide) ?_
          refine lv_goto (tgt := 61) hx hb dX8_gift_57 (by decide) ?_
          refine lv_iconst (v := (3 : Int32)) hx hb dX8_gift_61 (by decide) ?_
          refine ce_qi (fw := fun u => u) (fy := fun _ => y) (cr_V (n := 2) (As := [.int ((1 : Int32)), .int ((3 : Int32))]) (rest := []) ⟨hx, hb, hml, hown, hts⟩ hK hR (m_X8_refuse hM l0 h) q2027 q2029 qs38 q85 q2030 rfl rfl hd_X8_refuse ⟨Nat.le_of_ble_eq_true rfl, Nat.le_of_ble_eq_true rfl⟩ (rv hK hR l0 (ci := 11) rfl rfl) rfl rfl hl.1 rfl (lv_room (Nat.le_of_ble_eq_true rfl)) dX8_gift_62 ⟨(Nat.le_of_ble_eq_true rfl), (Nat.le_of_ble_eq_true rfl)⟩) hR hS (fun r_62_a w_62_a H locs h hR _ hS => ?_)
          refine lv_if_eq (tgt := 70) hx hb dX8_gift_65 (by decide) (fun c_65_a => ?_) (fun c_65_a => ?_)
          · have h := h.1 c_65_a
            refine lv_aload_n hx hb dX8_gift_70 rfl (lv_at hl 0 rfl) ?_
            refine g20_4 hx hb hts hown hK hR l0 q1949 dX8_gift_71 ?_
            refine lv_iload_n hx hb dX8_gift_74 rfl (lv_at hl 1 rfl) ?_
            have o_75_a := h.1
            have h := h.2
            refine jr_get (a := y.2 26 ((p1).toNatClampNeg)) ⟨hx, hb, hml, hown, hts⟩ hK hR ⟨fun _ _ _ _ _ => rfl, fun _ _ _ _ _ => rfl⟩ hM.lsC ⟨hM.arC (Nat.lt_of_le_of_lt (Nat.zero_le _) (vp_lt o_75_a)), (Nat.le_trans hM.mC4 (by decide))⟩ o_75_a (hM.elC (vp_lt o_75_a)) q2101 ⟨Nat.le_of_ble_eq_true rfl, Nat.le_of_ble_eq_true rfl⟩ hl.1 (Nat.le_of_ble_eq_true rfl) dX8_gift_75 ⟨(Nat.le_of_ble_eq_true rfl), (Nat.le_of_ble_eq_true rfl)⟩ ?_
            refine jr_castS (ci := 13) hx hb hown hK hts (hR.role (hM.com (vp_lt o_75_a))) rfl q2141 dX8_gift_78 ?_
            refine lv_astore_n (lv' := [(3, .ref (y.2 26 ((p1).toNatClampNeg))), (0, .ref (y.2 20 0)), (1, .int (p1)), (2, .int (p2))]) hx hb dX8_gift_81 rfl hl (by decide) rfl (fun ls hl => ?_)
            refine lv_aload_n hx hb dX8_gift_82 rfl (lv_at hl 0 rfl) ?_
            refine lv_dup hx hb dX8_gift_83 rfl ?_
            refine g26_1 hx hb hts hown hK hR (hM.com (vp_lt o_75_a)) q2150 dX8_gift_84 ?_
            refine lv_iload_n hx hb dX8_gift_87 rfl (lv_at hl 3 rfl) ?_
            refine lv_isub hx hb dX8_gift_88 ?_
            refine p26_1 hx hb hts hown hK hR hS (hM.com (vp_lt o_75_a)) q2150 dX8_gift_89 (fun H locs w_89_a ew_89_a hR hS => ?_)
            have h := h w_89_a ew_89_a
            refine lv_aload_n hx hb dX8_gift_92 rfl (lv_at hl 1 rfl) ?_
            refine lv_dup hx hb dX8_gift_93 rfl ?_
            refine g20_14 hx hb hts hown hK hR l0 q1959 dX8_gift_94 ?_
            refine lv_iload_n hx hb dX8_gift_97 rfl (lv_at hl 3 rfl) ?_
            refine lv_iadd hx hb dX8_gift_98 ?_
            refine p20_14 hx hb hts hown hK hR hS l0 q1959 dX8_gift_99 (fun H locs w_99_a ew_99_a hR hS => ?_)
            have h := h w_99_a ew_99_a
            refine lv_aload_n hx hb dX8_gift_102 rfl (lv_at hl 0 rfl) ?_
            refine lv_dup hx hb dX8_gift_103 rfl ?_
            refine g26_6 hx hb hts hown hK hR (hM.com (vp_lt o_75_a)) q2155 dX8_gift_104 ?_
            refine lv_iload_n hx hb dX8_gift_107 rfl (lv_at hl 3 rfl) ?_
            refine lv_iadd hx hb dX8_gift_108 ?_
            refine p26_6 hx hb hts hown hK hR hS (hM.com (vp_lt o_75_a)) q2155 dX8_gift_109 (fun H locs w_109_a ew_109_a hR hS => ?_)
            have h := h w_109_a ew_109_a
            refine lv_aload_n hx hb dX8_gift_112 rfl (lv_at hl 0 rfl) ?_
            refine g26_6 hx hb hts hown hK hR (hM.com (vp_lt o_75_a)) q2155 dX8_gift_113 ?_
            refine W.widen (k := 0) (n := 0) (Nat.le_of_ble_eq_true rfl) (Nat.le_of_ble_eq_true rfl) ?_
            exact W.iret (v := gv w_109_a 26 (((p1).toNatClampNeg)) 6) hx hb hr (fun t ht hW9 => ⟨⟨gv w_109_a 26 (((p1).toNatClampNeg)) 6, w_109_a, rfl, h, rpt ht hR⟩, hS.F ht⟩) hS.2.2 dX8_gift_116
          · have h := h.2 c_65_a
            refine lv_iconst (v := (0 : Int32)) hx hb dX8_gift_68 (by decide) ?_
            refine W.widen (k := 0) (n := 0) (Nat.le_of_ble_eq_true rfl) (Nat.le_of_ble_eq_true rfl) ?_
            exact W.iret (v := (0 : Int32)) hx hb hr (fun t ht hW9 => ⟨⟨(0 : Int32), w_62_a, rfl, h, rpt ht hR⟩, hS.F ht⟩) hS.2.2 dX8_gift_69
    · have h := h.2 c_22
      refine lv_iconst (v := (1 : Int32)) hx hb dX8_gift_25 (by decide) ?_
      refine lv_goto (tgt := 30) hx hb dX8_gift_26 (by decide) ?_
      refine lv_iconst (v := (2 : Int32)) hx hb dX8_gift_30 (by decide) ?_
      refine ce_qi (fw := fun u => u) (fy := fun _ => y) (cr_V (n := 2) (As := [.int ((1 : Int32)), .int ((2 : Int32))]) (rest := []) ⟨hx, hb, hml, hown, hts⟩ hK hR (m_X8_refuse hM l0 h) q2027 q2029 qs38 q85 q2030 rfl rfl hd_X8_refuse ⟨Nat.le_of_ble_eq_true rfl, Nat.le_of_ble_eq_true rfl⟩ (rv hK hR l0 (ci := 11) rfl rfl) rfl rfl hl.1 rfl (lv_room (Nat.le_of_ble_eq_true rfl)) dX8_gift_31 ⟨(Nat.le_of_ble_eq_true rfl), (Nat.le_of_ble_eq_true rfl)⟩) hR hS (fun r_31_a w_31_a H locs h hR _ hS => ?_)
      refine lv_if_ne (tgt := 68) hx hb dX8_gift_34 (by decide) (fun c_34_a => ?_) (fun c_34_a => ?_)
      · have h := h.1 c_34_a
        refine lv_iconst (v := (0 : Int32)) hx hb dX8_gift_68 (by decide) ?_
        refine W.widen (k := 0) (n := 0) (Nat.le_of_ble_eq_true rfl) (Nat.le_of_ble_eq_true rfl) ?_
        exact W.iret (v := (0 : Int32)) hx hb hr (fun t ht hW9 => ⟨⟨(0 : Int32), w_31_a, rfl, h, rpt ht hR⟩, hS.F ht⟩) hS.2.2 dX8_gift_69
      · have h := h.2 c_34_a
        refine lv_aload_n hx hb dX8_gift_37 rfl (lv_at hl 0 rfl) ?_
        refine lv_aload_n hx hb dX8_gift_38 rfl (lv_at hl 0 rfl) ?_
        refine g20_4 hx hb hts hown hK hR l0 q1949 dX8_gift_39 ?_
        refine lv_iload_n hx hb dX8_gift_42 rfl (lv_at hl 1 rfl) ?_
        have o_43_a := h.1
        have h := h.2
        refine jr_get (a := y.2 26 ((p1).toNatClampNeg)) ⟨hx, hb, hml, hown, hts⟩ hK hR ⟨fun _ _ _ _ _ => rfl, fun _ _ _ _ _ => rfl⟩ hM.lsC ⟨hM.arC (Nat.lt_of_le_of_lt (Nat.zero_le _) (vp_lt o_43_a)), (Nat.le_trans hM.mC4 (by decide))⟩ o_43_a (hM.elC (vp_lt o_43_a)) q2101 ⟨Nat.le_of_ble_eq_true rfl, Nat.le_of_ble_eq_true rfl⟩ hl.1 (Nat.le_of_ble_eq_true rfl) dX8_gift_43 ⟨(Nat.le_of_ble_eq_true rfl), (Nat.le_of_ble_eq_true rfl)⟩ ?_
        refine jr_castS (ci := 13) hx hb hown hK hts (hR.role (hM.com (vp_lt o_43_a))) rfl q2141 dX8_gift_46 ?_
        refine g26_1 hx hb hts hown hK hR (hM.com (vp_lt o_43_a)) q2150 dX8_gift_49 ?_
        refine lv_iload_n hx hb dX8_gift_52 rfl (lv_at hl 2 rfl) ?_
        refine lv_icmp_ge (tgt := 60) hx hb dX8_gift_53 (by decide) (fun c_53_a => ?_) (fun c_53_a => ?_)
        · have h := h.1 c_53_a
          refine lv_iconst (v := (0 : Int32)) hx hb dX8_gift_60 (by decide) ?_
          refine lv_iconst (v := (3 : Int32)) hx hb dX8_gift_61 (by decide) ?_
          refine ce_qi (fw := fun u => u) (fy := fun _ => y) (cr_V (n := 2) (As := [.int ((0 : Int32)), .int ((3 : Int32))]) (rest := []) ⟨hx, hb, hml, hown, hts⟩ hK hR (m_X8_refuse hM l0 h) q2027 q2029 qs38 q85 q2030 rfl rfl hd_X8_refuse ⟨Nat.le_of_ble_eq_true rfl, Nat.le_of_ble_eq_true rfl⟩ (rv hK hR l0 (ci := 11) rfl rfl) rfl rfl hl.1 rfl (lv_room (Nat.le_of_ble_eq_true rfl)) dX8_gift_62 ⟨(Nat.le_of_ble_eq_true rfl), (Nat.le_of_ble_eq_true rfl)⟩) hR hS (fun r_62_b w_62_b H locs h hR _ hS => ?_)
          refine lv_if_eq (tgt := 70) hx hb dX8_gift_65 (by decide) (fun c_65_b => ?_) (fun c_65_b => ?_)
          · have h := h.1 c_65_b
            refine lv_aload_n hx hb dX8_gift_70 rfl (lv_at hl 0 rfl) ?_
            refine g20_4 hx hb hts hown hK hR l0 q1949 dX8_gift_71 ?_
            refine lv_iload_n hx hb dX8_gift_74 rfl (lv_at hl 1 rfl) ?_
            have o_75_b := h.1
            have h := h.2
            refine jr_get (a := y.2 26 ((p1).toNatClampNeg)) ⟨hx, hb, hml, hown, hts⟩ hK hR ⟨fun _ _ _ _ _ => rfl, fun _ _ _ _ _ => rfl⟩ hM.lsC ⟨hM.arC (Nat.lt_of_le_of_lt (Nat.zero_le _) (vp_lt o_75_b)), (Nat.le_trans hM.mC4 (by decide))⟩ o_75_b (hM.elC (vp_lt o_75_b)) q2101 ⟨Nat.le_of_ble_eq_true rfl, Nat.le_of_ble_eq_true rfl⟩ hl.1 (Nat.le_of_ble_eq_true rfl) dX8_gift_75 ⟨(Nat.le_of_ble_eq_true rfl), (Nat.le_of_ble_eq_true rfl)⟩ ?_
            refine jr_castS (ci := 13) hx hb hown hK hts (hR.role (hM.com (vp_lt o_75_b))) rfl q2141 dX8_gift_78 ?_
            refine lv_astore_n (lv' := [(3, .ref (y.2 26 ((p1).toNatClampNeg))), (0, .ref (y.2 20 0)), (1, .int (p1)), (2, .int (p2))]) hx hb dX8_gift_81 rfl hl (by decide) rfl (fun ls hl => ?_)
            refine lv_aload_n hx hb dX8_gift_82 rfl (lv_at hl 0 rfl) ?_
            refine lv_dup hx hb dX8_gift_83 rfl ?_
            refine g26_1 hx hb hts hown hK hR (hM.com (vp_lt o_75_b)) q2150 dX8_gift_84 ?_
            refine lv_iload_n hx hb dX8_gift_87 rfl (lv_at hl 3 rfl) ?_
            refine lv_isub hx hb dX8_gift_88 ?_
            refine p26_1 hx hb hts hown hK hR hS (hM.com (vp_lt o_75_b)) q2150 dX8_gift_89 (fun H locs w_89_b ew_89_b hR hS => ?_)
            have h := h w_89_b ew_89_b
            refine lv_aload_n hx hb dX8_gift_92 rfl (lv_at hl 1 rfl) ?_
            refine lv_dup hx hb dX8_gift_93 rfl ?_
            refine g20_14 hx hb hts hown hK hR l0 q1959 dX8_gift_94 ?_
            refine lv_iload_n hx hb dX8_gift_97 rfl (lv_at hl 3 rfl) ?_
            refine lv_iadd hx hb dX8_gift_98 ?_
            refine p20_14 hx hb hts hown hK hR hS l0 q1959 dX8_gift_99 (fun H locs w_99_b ew_99_b hR hS => ?_)
            have h := h w_99_b ew_99_b
            refine lv_aload_n hx hb dX8_gift_102 rfl (lv_at hl 0 rfl) ?_
            refine lv_dup hx hb dX8_gift_103 rfl ?_
            refine g26_6 hx hb hts hown hK hR (hM.com (vp_lt o_75_b)) q2155 dX8_gift_104 ?_
            refine lv_iload_n hx hb dX8_gift_107 rfl (lv_at hl 3 rfl) ?_
            refine lv_iadd hx hb dX8_gift_108 ?_
            refine p26_6 hx hb hts hown hK hR hS (hM.com (vp_lt o_75_b)) q2155 dX8_gift_109 (fun H locs w_109_b ew_109_b hR hS => ?_)
            have h := h w_109_b ew_109_b
            refine lv_aload_n hx hb dX8_gift_112 rfl (lv_at hl 0 rfl) ?_
            refine g26_6 hx hb hts hown hK hR (hM.com (vp_lt o_75_b)) q2155 dX8_gift_113 ?_
            refine W.widen (k := 0) (n := 0) (Nat.le_of_ble_eq_true rfl) (Nat.le_of_ble_eq_true rfl) ?_
            exact W.iret (v := gv w_109_b 26 (((p1).toNatClampNeg)) 6) hx hb hr (fun t ht hW9 => ⟨⟨gv w_109_b 26 (((p1).toNatClampNeg)) 6, w_109_b, rfl, h, rpt ht hR⟩, hS.F ht⟩) hS.2.2 dX8_gift_116
          · have h := h.2 c_65_b
            refine lv_iconst (v := (0 : Int32)) hx hb dX8_gift_68 (by decide) ?_
            refine W.widen (k := 0) (n := 0) (Nat.le_of_ble_eq_true rfl) (Nat.le_of_ble_eq_true rfl) ?_
            exact W.iret (v := (0 : Int32)) hx hb hr (fun t ht hW9 => ⟨⟨(0 : Int32), w_62_b, rfl, h, rpt ht hR⟩, hS.F ht⟩) hS.2.2 dX8_gift_69
        · have h := h.2 c_53_a
          refine lv_iconst (v := (1 : Int32)) hx hb dX8_gift_56 (by decide) ?_
          refine lv_goto (tgt := 61) hx hb dX8_gift_57 (by decide) ?_
          refine lv_iconst (v := (3 : Int32)) hx hb dX8_gift_61 (by decide) ?_
          refine ce_qi (fw := fun u => u) (fy := fun _ => y) (cr_V (n := 2) (As := [.int ((1 : Int32)), .int ((3 : Int32))]) (rest := []) ⟨hx, hb, hml, hown, hts⟩ hK hR (m_X8_refuse hM l0 h) q2027 q2029 qs38 q85 q2030 rfl rfl hd_X8_refuse ⟨Nat.le_of_ble_eq_true rfl, Nat.le_of_ble_eq_true rfl⟩ (rv hK hR l0 (ci := 11) rfl rfl) rfl rfl hl.1 rfl (lv_room (Nat.le_of_ble_eq_true rfl)) dX8_gift_62 ⟨(Nat.le_of_ble_eq_true rfl), (Nat.le_of_ble_eq_true rfl)⟩) hR hS (fun r_62_c w_62_c H locs h hR _ hS => ?_)
          refine lv_if_eq (tgt := 70) hx hb dX8_gift_65 (by decide) (fun c_65_c => ?_) (fun c_65_c => ?_)
          · have h := h.1 c_65_c
            refine lv_aload_n hx hb dX8_gift_70 rfl (lv_at hl 0 rfl) ?_
            refine g20_4 hx hb hts hown hK hR l0 q1949 dX8_gift_71 ?_
            refine lv_iload_n hx hb dX8_gift_74 rfl (lv_at hl 1 rfl) ?_
            have o_75_c := h.1
            have h := h.2
            refine jr_get (a := y.2 26 ((p1).toNatClampNeg)) ⟨hx, hb, hml, hown, hts⟩ hK hR ⟨fun _ _ _ _ _ => rfl, fun _ _ _ _ _ => rfl⟩ hM.lsC ⟨hM.arC (Nat.lt_of_le_of_lt (Nat.zero_le _) (vp_lt o_75_c)), (Nat.le_trans hM.mC4 (by decide))⟩ o_75_c (hM.elC (vp_lt o_75_c)) q2101 ⟨Nat.le_of_ble_eq_true rfl, Nat.le_of_ble_eq_true rfl⟩ hl.1 (Nat.le_of_ble_eq_true rfl) dX8_gift_75 ⟨(Nat.le_of_ble_eq_true rfl), (Nat.le_of_ble_eq_true rfl)⟩ ?_
            refine jr_castS (ci := 13) hx hb hown hK hts (hR.role (hM.com (vp_lt o_75_c))) rfl q2141 dX8_gift_78 ?_
            refine lv_astore_n (lv' := [(3, .ref (y.2 26 ((p1).toNatClampNeg))), (0, .ref (y.2 20 0)), (1, .int (p1)), (2, .int (p2))]) hx hb dX8_gift_81 rfl hl (by decide) rfl (fun ls hl => ?_)
            refine lv_aload_n hx hb dX8_gift_82 rfl (lv_at hl 0 rfl) ?_
            refine lv_dup hx hb dX8_gift_83 rfl ?_
            refine g26_1 hx hb hts hown hK hR (hM.com (vp_lt o_75_c)) q2150 dX8_gift_84 ?_
            refine lv_iload_n hx hb dX8_gift_87 rfl (lv_at hl 3 rfl) ?_
            refine lv_isub hx hb dX8_gift_88 ?_
            refine p26_1 hx hb hts hown hK hR hS (hM.com (vp_lt o_75_c)) q2150 dX8_gift_89 (fun H locs w_89_c ew_89_c hR hS => ?_)
            have h := h w_89_c ew_89_c
            refine lv_aload_n hx hb dX8_gift_92 rfl (lv_at hl 1 rfl) ?_
            refine lv_dup hx hb dX8_gift_93 rfl ?_
            refine g20_14 hx hb hts hown hK hR l0 q1959 dX8_gift_94 ?_
            refine lv_iload_n hx hb dX8_gift_97 rfl (lv_at hl 3 rfl) ?_
            refine lv_iadd hx hb dX8_gift_98 ?_
            refine p20_14 hx hb hts hown hK hR hS l0 q1959 dX8_gift_99 (fun H locs w_99_c ew_99_c hR hS => ?_)
            have h := h w_99_c ew_99_c
            refine lv_aload_n hx hb dX8_gift_102 rfl (lv_at hl 0 rfl) ?_
            refine lv_dup hx hb dX8_gift_103 rfl ?_
            refine g26_6 hx hb hts hown hK hR (hM.com (vp_lt o_75_c)) q2155 dX8_gift_104 ?_
            refine lv_iload_n hx hb dX8_gift_107 rfl (lv_at hl 3 rfl) ?_
            refine lv_iadd hx hb dX8_gift_108 ?_
            refine p26_6 hx hb hts hown hK hR hS (hM.com (vp_lt o_75_c)) q2155 dX8_gift_109 (fun H locs w_109_c ew_109_c hR hS => ?_)
            have h := h w_109_c ew_109_c
            refine lv_aload_n hx hb dX8_gift_112 rfl (lv_at hl 0 rfl) ?_
            refine g26_6 hx hb hts hown hK hR (hM.com (vp_lt o_75_c)) q2155 dX8_gift_113 ?_
            refine W.widen (k := 0) (n := 0) (Nat.le_of_ble_eq_true rfl) (Nat.le_of_ble_eq_true rfl) ?_
            exact W.iret (v := gv w_109_c 26 (((p1).toNatClampNeg)) 6) hx hb hr (fun t ht hW9 => ⟨⟨gv w_109_c 26 (((p1).toNatClampNeg)) 6, w_109_c, rfl, h, rpt ht hR⟩, hS.F ht⟩) hS.2.2 dX8_gift_116
          · have h := h.2 c_65_c
            refine lv_iconst (v := (0 : Int32)) hx hb dX8_gift_68 (by decide) ?_
            refine W.widen (k := 0) (n := 0) (Nat.le_of_ble_eq_true rfl) (Nat.le_of_ble_eq_true rfl) ?_
            exact W.iret (v := (0 : Int32)) hx hb hr (fun t ht hW9 => ⟨⟨(0 : Int32), w_62_c, rfl, h, rpt ht hR⟩, hS.F ht⟩) hS.2.2 dX8_gift_69
