/-! THE LAW's WRAPPERS (printed by wip gen/x0.py) -/
set_option maxRecDepth 100000
abbrev rm_X0_partner : Room := { frames := 9, cells := 2, slots := 12, locals := 165 }
def sp_X0_partner (κ : Kx) (y : Ly) (post : Int32 → Int64 → Wd → Prop) (n0 : Int64) (w : Wd) (p1 : Int32) (p2 : Int32) (p3 : Int32) : Prop := sp_X1_partner κ y (fun r w => post (0 : Int32) r.toInt64 w) (fun E w => (E = "java/lang/IndexOutOfBoundsException" ∧ post (1 : Int32) n0 w)) w p1 p2 p3
set_option maxHeartbeats 4000000 in
theorem m_X0_partner {l : Launch} {κ : Kx} {y : Ly} {X : XR} {post : Int32 → Int64 → Wd → Prop} {w : Wd} {oa : Nat} {n0 : Int64} {dd : UInt64} {ss : Value} {p1 : Int32} {p2 : Int32} {p3 : Int32} (hfl : l.stackTraces = false) (hW : WFc κ y) (l0 : live y 0 0) (hX : X oa (.inr (15, [.long n0, .double dd, ss]))) (h : sp_X0_partner κ y post n0 w p1 p2 p3) : vx_Met l yX0_partner (wsW_ yX0_partner cX0_partner 6 (Option.some Jvm.ClassFile.FieldType.int) [(0, 13, 16, 27)]) rm_X0_partner (va_Pc [.ref (y.2 0 0), .int (p1), .int (p2), .int (p3), .ref oa] (RC κ w y X)) (va_Qi (fun r (u : Wd × Int64) => post r u.2 u.1) (fun (u : Wd × Int64) t => Rp κ u.1 y (upX X oa (.inr (15, [.long u.2, .double dd, ss]))) [] t.heap) (Af κ)) (XF κ) 2 12 (Af κ) := by
  unfold sp_X0_partner at h
  refine vx_ofWH (cc := cX0_partner) (maxL := 6) (ret := (Option.some Jvm.ClassFile.FieldType.int)) (hh := [(0, 13, 16, 27)]) (by decide) rfl ?_
  intro p e s m args below meth c s₁ B hml hv
  obtain ⟨rfl, hR, hK⟩ := hv
  have hx := B.exec
  have hb := B.bytes
  have hr := B.returns
  have hts := atoms_spec (ws := wsW_ yX0_partner cX0_partner 6 (Option.some Jvm.ClassFile.FieldType.int) [(0, 13, 16, 27)]) B.pre
  have htab : c.exceptionTable.toList = tableOf [(0, 13, 16, 27)] := vx_table (x := yX0_partner) B (hts _ List.mem_cons_self)
  have hts : ∀ w ∈ lw_all, w.before _ s = true := fun w h => hts w (List.mem_cons_of_mem _ h)
  have hown : s.vm.findClass RX0 = some m.cls := findClass_of_methodNamed B.named
  have hS : va_S (Af κ) s.heap s.heap [] := va_S.rf
  have hl := lv_entry ([.ref (y.2 0 0), .int (p1), .int (p2), .int (p3), .ref oa]) (n := 6) (Nat.le_of_ble_eq_true rfl)
  rw [lg_entry_eq]
  generalize (lg_sl ([.ref (y.2 0 0), .int (p1), .int (p2), .int (p3), .ref oa]) ++ List.replicate (6 - (lg_sl ([.ref (y.2 0 0), .int (p1), .int (p2), .int (p3), .ref oa])).length) Slot.unset).toArray = ls at hl ⊢
  have hl : lv_has ls 6 [(0, .ref (y.2 0 0)), (1, .int (p1)), (2, .int (p2)), (3, .int (p3)), (4, .ref oa)] := hl
  refine lv_aload hx hb dX0_partner_0 (lv_at hl 4 rfl) ?_
  refine lv_aload_n hx hb dX0_partner_2 rfl (lv_at hl 0 rfl) ?_
  refine lv_iload_n hx hb dX0_partner_3 rfl (lv_at hl 1 rfl) ?_
  refine lv_iload_n hx hb dX0_partner_4 rfl (lv_at hl 2 rfl) ?_
  refine lv_iload_n hx hb dX0_partner_5 rfl (lv_at hl 3 rfl) ?_
  refine cew_qi (fw := fun u => u) (fy := fun _ => y) (X := X) (L := []) (BB := fun _ => True) (fun _ _ h => ⟨h, trivial⟩) (crx_V (n := 3) (As := [.int (p1), .int (p2), .int (p3)]) (rest := [.ref oa]) ⟨hx, hb, hml, hown, hts⟩ hK hR (m_X1_partner hfl hW l0 h) q1632 q1633 q1634 q74 q1635 rfl rfl hd_X1_partner ⟨Nat.le_of_ble_eq_true rfl, Nat.le_of_ble_eq_true rfl⟩ (rv hK hR l0 (ci := 0) rfl rfl) rfl rfl hl.1 rfl (lv_room (Nat.le_of_ble_eq_true rfl)) dX0_partner_6 ⟨(Nat.le_of_ble_eq_true rfl), (Nat.le_of_ble_eq_true rfl)⟩) hR hS (fun E ce9 q9 u H locs hp hR hS hcell hv9 hcl => ?_) (fun r u H locs h hB hR hS => ?_)
  · have hR := hR.xsame hX
    obtain ⟨rfl, h⟩ := hp
    refine vx_catch (name := "java/lang/IndexOutOfBoundsException") hown [] ⟨0, 13, 16, 27⟩ [] htab (fun z9 hz9 => nomatch hz9) rfl (by decide) (hts _ q1006) (va_Nw.use rfl (hK.2.1.2.2.1 _ (List.mem_of_getElem? (i := 0) rfl))) hcell hv9 hcl ?_
    refine lv_astore (lv' := [(5, .ref q9), (0, .ref (y.2 0 0)), (1, .int (p1)), (2, .int (p2)), (3, .int (p3)), (4, .ref oa)]) hx hb dX0_partner_16 hl (by decide) rfl (fun ls hl => ?_)
    refine lv_iconst (v := (1 : Int32)) hx hb dX0_partner_18 (by decide) ?_
    exact vx_ret (W.iret (v := (1 : Int32)) hx hb hr (fun t ht hW9 => ⟨⟨(1 : Int32), (u, n0), rfl, h, rpt ht hR⟩, hS.F ht⟩) hS.2.2 dX0_partner_19)
  · refine lv_i2l hx hb dX0_partner_9 rfl ?_
    refine xa_putN (T := TX9) (N := 3) (ref := "PublicanryLaw$Out") (host := "PublicanryLaw") hx hb hts in_X9 tyX9 tyX9_ok nmX9 hown hK.1 hS (hR.2.2.2.1 _ _ hX).2.1 (hR.2.2.2.1 _ _ hX).1 rfl 0 (by decide) (va_Nw.use rfl (hK.2.1.2.1 _ (List.mem_of_getElem? (i := 1) rfl))) rfl rfl rfl rfl (Nat.le_of_ble_eq_true rfl) dX0_partner_10 (fun H1 locs h1 hz ho hS => ?_)
    have hR := hR.putXL hX h1 hz ho
    refine lv_goto (tgt := 20) hx hb dX0_partner_13 (by decide) ?_
    refine lv_iconst (v := (0 : Int32)) hx hb dX0_partner_20 (by decide) ?_
    exact vx_ret (W.iret (v := (0 : Int32)) hx hb hr (fun t ht hW9 => ⟨⟨(0 : Int32), (u, r.toInt64), rfl, h, rpt ht hR⟩, hS.F ht⟩) hS.2.2 dX0_partner_21)
abbrev rm_X0_ofLot : Room := { frames := 9, cells := 2, slots := 12, locals := 164 }
def sp_X0_ofLot (κ : Kx) (y : Ly) (post : Int32 → Int64 → Wd → Prop) (n0 : Int64) (w : Wd) (p1 : Int32) (p2 : Int32) : Prop := sp_X1_ofLot κ y (fun r w => post (0 : Int32) r.toInt64 w) (fun E w => (E = "java/lang/IndexOutOfBoundsException" ∧ post (1 : Int32) n0 w) ∨ (E = "java/lang/IllegalArgumentException" ∧ post (2 : Int32) n0 w)) w p1 p2
set_option maxHeartbeats 4000000 in
theorem m_X0_ofLot {l : Launch} {κ : Kx} {y : Ly} {X : XR} {post : Int32 → Int64 → Wd → Prop} {w : Wd} {oa : Nat} {n0 : Int64} {dd : UInt64} {ss : Value} {p1 : Int32} {p2 : Int32} (hfl : l.stackTraces = false) (hW : WFc κ y) (l0 : live y 0 0) (hX : X oa (.inr (15, [.long n0, .double dd, ss]))) (h : sp_X0_ofLot κ y post n0 w p1 p2) : vx_Met l yX0_ofLot (wsW_ yX0_ofLot cX0_ofLot 5 (Option.some Jvm.ClassFile.FieldType.int) [(0, 11, 14, 27), (0, 11, 18, 19)]) rm_X0_ofLot (va_Pc [.ref (y.2 0 0), .int (p1), .int (p2), .ref oa] (RC κ w y X)) (va_Qi (fun r (u : Wd × Int64) => post r u.2 u.1) (fun (u : Wd × Int64) t => Rp κ u.1 y (upX X oa (.inr (15, [.long u.2, .double dd, ss]))) [] t.heap) (Af κ)) (XF κ) 2 12 (Af κ) := by
  unfold sp_X0_ofLot at h
  refine vx_ofWH (cc := cX0_ofLot) (maxL := 5) (ret := (Option.some Jvm.ClassFile.FieldType.int)) (hh := [(0, 11, 14, 27), (0, 11, 18, 19)]) (by decide) rfl ?_
  intro p e s m args below meth c s₁ B hml hv
  obtain ⟨rfl, hR, hK⟩ := hv
  have hx := B.exec
  have hb := B.bytes
  have hr := B.returns
  have hts := atoms_spec (ws := wsW_ yX0_ofLot cX0_ofLot 5 (Option.some Jvm.ClassFile.FieldType.int) [(0, 11, 14, 27), (0, 11, 18, 19)]) B.pre
  have htab : c.exceptionTable.toList = tableOf [(0, 11, 14, 27), (0, 11, 18, 19)] := vx_table (x := yX0_ofLot) B (hts _ List.mem_cons_self)
  have hts : ∀ w ∈ lw_all, w.before _ s = true := fun w h => hts w (List.mem_cons_of_mem _ h)
  have hown : s.vm.findClass RX0 = some m.cls := findClass_of_methodNamed B.named
  have hS : va_S (Af κ) s.heap s.heap [] := va_S.rf
  have hl := lv_entry ([.ref (y.2 0 0), .int (p1), .int (p2), .ref oa]) (n := 5) (Nat.le_of_ble_eq_true rfl)
  rw [lg_entry_eq]
  generalize (lg_sl ([.ref (y.2 0 0), .int (p1), .int (p2), .ref oa]) ++ List.replicate (5 - (lg_sl ([.ref (y.2 0 0), .int (p1), .int (p2), .ref oa])).length) Slot.unset).toArray = ls at hl ⊢
  have hl : lv_has ls 5 [(0, .ref (y.2 0 0)), (1, .int (p1)), (2, .int (p2)), (3, .ref oa)] := hl
  refine lv_aload_n hx hb dX0_ofLot_0 rfl (lv_at hl 3 rfl) ?_
  refine lv_aload_n hx hb dX0_ofLot_1 rfl (lv_at hl 0 rfl) ?_
  refine lv_iload_n hx hb dX0_ofLot_2 rfl (lv_at hl 1 rfl) ?_
  refine lv_iload_n hx hb dX0_ofLot_3 rfl (lv_at hl 2 rfl) ?_
  refine cew_qi (fw := fun u => u) (fy := fun _ => y) (X := X) (L := []) (BB := fun _ => True) (fun _ _ h => ⟨h, trivial⟩) (crx_V (n := 2) (As := [.int (p1), .int (p2)]) (rest := [.ref oa]) ⟨hx, hb, hml, hown, hts⟩ hK hR (m_X1_ofLot hfl hW l0 h) q1640 q1641 q1642 q74 q1643 rfl rfl hd_X1_ofLot ⟨Nat.le_of_ble_eq_true rfl, Nat.le_of_ble_eq_true rfl⟩ (rv hK hR l0 (ci := 0) rfl rfl) rfl rfl hl.1 rfl (lv_room (Nat.le_of_ble_eq_true rfl)) dX0_ofLot_4 ⟨(Nat.le_of_ble_eq_true rfl), (Nat.le_of_ble_eq_true rfl)⟩) hR hS (fun E ce9 q9 u H locs hp hR hS hcell hv9 hcl => ?_) (fun r u H locs h hB hR hS => ?_)
  · have hR := hR.xsame hX
    rcases hp with ⟨rfl, h⟩ | ⟨rfl, h⟩
    · refine vx_catch (name := "java/lang/IndexOutOfBoundsException") hown [] ⟨0, 11, 14, 27⟩ [⟨0, 11, 18, 19⟩] htab (fun z9 hz9 => nomatch hz9) rfl (by decide) (hts _ q1006) (va_Nw.use rfl (hK.2.1.2.2.1 _ (List.mem_of_getElem? (i := 0) rfl))) hcell hv9 hcl ?_
      refine lv_astore (lv' := [(4, .ref q9), (0, .ref (y.2 0 0)), (1, .int (p1)), (2, .int (p2)), (3, .ref oa)]) hx hb dX0_ofLot_14 hl (by decide) rfl (fun ls hl => ?_)
      refine lv_iconst (v := (1 : Int32)) hx hb dX0_ofLot_16 (by decide) ?_
      exact vx_ret (W.iret (v := (1 : Int32)) hx hb hr (fun t ht hW9 => ⟨⟨(1 : Int32), (u, n0), rfl, h, rpt ht hR⟩, hS.F ht⟩) hS.2.2 dX0_ofLot_17)
    · refine vx_catch (name := "java/lang/IllegalArgumentException") hown [⟨0, 11, 14, 27⟩] ⟨0, 11, 18, 19⟩ [] htab (fun z9 hz9 => by rcases List.mem_cons.mp hz9 with rfl | hz9; exact Or.inr ⟨by decide, _, hts _ q1006, hK.2.1.2.2.2.2.2.2.2.2.2.2.2.2.2 _ (List.mem_of_getElem? (i := 0) rfl)⟩; exact (nomatch hz9)) rfl (by decide) (hts _ q784) (va_Nw.use rfl (hK.2.1.2.2.1 _ (List.mem_of_getElem? (i := 14) rfl))) hcell hv9 hcl ?_
      refine lv_astore (lv' := [(4, .ref q9), (0, .ref (y.2 0 0)), (1, .int (p1)), (2, .int (p2)), (3, .ref oa)]) hx hb dX0_ofLot_18 hl (by decide) rfl (fun ls hl => ?_)
      refine lv_iconst (v := (2 : Int32)) hx hb dX0_ofLot_20 (by decide) ?_
      exact vx_ret (W.iret (v := (2 : Int32)) hx hb hr (fun t ht hW9 => ⟨⟨(2 : Int32), (u, n0), rfl, h, rpt ht hR⟩, hS.F ht⟩) hS.2.2 dX0_ofLot_21)
  · refine lv_i2l hx hb dX0_ofLot_7 rfl ?_
    refine xa_putN (T := TX9) (N := 3) (ref := "PublicanryLaw$Out") (host := "PublicanryLaw") hx hb hts in_X9 tyX9 tyX9_ok nmX9 hown hK.1 hS (hR.2.2.2.1 _ _ hX).2.1 (hR.2.2.2.1 _ _ hX).1 rfl 0 (by decide) (va_Nw.use rfl (hK.2.1.2.1 _ (List.mem_of_getElem? (i := 1) rfl))) rfl rfl rfl rfl (Nat.le_of_ble_eq_true rfl) dX0_ofLot_8 (fun H1 locs h1 hz ho hS => ?_)
    have hR := hR.putXL hX h1 hz ho
    refine lv_goto (tgt := 22) hx hb dX0_ofLot_11 (by decide) ?_
    refine lv_iconst (v := (0 : Int32)) hx hb dX0_ofLot_22 (by decide) ?_
    exact vx_ret (W.iret (v := (0 : Int32)) hx hb hr (fun t ht hW9 => ⟨⟨(0 : Int32), (u, r.toInt64), rfl, h, rpt ht hR⟩, hS.F ht⟩) hS.2.2 dX0_ofLot_23)
abbrev rm_X0_gain : Room := { frames := 9, cells := 1, slots := 6, locals := 162 }
def sp_X0_gain (κ : Kx) (y : Ly) (post : Int32 → UInt64 → Wd → Prop) (n0 : UInt64) (w : Wd) (p1 : Int32) : Prop := sp_X1_gain κ y (fun r w => post (0 : Int32) r w) (fun E w => (E = "java/lang/IndexOutOfBoundsException" ∧ post (1 : Int32) n0 w)) w p1
set_option maxHeartbeats 4000000 in
theorem m_X0_gain {l : Launch} {κ : Kx} {y : Ly} {X : XR} {post : Int32 → UInt64 → Wd → Prop} {w : Wd} {oa : Nat} {n0 : UInt64} {dn : Int64} {ss : Value} {p1 : Int32} (hfl : l.stackTraces = false) (hW : WFc κ y) (l0 : live y 0 0) (hX : X oa (.inr (15, [.long dn, .double n0, ss]))) (h : sp_X0_gain κ y post n0 w p1) : vx_Met l yX0_gain (wsW_ yX0_gain cX0_gain 4 (Option.some Jvm.ClassFile.FieldType.int) [(0, 9, 12, 27)]) rm_X0_gain (va_Pc [.ref (y.2 0 0), .int (p1), .ref oa] (RC κ w y X)) (va_Qi (fun r (u : Wd × UInt64) => post r u.2 u.1) (fun (u : Wd × UInt64) t => Rp κ u.1 y (upX X oa (.inr (15, [.long dn, .double u.2, ss]))) [] t.heap) (Af κ)) (XF κ) 1 6 (Af κ) := by
  unfold sp_X0_gain at h
  refine vx_ofWH (cc := cX0_gain) (maxL := 4) (ret := (Option.some Jvm.ClassFile.FieldType.int)) (hh := [(0, 9, 12, 27)]) (by decide) rfl ?_
  intro p e s m args below meth c s₁ B hml hv
  obtain ⟨rfl, hR, hK⟩ := hv
  have hx := B.exec
  have hb := B.bytes
  have hr := B.returns
  have hts := atoms_spec (ws := wsW_ yX0_gain cX0_gain 4 (Option.some Jvm.ClassFile.FieldType.int) [(0, 9, 12, 27)]) B.pre
  have htab : c.exceptionTable.toList = tableOf [(0, 9, 12, 27)] := vx_table (x := yX0_gain) B (hts _ List.mem_cons_self)
  have hts : ∀ w ∈ lw_all, w.before _ s = true := fun w h => hts w (List.mem_cons_of_mem _ h)
  have hown : s.vm.findClass RX0 = some m.cls := findClass_of_methodNamed B.named
  have hS : va_S (Af κ) s.heap s.heap [] := va_S.rf
  have hl := lv_entry ([.ref (y.2 0 0), .int (p1), .ref oa]) (n := 4) (Nat.le_of_ble_eq_true rfl)
  rw [lg_entry_eq]
  generalize (lg_sl ([.ref (y.2 0 0), .int (p1), .ref oa]) ++ List.replicate (4 - (lg_sl ([.ref (y.2 0 0), .int (p1), .ref oa])).length) Slot.unset).toArray = ls at hl ⊢
  have hl : lv_has ls 4 [(0, .ref (y.2 0 0)), (1, .int (p1)), (2, .ref oa)] := hl
  refine lv_aload_n hx hb dX0_gain_0 rfl (lv_at hl 2 rfl) ?_
  refine lv_aload_n hx hb dX0_gain_1 rfl (lv_at hl 0 rfl) ?_
  refine lv_iload_n hx hb dX0_gain_2 rfl (lv_at hl 1 rfl) ?_
  refine cew_qd (fw := fun u => u) (fy := fun _ => y) (X := X) (L := []) (BB := fun _ => True) (fun _ _ h => ⟨h, trivial⟩) (crx_V (n := 1) (As := [.int (p1)]) (rest := [.ref oa]) ⟨hx, hb, hml, hown, hts⟩ hK hR (m_X1_gain hfl hW l0 h) q1888 q1889 q1890 q74 q1891 rfl rfl hd_X1_gain ⟨Nat.le_of_ble_eq_true rfl, Nat.le_of_ble_eq_true rfl⟩ (rv hK hR l0 (ci := 0) rfl rfl) rfl rfl hl.1 rfl (lv_room (Nat.le_of_ble_eq_true rfl)) dX0_gain_3 ⟨(Nat.le_of_ble_eq_true rfl), (Nat.le_of_ble_eq_true rfl)⟩) hR hS (fun E ce9 q9 u H locs hp hR hS hcell hv9 hcl => ?_) (fun r u H locs h hB hR hS => ?_)
  · have hR := hR.xsame hX
    obtain ⟨rfl, h⟩ := hp
    refine vx_catch (name := "java/lang/IndexOutOfBoundsException") hown [] ⟨0, 9, 12, 27⟩ [] htab (fun z9 hz9 => nomatch hz9) rfl (by decide) (hts _ q1006) (va_Nw.use rfl (hK.2.1.2.2.1 _ (List.mem_of_getElem? (i := 0) rfl))) hcell hv9 hcl ?_
    refine lv_astore_n (lv' := [(3, .ref q9), (0, .ref (y.2 0 0)), (1, .int (p1)), (2, .ref oa)]) hx hb dX0_gain_12 rfl hl (by decide) rfl (fun ls hl => ?_)
    refine lv_iconst (v := (1 : Int32)) hx hb dX0_gain_13 (by decide) ?_
    exact vx_ret (W.iret (v := (1 : Int32)) hx hb hr (fun t ht hW9 => ⟨⟨(1 : Int32), (u, n0), rfl, h, rpt ht hR⟩, hS.F ht⟩) hS.2.2 dX0_gain_14)
  · skip
    refine xa_putN (T := TX9) (N := 3) (ref := "PublicanryLaw$Out") (host := "PublicanryLaw") hx hb hts in_X9 tyX9 tyX9_ok nmX9 hown hK.1 hS (hR.2.2.2.1 _ _ hX).2.1 (hR.2.2.2.1 _ _ hX).1 rfl 1 (by decide) (va_Nw.use rfl (hK.2.1.2.1 _ (List.mem_of_getElem? (i := 2) rfl))) rfl rfl rfl rfl (Nat.le_of_ble_eq_true rfl) dX0_gain_6 (fun H1 locs h1 hz ho hS => ?_)
    have hR := hR.putXL hX h1 hz ho
    refine lv_goto (tgt := 15) hx hb dX0_gain_9 (by decide) ?_
    refine lv_iconst (v := (0 : Int32)) hx hb dX0_gain_15 (by decide) ?_
    exact vx_ret (W.iret (v := (0 : Int32)) hx hb hr (fun t ht hW9 => ⟨⟨(0 : Int32), (u, r), rfl, h, rpt ht hR⟩, hS.F ht⟩) hS.2.2 dX0_gain_16)
abbrev rm_X0_wouldBring : Room := { frames := 9, cells := 3, slots := 16, locals := 164 }
def sp_X0_wouldBring (κ : Kx) (y : Ly) (post : Int32 → Int64 → Wd → Prop) (n0 : Int64) (w : Wd) (p1 : Int32) (p2 : Int32) : Prop := sp_X1_wouldBring κ y (fun r w => post (0 : Int32) r.toInt64 w) (fun E w => (E = "java/lang/IndexOutOfBoundsException" ∧ post (1 : Int32) n0 w) ∨ (E = "java/lang/IllegalArgumentException" ∧ post (2 : Int32) n0 w)) w p1 p2
set_option maxHeartbeats 4000000 in
theorem m_X0_wouldBring {l : Launch} {κ : Kx} {y : Ly} {X : XR} {post : Int32 → Int64 → Wd → Prop} {w : Wd} {oa : Nat} {n0 : Int64} {dd : UInt64} {ss : Value} {p1 : Int32} {p2 : Int32} (hfl : l.stackTraces = false) (hW : WFc κ y) (l0 : live y 0 0) (hX : X oa (.inr (15, [.long n0, .double dd, ss]))) (h : sp_X0_wouldBring κ y post n0 w p1 p2) : vx_Met l yX0_wouldBring (wsW_ yX0_wouldBring cX0_wouldBring 5 (Option.some Jvm.ClassFile.FieldType.int) [(0, 11, 14, 27), (0, 11, 18, 19)]) rm_X0_wouldBring (va_Pc [.ref (y.2 0 0), .int (p1), .int (p2), .ref oa] (RC κ w y X)) (va_Qi (fun r (u : Wd × Int64) => post r u.2 u.1) (fun (u : Wd × Int64) t => Rp κ u.1 y (upX X oa (.inr (15, [.long u.2, .double dd, ss]))) [] t.heap) (Af κ)) (XF κ) 3 16 (Af κ) := by
  unfold sp_X0_wouldBring at h
  refine vx_ofWH (cc := cX0_wouldBring) (maxL := 5) (ret := (Option.some Jvm.ClassFile.FieldType.int)) (hh := [(0, 11, 14, 27), (0, 11, 18, 19)]) (by decide) rfl ?_
  intro p e s m args below meth c s₁ B hml hv
  obtain ⟨rfl, hR, hK⟩ := hv
  have hx := B.exec
  have hb := B.bytes
  have hr := B.returns
  have hts := atoms_spec (ws := wsW_ yX0_wouldBring cX0_wouldBring 5 (Option.some Jvm.ClassFile.FieldType.int) [(0, 11, 14, 27), (0, 11, 18, 19)]) B.pre
  have htab : c.exceptionTable.toList = tableOf [(0, 11, 14, 27), (0, 11, 18, 19)] := vx_table (x := yX0_wouldBring) B (hts _ List.mem_cons_self)
  have hts : ∀ w ∈ lw_all, w.before _ s = true := fun w h => hts w (List.mem_cons_of_mem _ h)
  have hown : s.vm.findClass RX0 = some m.cls := findClass_of_methodNamed B.named
  have hS : va_S (Af κ) s.heap s.heap [] := va_S.rf
  have hl := lv_entry ([.ref (y.2 0 0), .int (p1), .int (p2), .ref oa]) (n := 5) (Nat.le_of_ble_eq_true rfl)
  rw [lg_entry_eq]
  generalize (lg_sl ([.ref (y.2 0 0), .int (p1), .int (p2), .ref oa]) ++ List.replicate (5 - (lg_sl ([.ref (y.2 0 0), .int (p1), .int (p2), .ref oa])).length) Slot.unset).toArray = ls at hl ⊢
  have hl : lv_has ls 5 [(0, .ref (y.2 0 0)), (1, .int (p1)), (2, .int (p2)), (3, .ref oa)] := hl
  refine lv_aload_n hx hb dX0_wouldBring_0 rfl (lv_at hl 3 rfl) ?_
  refine lv_aload_n hx hb dX0_wouldBring_1 rfl (lv_at hl 0 rfl) ?_
  refine lv_iload_n hx hb dX0_wouldBring_2 rfl (lv_at hl 1 rfl) ?_
  refine lv_iload_n hx hb dX0_wouldBring_3 rfl (lv_at hl 2 rfl) ?_
  refine cew_qi (fw := fun u => u) (fy := fun _ => y) (X := X) (L := []) (BB := fun _ => True) (fun _ _ h => ⟨h, trivial⟩) (crx_V (n := 2) (As := [.int (p1), .int (p2)]) (rest := [.ref oa]) ⟨hx, hb, hml, hown, hts⟩ hK hR (m_X1_wouldBring hfl hW l0 h) q1895 q1896 q1897 q74 q1898 rfl rfl hd_X1_wouldBring ⟨Nat.le_of_ble_eq_true rfl, Nat.le_of_ble_eq_true rfl⟩ (rv hK hR l0 (ci := 0) rfl rfl) rfl rfl hl.1 rfl (lv_room (Nat.le_of_ble_eq_true rfl)) dX0_wouldBring_4 ⟨(Nat.le_of_ble_eq_true rfl), (Nat.le_of_ble_eq_true rfl)⟩) hR hS (fun E ce9 q9 u H locs hp hR hS hcell hv9 hcl => ?_) (fun r u H locs h hB hR hS => ?_)
  · have hR := hR.xsame hX
    rcases hp with ⟨rfl, h⟩ | ⟨rfl, h⟩
    · refine vx_catch (name := "java/lang/IndexOutOfBoundsException") hown [] ⟨0, 11, 14, 27⟩ [⟨0, 11, 18, 19⟩] htab (fun z9 hz9 => nomatch hz9) rfl (by decide) (hts _ q1006) (va_Nw.use rfl (hK.2.1.2.2.1 _ (List.mem_of_getElem? (i := 0) rfl))) hcell hv9 hcl ?_
      refine lv_astore (lv' := [(4, .ref q9), (0, .ref (y.2 0 0)), (1, .int (p1)), (2, .int (p2)), (3, .ref oa)]) hx hb dX0_wouldBring_14 hl (by decide) rfl (fun ls hl => ?_)
      refine lv_iconst (v := (1 : Int32)) hx hb dX0_wouldBring_16 (by decide) ?_
      exact vx_ret (W.iret (v := (1 : Int32)) hx hb hr (fun t ht hW9 => ⟨⟨(1 : Int32), (u, n0), rfl, h, rpt ht hR⟩, hS.F ht⟩) hS.2.2 dX0_wouldBring_17)
    · refine vx_catch (name := "java/lang/IllegalArgumentException") hown [⟨0, 11, 14, 27⟩] ⟨0, 11, 18, 19⟩ [] htab (fun z9 hz9 => by rcases List.mem_cons.mp hz9 with rfl | hz9; exact Or.inr ⟨by decide, _, hts _ q1006, hK.2.1.2.2.2.2.2.2.2.2.2.2.2.2.2 _ (List.mem_of_getElem? (i := 0) rfl)⟩; exact (nomatch hz9)) rfl (by decide) (hts _ q784) (va_Nw.use rfl (hK.2.1.2.2.1 _ (List.mem_of_getElem? (i := 14) rfl))) hcell hv9 hcl ?_
      refine lv_astore (lv' := [(4, .ref q9), (0, .ref (y.2 0 0)), (1, .int (p1)), (2, .int (p2)), (3, .ref oa)]) hx hb dX0_wouldBring_18 hl (by decide) rfl (fun ls hl => ?_)
      refine lv_iconst (v := (2 : Int32)) hx hb dX0_wouldBring_20 (by decide) ?_
      exact vx_ret (W.iret (v := (2 : Int32)) hx hb hr (fun t ht hW9 => ⟨⟨(2 : Int32), (u, n0), rfl, h, rpt ht hR⟩, hS.F ht⟩) hS.2.2 dX0_wouldBring_21)
  · refine lv_i2l hx hb dX0_wouldBring_7 rfl ?_
    refine xa_putN (T := TX9) (N := 3) (ref := "PublicanryLaw$Out") (host := "PublicanryLaw") hx hb hts in_X9 tyX9 tyX9_ok nmX9 hown hK.1 hS (hR.2.2.2.1 _ _ hX).2.1 (hR.2.2.2.1 _ _ hX).1 rfl 0 (by decide) (va_Nw.use rfl (hK.2.1.2.1 _ (List.mem_of_getElem? (i := 1) rfl))) rfl rfl rfl rfl (Nat.le_of_ble_eq_true rfl) dX0_wouldBring_8 (fun H1 locs h1 hz ho hS => ?_)
    have hR := hR.putXL hX h1 hz ho
    refine lv_goto (tgt := 22) hx hb dX0_wouldBring_11 (by decide) ?_
    refine lv_iconst (v := (0 : Int32)) hx hb dX0_wouldBring_22 (by decide) ?_
    exact vx_ret (W.iret (v := (0 : Int32)) hx hb hr (fun t ht hW9 => ⟨⟨(0 : Int32), (u, r.toInt64), rfl, h, rpt ht hR⟩, hS.F ht⟩) hS.2.2 dX0_wouldBring_23)
abbrev rm_X0_bestForce : Room := { frames := 9, cells := 9, slots := 38, locals := 173 }
def sp_X0_bestForce (κ : Kx) (y : Ly) (post : Int32 → Int64 → Wd → Prop) (n0 : Int64) (w : Wd) (p1 : Int32) : Prop := sp_X1_bestForce κ y (fun r w => post (0 : Int32) r.toInt64 w) (fun E w => (E = "java/lang/IndexOutOfBoundsException" ∧ post (1 : Int32) n0 w)) w p1
set_option maxHeartbeats 4000000 in
theorem m_X0_bestForce {l : Launch} {κ : Kx} {y : Ly} {X : XR} {post : Int32 → Int64 → Wd → Prop} {w : Wd} {oa : Nat} {n0 : Int64} {dd : UInt64} {ss : Value} {p1 : Int32} (hfl : l.stackTraces = false) (hW : WFc κ y) (l0 : live y 0 0) (hX : X oa (.inr (15, [.long n0, .double dd, ss]))) (h : sp_X0_bestForce κ y post n0 w p1) : vx_Met l yX0_bestForce (wsW_ yX0_bestForce cX0_bestForce 4 (Option.some Jvm.ClassFile.FieldType.int) [(0, 10, 13, 27)]) rm_X0_bestForce (va_Pc [.ref (y.2 0 0), .int (p1), .ref oa] (RC κ w y X)) (va_Qi (fun r (u : Wd × Int64) => post r u.2 u.1) (fun (u : Wd × Int64) t => Rp κ u.1 y (upX X oa (.inr (15, [.long u.2, .double dd, ss]))) [] t.heap) (Af κ)) (XF κ) 9 38 (Af κ) := by
  unfold sp_X0_bestForce at h
  refine vx_ofWH (cc := cX0_bestForce) (maxL := 4) (ret := (Option.some Jvm.ClassFile.FieldType.int)) (hh := [(0, 10, 13, 27)]) (by decide) rfl ?_
  intro p e s m args below meth c s₁ B hml hv
  obtain ⟨rfl, hR, hK⟩ := hv
  have hx := B.exec
  have hb := B.bytes
  have hr := B.returns
  have hts := atoms_spec (ws := wsW_ yX0_bestForce cX0_bestForce 4 (Option.some Jvm.ClassFile.FieldType.int) [(0, 10, 13, 27)]) B.pre
  have htab : c.exceptionTable.toList = tableOf [(0, 10, 13, 27)] := vx_table (x := yX0_bestForce) B (hts _ List.mem_cons_self)
  have hts : ∀ w ∈ lw_all, w.before _ s = true := fun w h => hts w (List.mem_cons_of_mem _ h)
  have hown : s.vm.findClass RX0 = some m.cls := findClass_of_methodNamed B.named
  have hS : va_S (Af κ) s.heap s.heap [] := va_S.rf
  have hl := lv_entry ([.ref (y.2 0 0), .int (p1), .ref oa]) (n := 4) (Nat.le_of_ble_eq_true rfl)
  rw [lg_entry_eq]
  generalize (lg_sl ([.ref (y.2 0 0), .int (p1), .ref oa]) ++ List.replicate (4 - (lg_sl ([.ref (y.2 0 0), .int (p1), .ref oa])).length) Slot.unset).toArray = ls at hl ⊢
  have hl : lv_has ls 4 [(0, .ref (y.2 0 0)), (1, .int (p1)), (2, .ref oa)] := hl
  refine lv_aload_n hx hb dX0_bestForce_0 rfl (lv_at hl 2 rfl) ?_
  refine lv_aload_n hx hb dX0_bestForce_1 rfl (lv_at hl 0 rfl) ?_
  refine lv_iload_n hx hb dX0_bestForce_2 rfl (lv_at hl 1 rfl) ?_
  refine cew_qi (fw := fun u => u) (fy := fun _ => y) (X := X) (L := []) (BB := fun _ => True) (fun _ _ h => ⟨h, trivial⟩) (crx_V (n := 1) (As := [.int (p1)]) (rest := [.ref oa]) ⟨hx, hb, hml, hown, hts⟩ hK hR (m_X1_bestForce hfl hW l0 h) q1902 q1903 q1904 q74 q1905 rfl rfl hd_X1_bestForce ⟨Nat.le_of_ble_eq_true rfl, Nat.le_of_ble_eq_true rfl⟩ (rv hK hR l0 (ci := 0) rfl rfl) rfl rfl hl.1 rfl (lv_room (Nat.le_of_ble_eq_true rfl)) dX0_bestForce_3 ⟨(Nat.le_of_ble_eq_true rfl), (Nat.le_of_ble_eq_true rfl)⟩) hR hS (fun E ce9 q9 u H locs hp hR hS hcell hv9 hcl => ?_) (fun r u H locs h hB hR hS => ?_)
  · have hR := hR.xsame hX
    obtain ⟨rfl, h⟩ := hp
    refine vx_catch (name := "java/lang/IndexOutOfBoundsException") hown [] ⟨0, 10, 13, 27⟩ [] htab (fun z9 hz9 => nomatch hz9) rfl (by decide) (hts _ q1006) (va_Nw.use rfl (hK.2.1.2.2.1 _ (List.mem_of_getElem? (i := 0) rfl))) hcell hv9 hcl ?_
    refine lv_astore_n (lv' := [(3, .ref q9), (0, .ref (y.2 0 0)), (1, .int (p1)), (2, .ref oa)]) hx hb dX0_bestForce_13 rfl hl (by decide) rfl (fun ls hl => ?_)
    refine lv_iconst (v := (1 : Int32)) hx hb dX0_bestForce_14 (by decide) ?_
    exact vx_ret (W.iret (v := (1 : Int32)) hx hb hr (fun t ht hW9 => ⟨⟨(1 : Int32), (u, n0), rfl, h, rpt ht hR⟩, hS.F ht⟩) hS.2.2 dX0_bestForce_15)
  · refine lv_i2l hx hb dX0_bestForce_6 rfl ?_
    refine xa_putN (T := TX9) (N := 3) (ref := "PublicanryLaw$Out") (host := "PublicanryLaw") hx hb hts in_X9 tyX9 tyX9_ok nmX9 hown hK.1 hS (hR.2.2.2.1 _ _ hX).2.1 (hR.2.2.2.1 _ _ hX).1 rfl 0 (by decide) (va_Nw.use rfl (hK.2.1.2.1 _ (List.mem_of_getElem? (i := 1) rfl))) rfl rfl rfl rfl (Nat.le_of_ble_eq_true rfl) dX0_bestForce_7 (fun H1 locs h1 hz ho hS => ?_)
    have hR := hR.putXL hX h1 hz ho
    refine lv_goto (tgt := 16) hx hb dX0_bestForce_10 (by decide) ?_
    refine lv_iconst (v := (0 : Int32)) hx hb dX0_bestForce_16 (by decide) ?_
    exact vx_ret (W.iret (v := (0 : Int32)) hx hb hr (fun t ht hW9 => ⟨⟨(0 : Int32), (u, r.toInt64), rfl, h, rpt ht hR⟩, hS.F ht⟩) hS.2.2 dX0_bestForce_17)
abbrev rm_X0_votes : Room := { frames := 9, cells := 4, slots := 21, locals := 167 }
def sp_X0_votes (κ : Kx) (y : Ly) (post : Int32 → Int64 → Wd → Prop) (n0 : Int64) (w : Wd) (p1 : Int32) (p2 : Int32) (p3 : Int32) (p4 : Int32) : Prop := sp_X1_votes_2 κ y (fun r w => post (0 : Int32) r.toInt64 w) (fun E w => (E = "java/lang/IndexOutOfBoundsException" ∧ post (1 : Int32) n0 w) ∨ (E = "java/lang/IllegalArgumentException" ∧ post (2 : Int32) n0 w)) w p1 p2 p3 p4
set_option maxHeartbeats 4000000 in
theorem m_X0_votes {l : Launch} {κ : Kx} {y : Ly} {X : XR} {post : Int32 → Int64 → Wd → Prop} {w : Wd} {oa : Nat} {n0 : Int64} {dd : UInt64} {ss : Value} {p1 : Int32} {p2 : Int32} {p3 : Int32} {p4 : Int32} (hfl : l.stackTraces = false) (hW : WFc κ y) (l0 : live y 0 0) (hX : X oa (.inr (15, [.long n0, .double dd, ss]))) (h : sp_X0_votes κ y post n0 w p1 p2 p3 p4) : vx_Met l yX0_votes (wsW_ yX0_votes cX0_votes 7 (Option.some Jvm.ClassFile.FieldType.int) [(0, 15, 18, 27), (0, 15, 22, 19)]) rm_X0_votes (va_Pc [.ref (y.2 0 0), .int (p1), .int (p2), .int (p3), .int (p4), .ref oa] (RC κ w y X)) (va_Qi (fun r (u : Wd × Int64) => post r u.2 u.1) (fun (u : Wd × Int64) t => Rp κ u.1 y (upX X oa (.inr (15, [.long u.2, .double dd, ss]))) [] t.heap) (Af κ)) (XF κ) 4 21 (Af κ) := by
  unfold sp_X0_votes at h
  refine vx_ofWH (cc := cX0_votes) (maxL := 7) (ret := (Option.some Jvm.ClassFile.FieldType.int)) (hh := [(0, 15, 18, 27), (0, 15, 22, 19)]) (by decide) rfl ?_
  intro p e s m args below meth c s₁ B hml hv
  obtain ⟨rfl, hR, hK⟩ := hv
  have hx := B.exec
  have hb := B.bytes
  have hr := B.returns
  have hts := atoms_spec (ws := wsW_ yX0_votes cX0_votes 7 (Option.some Jvm.ClassFile.FieldType.int) [(0, 15, 18, 27), (0, 15, 22, 19)]) B.pre
  have htab : c.exceptionTable.toList = tableOf [(0, 15, 18, 27), (0, 15, 22, 19)] := vx_table (x := yX0_votes) B (hts _ List.mem_cons_self)
  have hts : ∀ w ∈ lw_all, w.before _ s = true := fun w h => hts w (List.mem_cons_of_mem _ h)
  have hown : s.vm.findClass RX0 = some m.cls := findClass_of_methodNamed B.named
  have hS : va_S (Af κ) s.heap s.heap [] := va_S.rf
  have hl := lv_entry ([.ref (y.2 0 0), .int (p1), .int (p2), .int (p3), .int (p4), .ref oa]) (n := 7) (Nat.le_of_ble_eq_true rfl)
  rw [lg_entry_eq]
  generalize (lg_sl ([.ref (y.2 0 0), .int (p1), .int (p2), .int (p3), .int (p4), .ref oa]) ++ List.replicate (7 - (lg_sl ([.ref (y.2 0 0), .int (p1), .int (p2), .int (p3), .int (p4), .ref oa])).length) Slot.unset).toArray = ls at hl ⊢
  have hl : lv_has ls 7 [(0, .ref (y.2 0 0)), (1, .int (p1)), (2, .int (p2)), (3, .int (p3)), (4, .int (p4)), (5, .ref oa)] := hl
  refine lv_aload hx hb dX0_votes_0 (lv_at hl 5 rfl) ?_
  refine lv_aload_n hx hb dX0_votes_2 rfl (lv_at hl 0 rfl) ?_
  refine lv_iload_n hx hb dX0_votes_3 rfl (lv_at hl 1 rfl) ?_
  refine lv_iload_n hx hb dX0_votes_4 rfl (lv_at hl 2 rfl) ?_
  refine lv_iload_n hx hb dX0_votes_5 rfl (lv_at hl 3 rfl) ?_
  refine lv_iload hx hb dX0_votes_6 (lv_at hl 4 rfl) ?_
  refine cew_qi (fw := fun u => u) (fy := fun _ => y) (X := X) (L := []) (BB := fun _ => True) (fun _ _ h => ⟨h, trivial⟩) (crx_V (n := 4) (As := [.int (p1), .int (p2), .int (p3), .int (p4)]) (rest := [.ref oa]) ⟨hx, hb, hml, hown, hts⟩ hK hR (m_X1_votes_2 hfl hW l0 h) q1909 q1910 q1911 q74 q1912 rfl rfl hd_X1_votes_2 ⟨Nat.le_of_ble_eq_true rfl, Nat.le_of_ble_eq_true rfl⟩ (rv hK hR l0 (ci := 0) rfl rfl) rfl rfl hl.1 rfl (lv_room (Nat.le_of_ble_eq_true rfl)) dX0_votes_8 ⟨(Nat.le_of_ble_eq_true rfl), (Nat.le_of_ble_eq_true rfl)⟩) hR hS (fun E ce9 q9 u H locs hp hR hS hcell hv9 hcl => ?_) (fun r u H locs h hB hR hS => ?_)
  · have hR := hR.xsame hX
    rcases hp with ⟨rfl, h⟩ | ⟨rfl, h⟩
    · refine vx_catch (name := "java/lang/IndexOutOfBoundsException") hown [] ⟨0, 15, 18, 27⟩ [⟨0, 15, 22, 19⟩] htab (fun z9 hz9 => nomatch hz9) rfl (by decide) (hts _ q1006) (va_Nw.use rfl (hK.2.1.2.2.1 _ (List.mem_of_getElem? (i := 0) rfl))) hcell hv9 hcl ?_
      refine lv_astore (lv' := [(6, .ref q9), (0, .ref (y.2 0 0)), (1, .int (p1)), (2, .int (p2)), (3, .int (p3)), (4, .int (p4)), (5, .ref oa)]) hx hb dX0_votes_18 hl (by decide) rfl (fun ls hl => ?_)
      refine lv_iconst (v := (1 : Int32)) hx hb dX0_votes_20 (by decide) ?_
      exact vx_ret (W.iret (v := (1 : Int32)) hx hb hr (fun t ht hW9 => ⟨⟨(1 : Int32), (u, n0), rfl, h, rpt ht hR⟩, hS.F ht⟩) hS.2.2 dX0_votes_21)
    · refine vx_catch (name := "java/lang/IllegalArgumentException") hown [⟨0, 15, 18, 27⟩] ⟨0, 15, 22, 19⟩ [] htab (fun z9 hz9 => by rcases List.mem_cons.mp hz9 with rfl | hz9; exact Or.inr ⟨by decide, _, hts _ q1006, hK.2.1.2.2.2.2.2.2.2.2.2.2.2.2.2 _ (List.mem_of_getElem? (i := 0) rfl)⟩; exact (nomatch hz9)) rfl (by decide) (hts _ q784) (va_Nw.use rfl (hK.2.1.2.2.1 _ (List.mem_of_getElem? (i := 14) rfl))) hcell hv9 hcl ?_
      refine lv_astore (lv' := [(6, .ref q9), (0, .ref (y.2 0 0)), (1, .int (p1)), (2, .int (p2)), (3, .int (p3)), (4, .int (p4)), (5, .ref oa)]) hx hb dX0_votes_22 hl (by decide) rfl (fun ls hl => ?_)
      refine lv_iconst (v := (2 : Int32)) hx hb dX0_votes_24 (by decide) ?_
      exact vx_ret (W.iret (v := (2 : Int32)) hx hb hr (fun t ht hW9 => ⟨⟨(2 : Int32), (u, n0), rfl, h, rpt ht hR⟩, hS.F ht⟩) hS.2.2 dX0_votes_25)
  · refine lv_i2l hx hb dX0_votes_11 rfl ?_
    refine xa_putN (T := TX9) (N := 3) (ref := "PublicanryLaw$Out") (host := "PublicanryLaw") hx hb hts in_X9 tyX9 tyX9_ok nmX9 hown hK.1 hS (hR.2.2.2.1 _ _ hX).2.1 (hR.2.2.2.1 _ _ hX).1 rfl 0 (by decide) (va_Nw.use rfl (hK.2.1.2.1 _ (List.mem_of_getElem? (i := 1) rfl))) rfl rfl rfl rfl (Nat.le_of_ble_eq_true rfl) dX0_votes_12 (fun H1 locs h1 hz ho hS => ?_)
    have hR := hR.putXL hX h1 hz ho
    refine lv_goto (tgt := 26) hx hb dX0_votes_15 (by decide) ?_
    refine lv_iconst (v := (0 : Int32)) hx hb dX0_votes_26 (by decide) ?_
    exact vx_ret (W.iret (v := (0 : Int32)) hx hb hr (fun t ht hW9 => ⟨⟨(0 : Int32), (u, r.toInt64), rfl, h, rpt ht hR⟩, hS.F ht⟩) hS.2.2 dX0_votes_27)
abbrev rm_X0_harvest : Room := { frames := 9, cells := 2, slots := 12, locals := 164 }
def sp_X0_harvest (κ : Kx) (y : Ly) (post : Int32 → Int64 → Wd → Prop) (n0 : Int64) (w : Wd) (p1 : Int32) (p2 : Int32) : Prop := sp_X1_harvest κ y (fun r w => post (0 : Int32) r.toInt64 w) (fun E w => (E = "java/lang/IndexOutOfBoundsException" ∧ post (1 : Int32) n0 w) ∨ (E = "java/lang/IllegalArgumentException" ∧ post (2 : Int32) n0 w)) w p1 p2
set_option maxHeartbeats 4000000 in
theorem m_X0_harvest {l : Launch} {κ : Kx} {y : Ly} {X : XR} {post : Int32 → Int64 → Wd → Prop} {w : Wd} {oa : Nat} {n0 : Int64} {dd : UInt64} {ss : Value} {p1 : Int32} {p2 : Int32} (hfl : l.stackTraces = false) (hW : WFc κ y) (l0 : live y 0 0) (hX : X oa (.inr (15, [.long n0, .double dd, ss]))) (h : sp_X0_harvest κ y post n0 w p1 p2) : vx_Met l yX0_harvest (wsW_ yX0_harvest cX0_harvest 5 (Option.some Jvm.ClassFile.FieldType.int) [(0, 11, 14, 27), (0, 11, 18, 19)]) rm_X0_harvest (va_Pc [.ref (y.2 0 0), .int (p1), .int (p2), .ref oa] (RC κ w y X)) (va_Qi (fun r (u : Wd × Int64) => post r u.2 u.1) (fun (u : Wd × Int64) t => Rp κ u.1 y (upX X oa (.inr (15, [.long u.2, .double dd, ss]))) [] t.heap) (Af κ)) (XF κ) 2 12 (Af κ) := by
  unfold sp_X0_harvest at h
  refine vx_ofWH (cc := cX0_harvest) (maxL := 5) (ret := (Option.some Jvm.ClassFile.FieldType.int)) (hh := [(0, 11, 14, 27), (0, 11, 18, 19)]) (by decide) rfl ?_
  intro p e s m args below meth c s₁ B hml hv
  obtain ⟨rfl, hR, hK⟩ := hv
  have hx := B.exec
  have hb := B.bytes
  have hr := B.returns
  have hts := atoms_spec (ws := wsW_ yX0_harvest cX0_harvest 5 (Option.some Jvm.ClassFile.FieldType.int) [(0, 11, 14, 27), (0, 11, 18, 19)]) B.pre
  have htab : c.exceptionTable.toList = tableOf [(0, 11, 14, 27), (0, 11, 18, 19)] := vx_table (x := yX0_harvest) B (hts _ List.mem_cons_self)
  have hts : ∀ w ∈ lw_all, w.before _ s = true := fun w h => hts w (List.mem_cons_of_mem _ h)
  have hown : s.vm.findClass RX0 = some m.cls := findClass_of_methodNamed B.named
  have hS : va_S (Af κ) s.heap s.heap [] := va_S.rf
  have hl := lv_entry ([.ref (y.2 0 0), .int (p1), .int (p2), .ref oa]) (n := 5) (Nat.le_of_ble_eq_true rfl)
  rw [lg_entry_eq]
  generalize (lg_sl ([.ref (y.2 0 0), .int (p1), .int (p2), .ref oa]) ++ List.replicate (5 - (lg_sl ([.ref (y.2 0 0), .int (p1), .int (p2), .ref oa])).length) Slot.unset).toArray = ls at hl ⊢
  have hl : lv_has ls 5 [(0, .ref (y.2 0 0)), (1, .int (p1)), (2, .int (p2)), (3, .ref oa)] := hl
  refine lv_aload_n hx hb dX0_harvest_0 rfl (lv_at hl 3 rfl) ?_
  refine lv_aload_n hx hb dX0_harvest_1 rfl (lv_at hl 0 rfl) ?_
  refine lv_iload_n hx hb dX0_harvest_2 rfl (lv_at hl 1 rfl) ?_
  refine lv_iload_n hx hb dX0_harvest_3 rfl (lv_at hl 2 rfl) ?_
  refine cew_qi (fw := fun u => u) (fy := fun _ => y) (X := X) (L := []) (BB := fun _ => True) (fun _ _ h => ⟨h, trivial⟩) (crx_V (n := 2) (As := [.int (p1), .int (p2)]) (rest := [.ref oa]) ⟨hx, hb, hml, hown, hts⟩ hK hR (m_X1_harvest hfl hW l0 h) q1917 q1918 q1919 q74 q1920 rfl rfl hd_X1_harvest ⟨Nat.le_of_ble_eq_true rfl, Nat.le_of_ble_eq_true rfl⟩ (rv hK hR l0 (ci := 0) rfl rfl) rfl rfl hl.1 rfl (lv_room (Nat.le_of_ble_eq_true rfl)) dX0_harvest_4 ⟨(Nat.le_of_ble_eq_true rfl), (Nat.le_of_ble_eq_true rfl)⟩) hR hS (fun E ce9 q9 u H locs hp hR hS hcell hv9 hcl => ?_) (fun r u H locs h hB hR hS => ?_)
  · have hR := hR.xsame hX
    rcases hp with ⟨rfl, h⟩ | ⟨rfl, h⟩
    · refine vx_catch (name := "java/lang/IndexOutOfBoundsException") hown [] ⟨0, 11, 14, 27⟩ [⟨0, 11, 18, 19⟩] htab (fun z9 hz9 => nomatch hz9) rfl (by decide) (hts _ q1006) (va_Nw.use rfl (hK.2.1.2.2.1 _ (List.mem_of_getElem? (i := 0) rfl))) hcell hv9 hcl ?_
      refine lv_astore (lv' := [(4, .ref q9), (0, .ref (y.2 0 0)), (1, .int (p1)), (2, .int (p2)), (3, .ref oa)]) hx hb dX0_harvest_14 hl (by decide) rfl (fun ls hl => ?_)
      refine lv_iconst (v := (1 : Int32)) hx hb dX0_harvest_16 (by decide) ?_
      exact vx_ret (W.iret (v := (1 : Int32)) hx hb hr (fun t ht hW9 => ⟨⟨(1 : Int32), (u, n0), rfl, h, rpt ht hR⟩, hS.F ht⟩) hS.2.2 dX0_harvest_17)
    · refine vx_catch (name := "java/lang/IllegalArgumentException") hown [⟨0, 11, 14, 27⟩] ⟨0, 11, 18, 19⟩ [] htab (fun z9 hz9 => by rcases List.mem_cons.mp hz9 with rfl | hz9; exact Or.inr ⟨by decide, _, hts _ q1006, hK.2.1.2.2.2.2.2.2.2.2.2.2.2.2.2 _ (List.mem_of_getElem? (i := 0) rfl)⟩; exact (nomatch hz9)) rfl (by decide) (hts _ q784) (va_Nw.use rfl (hK.2.1.2.2.1 _ (List.mem_of_getElem? (i := 14) rfl))) hcell hv9 hcl ?_
      refine lv_astore (lv' := [(4, .ref q9), (0, .ref (y.2 0 0)), (1, .int (p1)), (2, .int (p2)), (3, .ref oa)]) hx hb dX0_harvest_18 hl (by decide) rfl (fun ls hl => ?_)
      refine lv_iconst (v := (2 : Int32)) hx hb dX0_harvest_20 (by decide) ?_
      exact vx_ret (W.iret (v := (2 : Int32)) hx hb hr (fun t ht hW9 => ⟨⟨(2 : Int32), (u, n0), rfl, h, rpt ht hR⟩, hS.F ht⟩) hS.2.2 dX0_harvest_21)
  · refine lv_i2l hx hb dX0_harvest_7 rfl ?_
    refine xa_putN (T := TX9) (N := 3) (ref := "PublicanryLaw$Out") (host := "PublicanryLaw") hx hb hts in_X9 tyX9 tyX9_ok nmX9 hown hK.1 hS (hR.2.2.2.1 _ _ hX).2.1 (hR.2.2.2.1 _ _ hX).1 rfl 0 (by decide) (va_Nw.use rfl (hK.2.1.2.1 _ (List.mem_of_getElem? (i := 1) rfl))) rfl rfl rfl rfl (Nat.le_of_ble_eq_true rfl) dX0_harvest_8 (fun H1 locs h1 hz ho hS => ?_)
    have hR := hR.putXL hX h1 hz ho
    refine lv_goto (tgt := 22) hx hb dX0_harvest_11 (by decide) ?_
    refine lv_iconst (v := (0 : Int32)) hx hb dX0_harvest_22 (by decide) ?_
    exact vx_ret (W.iret (v := (0 : Int32)) hx hb hr (fun t ht hW9 => ⟨⟨(0 : Int32), (u, r.toInt64), rfl, h, rpt ht hR⟩, hS.F ht⟩) hS.2.2 dX0_harvest_23)
abbrev rm_X0_direct : Room := { frames := 9, cells := 12, slots := 49, locals := 161 }
def sp_X0_direct (κ : Kx) (y : Ly) (post : Int32 → Int64 → Wd → Prop) (n0 : Int64) (w : Wd) (p1 : Int32) : Prop := sp_X1_direct_2 κ y (fun r w => post (0 : Int32) r.toInt64 w) (fun E w => (E = "java/lang/IndexOutOfBoundsException" ∧ post (1 : Int32) n0 w)) w p1
set_option maxHeartbeats 4000000 in
theorem m_X0_direct {l : Launch} {κ : Kx} {y : Ly} {X : XR} {post : Int32 → Int64 → Wd → Prop} {w : Wd} {oa : Nat} {n0 : Int64} {dd : UInt64} {ss : Value} {p1 : Int32} (hfl : l.stackTraces = false) (hW : WFc κ y) (l0 : live y 0 0) (hX : X oa (.inr (15, [.long n0, .double dd, ss]))) (h : sp_X0_direct κ y post n0 w p1) : vx_Met l yX0_direct (wsW_ yX0_direct cX0_direct 4 (Option.some Jvm.ClassFile.FieldType.int) [(0, 10, 13, 27)]) rm_X0_direct (va_Pc [.ref (y.2 0 0), .int (p1), .ref oa] (RC κ w y X)) (va_Qi (fun r (u : Wd × Int64) => post r u.2 u.1) (fun (u : Wd × Int64) t => Rp κ u.1 y (upX X oa (.inr (15, [.long u.2, .double dd, ss]))) [] t.heap) (Af κ)) (XF κ) 12 49 (Af κ) := by
  unfold sp_X0_direct at h
  refine vx_ofWH (cc := cX0_direct) (maxL := 4) (ret := (Option.some Jvm.ClassFile.FieldType.int)) (hh := [(0, 10, 13, 27)]) (by decide) rfl ?_
  intro p e s m args below meth c s₁ B hml hv
  obtain ⟨rfl, hR, hK⟩ := hv
  have hx := B.exec
  have hb := B.bytes
  have hr := B.returns
  have hts := atoms_spec (ws := wsW_ yX0_direct cX0_direct 4 (Option.some Jvm.ClassFile.FieldType.int) [(0, 10, 13, 27)]) B.pre
  have htab : c.exceptionTable.toList = tableOf [(0, 10, 13, 27)] := vx_table (x := yX0_direct) B (hts _ List.mem_cons_self)
  have hts : ∀ w ∈ lw_all, w.before _ s = true := fun w h => hts w (List.mem_cons_of_mem _ h)
  have hown : s.vm.findClass RX0 = some m.cls := findClass_of_methodNamed B.named
  have hS : va_S (Af κ) s.heap s.heap [] := va_S.rf
  have hl := lv_entry ([.ref (y.2 0 0), .int (p1), .ref oa]) (n := 4) (Nat.le_of_ble_eq_true rfl)
  rw [lg_entry_eq]
  generalize (lg_sl ([.ref (y.2 0 0), .int (p1), .ref oa]) ++ List.replicate (4 - (lg_sl ([.ref (y.2 0 0), .int (p1), .ref oa])).length) Slot.unset).toArray = ls at hl ⊢
  have hl : lv_has ls 4 [(0, .ref (y.2 0 0)), (1, .int (p1)), (2, .ref oa)] := hl
  refine lv_aload_n hx hb dX0_direct_0 rfl (lv_at hl 2 rfl) ?_
  refine lv_aload_n hx hb dX0_direct_1 rfl (lv_at hl 0 rfl) ?_
  refine lv_iload_n hx hb dX0_direct_2 rfl (lv_at hl 1 rfl) ?_
  refine cew_qi (fw := fun u => u) (fy := fun _ => y) (X := X) (L := []) (BB := fun _ => True) (fun _ _ h => ⟨h, trivial⟩) (crx_V (n := 1) (As := [.int (p1)]) (rest := [.ref oa]) ⟨hx, hb, hml, hown, hts⟩ hK hR (m_X1_direct_2 hfl hW l0 h) q1926 q1927 q1928 q74 q1929 rfl rfl hd_X1_direct_2 ⟨Nat.le_of_ble_eq_true rfl, Nat.le_of_ble_eq_true rfl⟩ (rv hK hR l0 (ci := 0) rfl rfl) rfl rfl hl.1 rfl (lv_room (Nat.le_of_ble_eq_true rfl)) dX0_direct_3 ⟨(Nat.le_of_ble_eq_true rfl), (Nat.le_of_ble_eq_true rfl)⟩) hR hS (fun E ce9 q9 u H locs hp hR hS hcell hv9 hcl => ?_) (fun r u H locs h hB hR hS => ?_)
  · have hR := hR.xsame hX
    obtain ⟨rfl, h⟩ := hp
    refine vx_catch (name := "java/lang/IndexOutOfBoundsException") hown [] ⟨0, 10, 13, 27⟩ [] htab (fun z9 hz9 => nomatch hz9) rfl (by decide) (hts _ q1006) (va_Nw.use rfl (hK.2.1.2.2.1 _ (List.mem_of_getElem? (i := 0) rfl))) hcell hv9 hcl ?_
    refine lv_astore_n (lv' := [(3, .ref q9), (0, .ref (y.2 0 0)), (1, .int (p1)), (2, .ref oa)]) hx hb dX0_direct_13 rfl hl (by decide) rfl (fun ls hl => ?_)
    refine lv_iconst (v := (1 : Int32)) hx hb dX0_direct_14 (by decide) ?_
    exact vx_ret (W.iret (v := (1 : Int32)) hx hb hr (fun t ht hW9 => ⟨⟨(1 : Int32), (u, n0), rfl, h, rpt ht hR⟩, hS.F ht⟩) hS.2.2 dX0_direct_15)
  · refine lv_i2l hx hb dX0_direct_6 rfl ?_
    refine xa_putN (T := TX9) (N := 3) (ref := "PublicanryLaw$Out") (host := "PublicanryLaw") hx hb hts in_X9 tyX9 tyX9_ok nmX9 hown hK.1 hS (hR.2.2.2.1 _ _ hX).2.1 (hR.2.2.2.1 _ _ hX).1 rfl 0 (by decide) (va_Nw.use rfl (hK.2.1.2.1 _ (List.mem_of_getElem? (i := 1) rfl))) rfl rfl rfl rfl (Nat.le_of_ble_eq_true rfl) dX0_direct_7 (fun H1 locs h1 hz ho hS => ?_)
    have hR := hR.putXL hX h1 hz ho
    refine lv_goto (tgt := 16) hx hb dX0_direct_10 (by decide) ?_
    refine lv_iconst (v := (0 : Int32)) hx hb dX0_direct_16 (by decide) ?_
    exact vx_ret (W.iret (v := (0 : Int32)) hx hb hr (fun t ht hW9 => ⟨⟨(0 : Int32), (u, r.toInt64), rfl, h, rpt ht hR⟩, hS.F ht⟩) hS.2.2 dX0_direct_17)
abbrev rm_X0_wouldWin : Room := { frames := 9, cells := 6, slots := 22, locals := 163 }
def sp_X0_wouldWin (κ : Kx) (y : Ly) (post : Int32 → Int64 → Wd → Prop) (n0 : Int64) (w : Wd) (p1 : Int32) : Prop := sp_X1_wouldWin κ y (fun r w => post (0 : Int32) r.toInt64 w) (fun E w => (E = "java/lang/IndexOutOfBoundsException" ∧ post (1 : Int32) n0 w) ∨ (E = "java/lang/IllegalStateException" ∧ post (2 : Int32) n0 w)) w p1
set_option maxHeartbeats 4000000 in
theorem m_X0_wouldWin {l : Launch} {κ : Kx} {y : Ly} {X : XR} {post : Int32 → Int64 → Wd → Prop} {w : Wd} {oa : Nat} {n0 : Int64} {dd : UInt64} {ss : Value} {p1 : Int32} (hfl : l.stackTraces = false) (hW : WFc κ y) (l0 : live y 0 0) (hX : X oa (.inr (15, [.long n0, .double dd, ss]))) (h : sp_X0_wouldWin κ y post n0 w p1) : vx_Met l yX0_wouldWin (wsW_ yX0_wouldWin cX0_wouldWin 4 (Option.some Jvm.ClassFile.FieldType.int) [(0, 10, 13, 27), (0, 10, 16, 21)]) rm_X0_wouldWin (va_Pc [.ref (y.2 0 0), .int (p1), .ref oa] (RC κ w y X)) (va_Qi (fun r (u : Wd × Int64) => post r u.2 u.1) (fun (u : Wd × Int64) t => Rp κ u.1 y (upX X oa (.inr (15, [.long u.2, .double dd, ss]))) [] t.heap) (Af κ)) (XF κ) 6 22 (Af κ) := by
  unfold sp_X0_wouldWin at h
  refine vx_ofWH (cc := cX0_wouldWin) (maxL := 4) (ret := (Option.some Jvm.ClassFile.FieldType.int)) (hh := [(0, 10, 13, 27), (0, 10, 16, 21)]) (by decide) rfl ?_
  intro p e s m args below meth c s₁ B hml hv
  obtain ⟨rfl, hR, hK⟩ := hv
  have hx := B.exec
  have hb := B.bytes
  have hr := B.returns
  have hts := atoms_spec (ws := wsW_ yX0_wouldWin cX0_wouldWin 4 (Option.some Jvm.ClassFile.FieldType.int) [(0, 10, 13, 27), (0, 10, 16, 21)]) B.pre
  have htab : c.exceptionTable.toList = tableOf [(0, 10, 13, 27), (0, 10, 16, 21)] := vx_table (x := yX0_wouldWin) B (hts _ List.mem_cons_self)
  have hts : ∀ w ∈ lw_all, w.before _ s = true := fun w h => hts w (List.mem_cons_of_mem _ h)
  have hown : s.vm.findClass RX0 = some m.cls := findClass_of_methodNamed B.named
  have hS : va_S (Af κ) s.heap s.heap [] := va_S.rf
  have hl := lv_entry ([.ref (y.2 0 0), .int (p1), .ref oa]) (n := 4) (Nat.le_of_ble_eq_true rfl)
  rw [lg_entry_eq]
  generalize (lg_sl ([.ref (y.2 0 0), .int (p1), .ref oa]) ++ List.replicate (4 - (lg_sl ([.ref (y.2 0 0), .int (p1), .ref oa])).length) Slot.unset).toArray = ls at hl ⊢
  have hl : lv_has ls 4 [(0, .ref (y.2 0 0)), (1, .int (p1)), (2, .ref oa)] := hl
  refine lv_aload_n hx hb dX0_wouldWin_0 rfl (lv_at hl 2 rfl) ?_
  refine lv_aload_n hx hb dX0_wouldWin_1 rfl (lv_at hl 0 rfl) ?_
  refine lv_iload_n hx hb dX0_wouldWin_2 rfl (lv_at hl 1 rfl) ?_
  refine cew_qi (fw := fun u => u) (fy := fun _ => y) (X := X) (L := []) (BB := fun _ => True) (fun _ _ h => ⟨h, trivial⟩) (crx_V (n := 1) (As := [.int (p1)]) (rest := [.ref oa]) ⟨hx, hb, hml, hown, hts⟩ hK hR (m_X1_wouldWin hfl hW l0 h) q1933 q1934 q1935 q74 q1936 rfl rfl hd_X1_wouldWin ⟨Nat.le_of_ble_eq_true rfl, Nat.le_of_ble_eq_true rfl⟩ (rv hK hR l0 (ci := 0) rfl rfl) rfl rfl hl.1 rfl (lv_room (Nat.le_of_ble_eq_true rfl)) dX0_wouldWin_3 ⟨(Nat.le_of_ble_eq_true rfl), (Nat.le_of_ble_eq_true rfl)⟩) hR hS (fun E ce9 q9 u H locs hp hR hS hcell hv9 hcl => ?_) (fun r u H locs h hB hR hS => ?_)
  · have hR := hR.xsame hX
    rcases hp with ⟨rfl, h⟩ | ⟨rfl, h⟩
    · refine vx_catch (name := "java/lang/IndexOutOfBoundsException") hown [] ⟨0, 10, 13, 27⟩ [⟨0, 10, 16, 21⟩] htab (fun z9 hz9 => nomatch hz9) rfl (by decide) (hts _ q1006) (va_Nw.use rfl (hK.2.1.2.2.1 _ (List.mem_of_getElem? (i := 0) rfl))) hcell hv9 hcl ?_
      refine lv_astore_n (lv' := [(3, .ref q9), (0, .ref (y.2 0 0)), (1, .int (p1)), (2, .ref oa)]) hx hb dX0_wouldWin_13 rfl hl (by decide) rfl (fun ls hl => ?_)
      refine lv_iconst (v := (1 : Int32)) hx hb dX0_wouldWin_14 (by decide) ?_
      exact vx_ret (W.iret (v := (1 : Int32)) hx hb hr (fun t ht hW9 => ⟨⟨(1 : Int32), (u, n0), rfl, h, rpt ht hR⟩, hS.F ht⟩) hS.2.2 dX0_wouldWin_15)
    · refine vx_catch (name := "java/lang/IllegalStateException") hown [⟨0, 10, 13, 27⟩] ⟨0, 10, 16, 21⟩ [] htab (fun z9 hz9 => by rcases List.mem_cons.mp hz9 with rfl | hz9; exact Or.inr ⟨by decide, _, hts _ q1006, hK.2.1.2.2.2.2.2.2.2.2.2.2.2.2.2 _ (List.mem_of_getElem? (i := 1) rfl)⟩; exact (nomatch hz9)) rfl (by decide) (hts _ q785) (va_Nw.use rfl (hK.2.1.2.2.1 _ (List.mem_of_getElem? (i := 16) rfl))) hcell hv9 hcl ?_
      refine lv_astore_n (lv' := [(3, .ref q9), (0, .ref (y.2 0 0)), (1, .int (p1)), (2, .ref oa)]) hx hb dX0_wouldWin_16 rfl hl (by decide) rfl (fun ls hl => ?_)
      refine lv_iconst (v := (2 : Int32)) hx hb dX0_wouldWin_17 (by decide) ?_
      exact vx_ret (W.iret (v := (2 : Int32)) hx hb hr (fun t ht hW9 => ⟨⟨(2 : Int32), (u, n0), rfl, h, rpt ht hR⟩, hS.F ht⟩) hS.2.2 dX0_wouldWin_18)
  · refine lv_i2l hx hb dX0_wouldWin_6 rfl ?_
    refine xa_putN (T := TX9) (N := 3) (ref := "PublicanryLaw$Out") (host := "PublicanryLaw") hx hb hts in_X9 tyX9 tyX9_ok nmX9 hown hK.1 hS (hR.2.2.2.1 _ _ hX).2.1 (hR.2.2.2.1 _ _ hX).1 rfl 0 (by decide) (va_Nw.use rfl (hK.2.1.2.1 _ (List.mem_of_getElem? (i := 1) rfl))) rfl rfl rfl rfl (Nat.le_of_ble_eq_true rfl) dX0_wouldWin_7 (fun H1 locs h1 hz ho hS => ?_)
    have hR := hR.putXL hX h1 hz ho
    refine lv_goto (tgt := 19) hx hb dX0_wouldWin_10 (by decide) ?_
    refine lv_iconst (v := (0 : Int32)) hx hb dX0_wouldWin_19 (by decide) ?_
    exact vx_ret (W.iret (v := (0 : Int32)) hx hb hr (fun t ht hW9 => ⟨⟨(0 : Int32), (u, r.toInt64), rfl, h, rpt ht hR⟩, hS.F ht⟩) hS.2.2 dX0_wouldWin_20)
