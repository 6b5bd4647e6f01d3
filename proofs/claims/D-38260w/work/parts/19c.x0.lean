/-! THE LAW's WRAPPERS (printed by wip gen/x0.py) -/
set_option maxRecDepth 100000
abbrev rm_X0_letOn : Room := { frames := 9, cells := 4, slots := 24, locals := 165 }
def sp_X0_letOn (κ : Kx) (y : Ly) (post : Int32 → Int64 → Wd → Prop) (n0 : Int64) (w : Wd) (p1 : Int32) (p2 : Int32) (p3 : Int32) : Prop := sp_X1_letOn κ y (fun r w => post (0 : Int32) r.toInt64 w) (fun E w => (E = "java/lang/IndexOutOfBoundsException" ∧ post (1 : Int32) n0 w) ∨ (E = "java/lang/IllegalArgumentException" ∧ post (2 : Int32) n0 w) ∨ (E = "java/lang/IllegalStateException" ∧ post (3 : Int32) n0 w)) w p1 p2 p3
set_option maxHeartbeats 4000000 in
theorem m_X0_letOn {l : Launch} {κ : Kx} {y : Ly} {X : XR} {post : Int32 → Int64 → Wd → Prop} {w : Wd} {oa : Nat} {n0 : Int64} {dd : UInt64} {ss : Value} {p1 : Int32} {p2 : Int32} {p3 : Int32} (hfl : l.stackTraces = false) (hW : WFc κ y) (l0 : live y 0 0) (hX : X oa (.inr (15, [.long n0, .double dd, ss]))) (h : sp_X0_letOn κ y post n0 w p1 p2 p3) : vx_Met l yX0_letOn (wsW_ yX0_letOn cX0_letOn 6 (Option.some Jvm.ClassFile.FieldType.int) [(0, 13, 16, 27), (0, 13, 20, 19), (0, 13, 24, 21)]) rm_X0_letOn (va_Pc [.ref (y.2 0 0), .int (p1), .int (p2), .int (p3), .ref oa] (RC κ w y X)) (va_Qi (fun r (u : Wd × Int64) => post r u.2 u.1) (fun (u : Wd × Int64) t => Rp κ u.1 y (upX X oa (.inr (15, [.long u.2, .double dd, ss]))) [] t.heap) (Af κ)) (XF κ) 4 24 (Af κ) := by
  unfold sp_X0_letOn at h
  refine vx_ofWH (cc := cX0_letOn) (maxL := 6) (ret := (Option.some Jvm.ClassFile.FieldType.int)) (hh := [(0, 13, 16, 27), (0, 13, 20, 19), (0, 13, 24, 21)]) (by decide) rfl ?_
  intro p e s m args below meth c s₁ B hml hv
  obtain ⟨rfl, hR, hK⟩ := hv
  have hx := B.exec
  have hb := B.bytes
  have hr := B.returns
  have hts := atoms_spec (ws := wsW_ yX0_letOn cX0_letOn 6 (Option.some Jvm.ClassFile.FieldType.int) [(0, 13, 16, 27), (0, 13, 20, 19), (0, 13, 24, 21)]) B.pre
  have htab : c.exceptionTable.toList = tableOf [(0, 13, 16, 27), (0, 13, 20, 19), (0, 13, 24, 21)] := vx_table (x := yX0_letOn) B (hts _ List.mem_cons_self)
  have hts : ∀ w ∈ lw_all, w.before _ s = true := fun w h => hts w (List.mem_cons_of_mem _ h)
  have hown : s.vm.findClass RX0 = some m.cls := findClass_of_methodNamed B.named
  have hS : va_S (Af κ) s.heap s.heap [] := va_S.rf
  have hl := lv_entry ([.ref (y.2 0 0), .int (p1), .int (p2), .int (p3), .ref oa]) (n := 6) (Nat.le_of_ble_eq_true rfl)
  rw [lg_entry_eq]
  generalize (lg_sl ([.ref (y.2 0 0), .int (p1), .int (p2), .int (p3), .ref oa]) ++ List.replicate (6 - (lg_sl ([.ref (y.2 0 0), .int (p1), .int (p2), .int (p3), .ref oa])).length) Slot.unset).toArray = ls at hl ⊢
  have hl : lv_has ls 6 [(0, .ref (y.2 0 0)), (1, .int (p1)), (2, .int (p2)), (3, .int (p3)), (4, .ref oa)] := hl
  refine lv_aload hx hb dX0_letOn_0 (lv_at hl 4 rfl) ?_
  refine lv_aload_n hx hb dX0_letOn_2 rfl (lv_at hl 0 rfl) ?_
  refine lv_iload_n hx hb dX0_letOn_3 rfl (lv_at hl 1 rfl) ?_
  refine lv_iload_n hx hb dX0_letOn_4 rfl (lv_at hl 2 rfl) ?_
  refine lv_iload_n hx hb dX0_letOn_5 rfl (lv_at hl 3 rfl) ?_
  refine cew_qi (fw := fun u => u) (fy := fun _ => y) (X := X) (L := []) (BB := fun _ => True) (fun _ _ h => ⟨h, trivial⟩) (crx_V (n := 3) (As := [.int (p1), .int (p2), .int (p3)]) (rest := [.ref oa]) ⟨hx, hb, hml, hown, hts⟩ hK hR (m_X1_letOn hfl hW l0 h) q1410 q1411 q1412 q74 q1413 rfl rfl hd_X1_letOn ⟨Nat.le_of_ble_eq_true rfl, Nat.le_of_ble_eq_true rfl⟩ (rv hK hR l0 (ci := 0) rfl rfl) rfl rfl hl.1 rfl (lv_room (Nat.le_of_ble_eq_true rfl)) dX0_letOn_6 ⟨(Nat.le_of_ble_eq_true rfl), (Nat.le_of_ble_eq_true rfl)⟩) hR hS (fun E ce9 q9 u H locs hp hR hS hcell hv9 hcl => ?_) (fun r u H locs h hB hR hS => ?_)
  · have hR := hR.xsame hX
    rcases hp with ⟨rfl, h⟩ | ⟨rfl, h⟩ | ⟨rfl, h⟩
    · refine vx_catch (name := "java/lang/IndexOutOfBoundsException") hown [] ⟨0, 13, 16, 27⟩ [⟨0, 13, 20, 19⟩, ⟨0, 13, 24, 21⟩] htab (fun z9 hz9 => nomatch hz9) rfl (by decide) (hts _ q1006) (va_Nw.use rfl (hK.2.1.2.2.1 _ (List.mem_of_getElem? (i := 0) rfl))) hcell hv9 hcl ?_
      refine lv_astore (lv' := [(5, .ref q9), (0, .ref (y.2 0 0)), (1, .int (p1)), (2, .int (p2)), (3, .int (p3)), (4, .ref oa)]) hx hb dX0_letOn_16 hl (by decide) rfl (fun ls hl => ?_)
      refine lv_iconst (v := (1 : Int32)) hx hb dX0_letOn_18 (by decide) ?_
      exact vx_ret (W.iret (v := (1 : Int32)) hx hb hr (fun t ht hW9 => ⟨⟨(1 : Int32), (u, n0), rfl, h, rpt ht hR⟩, hS.F ht⟩) hS.2.2 dX0_letOn_19)
    · refine vx_catch (name := "java/lang/IllegalArgumentException") hown [⟨0, 13, 16, 27⟩] ⟨0, 13, 20, 19⟩ [⟨0, 13, 24, 21⟩] htab (fun z9 hz9 => by rcases List.mem_cons.mp hz9 with rfl | hz9; exact Or.inr ⟨by decide, _, hts _ q1006, hK.2.1.2.2.2.2.2.2.2.2.2.2.2.2.2 _ (List.mem_of_getElem? (i := 0) rfl)⟩; exact (nomatch hz9)) rfl (by decide) (hts _ q784) (va_Nw.use rfl (hK.2.1.2.2.1 _ (List.mem_of_getElem? (i := 14) rfl))) hcell hv9 hcl ?_
      refine lv_astore (lv' := [(5, .ref q9), (0, .ref (y.2 0 0)), (1, .int (p1)), (2, .int (p2)), (3, .int (p3)), (4, .ref oa)]) hx hb dX0_letOn_20 hl (by decide) rfl (fun ls hl => ?_)
      refine lv_iconst (v := (2 : Int32)) hx hb dX0_letOn_22 (by decide) ?_
      exact vx_ret (W.iret (v := (2 : Int32)) hx hb hr (fun t ht hW9 => ⟨⟨(2 : Int32), (u, n0), rfl, h, rpt ht hR⟩, hS.F ht⟩) hS.2.2 dX0_letOn_23)
    · refine vx_catch (name := "java/lang/IllegalStateException") hown [⟨0, 13, 16, 27⟩, ⟨0, 13, 20, 19⟩] ⟨0, 13, 24, 21⟩ [] htab (fun z9 hz9 => by rcases List.mem_cons.mp hz9 with rfl | hz9; exact Or.inr ⟨by decide, _, hts _ q1006, hK.2.1.2.2.2.2.2.2.2.2.2.2.2.2.2 _ (List.mem_of_getElem? (i := 1) rfl)⟩; rcases List.mem_cons.mp hz9 with rfl | hz9; exact Or.inr ⟨by decide, _, hts _ q784, hK.2.1.2.2.2.2.2.2.2.2.2.2.2.2.2 _ (List.mem_of_getElem? (i := 2) rfl)⟩; exact (nomatch hz9)) rfl (by decide) (hts _ q785) (va_Nw.use rfl (hK.2.1.2.2.1 _ (List.mem_of_getElem? (i := 16) rfl))) hcell hv9 hcl ?_
      refine lv_astore (lv' := [(5, .ref q9), (0, .ref (y.2 0 0)), (1, .int (p1)), (2, .int (p2)), (3, .int (p3)), (4, .ref oa)]) hx hb dX0_letOn_24 hl (by decide) rfl (fun ls hl => ?_)
      refine lv_iconst (v := (3 : Int32)) hx hb dX0_letOn_26 (by decide) ?_
      exact vx_ret (W.iret (v := (3 : Int32)) hx hb hr (fun t ht hW9 => ⟨⟨(3 : Int32), (u, n0), rfl, h, rpt ht hR⟩, hS.F ht⟩) hS.2.2 dX0_letOn_27)
  · refine lv_i2l hx hb dX0_letOn_9 rfl ?_
    refine xa_putN (T := TX9) (N := 3) (ref := "PublicanryLaw$Out") (host := "PublicanryLaw") hx hb hts in_X9 tyX9 tyX9_ok nmX9 hown hK.1 hS (hR.2.2.2.1 _ _ hX).2.1 (hR.2.2.2.1 _ _ hX).1 rfl 0 (by decide) (va_Nw.use rfl (hK.2.1.2.1 _ (List.mem_of_getElem? (i := 1) rfl))) rfl rfl rfl rfl (Nat.le_of_ble_eq_true rfl) dX0_letOn_10 (fun H1 locs h1 hz ho hS => ?_)
    have hR := hR.putXL hX h1 hz ho
    refine lv_goto (tgt := 28) hx hb dX0_letOn_13 (by decide) ?_
    refine lv_iconst (v := (0 : Int32)) hx hb dX0_letOn_28 (by decide) ?_
    exact vx_ret (W.iret (v := (0 : Int32)) hx hb hr (fun t ht hW9 => ⟨⟨(0 : Int32), (u, r.toInt64), rfl, h, rpt ht hR⟩, hS.F ht⟩) hS.2.2 dX0_letOn_29)
abbrev rm_X0_deliver : Room := { frames := 9, cells := 3, slots := 18, locals := 164 }
def sp_X0_deliver (κ : Kx) (y : Ly) (post : Int32 → Int64 → Wd → Prop) (n0 : Int64) (w : Wd) (p1 : Int32) (p2 : Int32) : Prop := sp_X1_deliver κ y (fun r w => post (0 : Int32) r.toInt64 w) (fun E w => (E = "java/lang/IndexOutOfBoundsException" ∧ post (1 : Int32) n0 w) ∨ (E = "java/lang/IllegalArgumentException" ∧ post (2 : Int32) n0 w) ∨ (E = "java/lang/IllegalStateException" ∧ post (3 : Int32) n0 w)) w p1 p2
set_option maxHeartbeats 4000000 in
theorem m_X0_deliver {l : Launch} {κ : Kx} {y : Ly} {X : XR} {post : Int32 → Int64 → Wd → Prop} {w : Wd} {oa : Nat} {n0 : Int64} {dd : UInt64} {ss : Value} {p1 : Int32} {p2 : Int32} (hfl : l.stackTraces = false) (hW : WFc κ y) (l0 : live y 0 0) (hX : X oa (.inr (15, [.long n0, .double dd, ss]))) (h : sp_X0_deliver κ y post n0 w p1 p2) : vx_Met l yX0_deliver (wsW_ yX0_deliver cX0_deliver 5 (Option.some Jvm.ClassFile.FieldType.int) [(0, 11, 14, 27), (0, 11, 18, 19), (0, 11, 22, 21)]) rm_X0_deliver (va_Pc [.ref (y.2 0 0), .int (p1), .int (p2), .ref oa] (RC κ w y X)) (va_Qi (fun r (u : Wd × Int64) => post r u.2 u.1) (fun (u : Wd × Int64) t => Rp κ u.1 y (upX X oa (.inr (15, [.long u.2, .double dd, ss]))) [] t.heap) (Af κ)) (XF κ) 3 18 (Af κ) := by
  unfold sp_X0_deliver at h
  refine vx_ofWH (cc := cX0_deliver) (maxL := 5) (ret := (Option.some Jvm.ClassFile.FieldType.int)) (hh := [(0, 11, 14, 27), (0, 11, 18, 19), (0, 11, 22, 21)]) (by decide) rfl ?_
  intro p e s m args below meth c s₁ B hml hv
  obtain ⟨rfl, hR, hK⟩ := hv
  have hx := B.exec
  have hb := B.bytes
  have hr := B.returns
  have hts := atoms_spec (ws := wsW_ yX0_deliver cX0_deliver 5 (Option.some Jvm.ClassFile.FieldType.int) [(0, 11, 14, 27), (0, 11, 18, 19), (0, 11, 22, 21)]) B.pre
  have htab : c.exceptionTable.toList = tableOf [(0, 11, 14, 27), (0, 11, 18, 19), (0, 11, 22, 21)] := vx_table (x := yX0_deliver) B (hts _ List.mem_cons_self)
  have hts : ∀ w ∈ lw_all, w.before _ s = true := fun w h => hts w (List.mem_cons_of_mem _ h)
  have hown : s.vm.findClass RX0 = some m.cls := findClass_of_methodNamed B.named
  have hS : va_S (Af κ) s.heap s.heap [] := va_S.rf
  have hl := lv_entry ([.ref (y.2 0 0), .int (p1), .int (p2), .ref oa]) (n := 5) (Nat.le_of_ble_eq_true rfl)
  rw [lg_entry_eq]
  generalize (lg_sl ([.ref (y.2 0 0), .int (p1), .int (p2), .ref oa]) ++ List.replicate (5 - (lg_sl ([.ref (y.2 0 0), .int (p1), .int (p2), .ref oa])).length) Slot.unset).toArray = ls at hl ⊢
  have hl : lv_has ls 5 [(0, .ref (y.2 0 0)), (1, .int (p1)), (2, .int (p2)), (3, .ref oa)] := hl
  refine lv_aload_n hx hb dX0_deliver_0 rfl (lv_at hl 3 rfl) ?_
  refine lv_aload_n hx hb dX0_deliver_1 rfl (lv_at hl 0 rfl) ?_
  refine lv_iload_n hx hb dX0_deliver_2 rfl (lv_at hl 1 rfl) ?_
  refine lv_iload_n hx hb dX0_deliver_3 rfl (lv_at hl 2 rfl) ?_
  refine cew_qi (fw := fun u => u) (fy := fun _ => y) (X := X) (L := []) (BB := fun _ => True) (fun _ _ h => ⟨h, trivial⟩) (crx_V (n := 2) (As := [.int (p1), .int (p2)]) (rest := [.ref oa]) ⟨hx, hb, hml, hown, hts⟩ hK hR (m_X1_deliver hfl hW l0 h) q1418 q1419 q1420 q74 q1421 rfl rfl hd_X1_deliver ⟨Nat.le_of_ble_eq_true rfl, Nat.le_of_ble_eq_true rfl⟩ (rv hK hR l0 (ci := 0) rfl rfl) rfl rfl hl.1 rfl (lv_room (Nat.le_of_ble_eq_true rfl)) dX0_deliver_4 ⟨(Nat.le_of_ble_eq_true rfl), (Nat.le_of_ble_eq_true rfl)⟩) hR hS (fun E ce9 q9 u H locs hp hR hS hcell hv9 hcl => ?_) (fun r u H locs h hB hR hS => ?_)
  · have hR := hR.xsame hX
    rcases hp with ⟨rfl, h⟩ | ⟨rfl, h⟩ | ⟨rfl, h⟩
    · refine vx_catch (name := "java/lang/IndexOutOfBoundsException") hown [] ⟨0, 11, 14, 27⟩ [⟨0, 11, 18, 19⟩, ⟨0, 11, 22, 21⟩] htab (fun z9 hz9 => nomatch hz9) rfl (by decide) (hts _ q1006) (va_Nw.use rfl (hK.2.1.2.2.1 _ (List.mem_of_getElem? (i := 0) rfl))) hcell hv9 hcl ?_
      refine lv_astore (lv' := [(4, .ref q9), (0, .ref (y.2 0 0)), (1, .int (p1)), (2, .int (p2)), (3, .ref oa)]) hx hb dX0_deliver_14 hl (by decide) rfl (fun ls hl => ?_)
      refine lv_iconst (v := (1 : Int32)) hx hb dX0_deliver_16 (by decide) ?_
      exact vx_ret (W.iret (v := (1 : Int32)) hx hb hr (fun t ht hW9 => ⟨⟨(1 : Int32), (u, n0), rfl, h, rpt ht hR⟩, hS.F ht⟩) hS.2.2 dX0_deliver_17)
    · refine vx_catch (name := "java/lang/IllegalArgumentException") hown [⟨0, 11, 14, 27⟩] ⟨0, 11, 18, 19⟩ [⟨0, 11, 22, 21⟩] htab (fun z9 hz9 => by rcases List.mem_cons.mp hz9 with rfl | hz9; exact Or.inr ⟨by decide, _, hts _ q1006, hK.2.1.2.2.2.2.2.2.2.2.2.2.2.2.2 _ (List.mem_of_getElem? (i := 0) rfl)⟩; exact (nomatch hz9)) rfl (by decide) (hts _ q784) (va_Nw.use rfl (hK.2.1.2.2.1 _ (List.mem_of_getElem? (i := 14) rfl))) hcell hv9 hcl ?_
      refine lv_astore (lv' := [(4, .ref q9), (0, .ref (y.2 0 0)), (1, .int (p1)), (2, .int (p2)), (3, .ref oa)]) hx hb dX0_deliver_18 hl (by decide) rfl (fun ls hl => ?_)
      refine lv_iconst (v := (2 : Int32)) hx hb dX0_deliver_20 (by decide) ?_
      exact vx_ret (W.iret (v := (2 : Int32)) hx hb hr (fun t ht hW9 => ⟨⟨(2 : Int32), (u, n0), rfl, h, rpt ht hR⟩, hS.F ht⟩) hS.2.2 dX0_deliver_21)
    · refine vx_catch (name := "java/lang/IllegalStateException") hown [⟨0, 11, 14, 27⟩, ⟨0, 11, 18, 19⟩] ⟨0, 11, 22, 21⟩ [] htab (fun z9 hz9 => by rcases List.mem_cons.mp hz9 with rfl | hz9; exact Or.inr ⟨by decide, _, hts _ q1006, hK.2.1.2.2.2.2.2.2.2.2.2.2.2.2.2 _ (List.mem_of_getElem? (i := 1) rfl)⟩; rcases List.mem_cons.mp hz9 with rfl | hz9; exact Or.inr ⟨by decide, _, hts _ q784, hK.2.1.2.2.2.2.2.2.2.2.2.2.2.2.2 _ (List.mem_of_getElem? (i := 2) rfl)⟩; exact (nomatch hz9)) rfl (by decide) (hts _ q785) (va_Nw.use rfl (hK.2.1.2.2.1 _ (List.mem_of_getElem? (i := 16) rfl))) hcell hv9 hcl ?_
      refine lv_astore (lv' := [(4, .ref q9), (0, .ref (y.2 0 0)), (1, .int (p1)), (2, .int (p2)), (3, .ref oa)]) hx hb dX0_deliver_22 hl (by decide) rfl (fun ls hl => ?_)
      refine lv_iconst (v := (3 : Int32)) hx hb dX0_deliver_24 (by decide) ?_
      exact vx_ret (W.iret (v := (3 : Int32)) hx hb hr (fun t ht hW9 => ⟨⟨(3 : Int32), (u, n0), rfl, h, rpt ht hR⟩, hS.F ht⟩) hS.2.2 dX0_deliver_25)
  · refine lv_i2l hx hb dX0_deliver_7 rfl ?_
    refine xa_putN (T := TX9) (N := 3) (ref := "PublicanryLaw$Out") (host := "PublicanryLaw") hx hb hts in_X9 tyX9 tyX9_ok nmX9 hown hK.1 hS (hR.2.2.2.1 _ _ hX).2.1 (hR.2.2.2.1 _ _ hX).1 rfl 0 (by decide) (va_Nw.use rfl (hK.2.1.2.1 _ (List.mem_of_getElem? (i := 1) rfl))) rfl rfl rfl rfl (Nat.le_of_ble_eq_true rfl) dX0_deliver_8 (fun H1 locs h1 hz ho hS => ?_)
    have hR := hR.putXL hX h1 hz ho
    refine lv_goto (tgt := 26) hx hb dX0_deliver_11 (by decide) ?_
    refine lv_iconst (v := (0 : Int32)) hx hb dX0_deliver_26 (by decide) ?_
    exact vx_ret (W.iret (v := (0 : Int32)) hx hb hr (fun t ht hW9 => ⟨⟨(0 : Int32), (u, r.toInt64), rfl, h, rpt ht hR⟩, hS.F ht⟩) hS.2.2 dX0_deliver_27)
abbrev rm_X0_sue : Room := { frames := 9, cells := 4, slots := 21, locals := 167 }
def sp_X0_sue (κ : Kx) (y : Ly) (post : Int32 → Int64 → Wd → Prop) (n0 : Int64) (w : Wd) (p1 : Int32) (p2 : Int32) : Prop := sp_X1_sue κ y (fun r w => post (0 : Int32) r.toInt64 w) (fun E w => (E = "java/lang/IndexOutOfBoundsException" ∧ post (1 : Int32) n0 w) ∨ (E = "java/lang/IllegalStateException" ∧ post (2 : Int32) n0 w)) w p1 p2
set_option maxHeartbeats 4000000 in
theorem m_X0_sue {l : Launch} {κ : Kx} {y : Ly} {X : XR} {post : Int32 → Int64 → Wd → Prop} {w : Wd} {oa : Nat} {n0 : Int64} {dd : UInt64} {ss : Value} {p1 : Int32} {p2 : Int32} (hfl : l.stackTraces = false) (hW : WFc κ y) (l0 : live y 0 0) (hX : X oa (.inr (15, [.long n0, .double dd, ss]))) (h : sp_X0_sue κ y post n0 w p1 p2) : vx_Met l yX0_sue (wsW_ yX0_sue cX0_sue 5 (Option.some Jvm.ClassFile.FieldType.int) [(0, 11, 14, 27), (0, 11, 18, 21)]) rm_X0_sue (va_Pc [.ref (y.2 0 0), .int (p1), .int (p2), .ref oa] (RC κ w y X)) (va_Qi (fun r (u : Wd × Int64) => post r u.2 u.1) (fun (u : Wd × Int64) t => Rp κ u.1 y (upX X oa (.inr (15, [.long u.2, .double dd, ss]))) [] t.heap) (Af κ)) (XF κ) 4 21 (Af κ) := by
  unfold sp_X0_sue at h
  refine vx_ofWH (cc := cX0_sue) (maxL := 5) (ret := (Option.some Jvm.ClassFile.FieldType.int)) (hh := [(0, 11, 14, 27), (0, 11, 18, 21)]) (by decide) rfl ?_
  intro p e s m args below meth c s₁ B hml hv
  obtain ⟨rfl, hR, hK⟩ := hv
  have hx := B.exec
  have hb := B.bytes
  have hr := B.returns
  have hts := atoms_spec (ws := wsW_ yX0_sue cX0_sue 5 (Option.some Jvm.ClassFile.FieldType.int) [(0, 11, 14, 27), (0, 11, 18, 21)]) B.pre
  have htab : c.exceptionTable.toList = tableOf [(0, 11, 14, 27), (0, 11, 18, 21)] := vx_table (x := yX0_sue) B (hts _ List.mem_cons_self)
  have hts : ∀ w ∈ lw_all, w.before _ s = true := fun w h => hts w (List.mem_cons_of_mem _ h)
  have hown : s.vm.findClass RX0 = some m.cls := findClass_of_methodNamed B.named
  have hS : va_S (Af κ) s.heap s.heap [] := va_S.rf
  have hl := lv_entry ([.ref (y.2 0 0), .int (p1), .int (p2), .ref oa]) (n := 5) (Nat.le_of_ble_eq_true rfl)
  rw [lg_entry_eq]
  generalize (lg_sl ([.ref (y.2 0 0), .int (p1), .int (p2), .ref oa]) ++ List.replicate (5 - (lg_sl ([.ref (y.2 0 0), .int (p1), .int (p2), .ref oa])).length) Slot.unset).toArray = ls at hl ⊢
  have hl : lv_has ls 5 [(0, .ref (y.2 0 0)), (1, .int (p1)), (2, .int (p2)), (3, .ref oa)] := hl
  refine lv_aload_n hx hb dX0_sue_0 rfl (lv_at hl 3 rfl) ?_
  refine lv_aload_n hx hb dX0_sue_1 rfl (lv_at hl 0 rfl) ?_
  refine lv_iload_n hx hb dX0_sue_2 rfl (lv_at hl 1 rfl) ?_
  refine lv_iload_n hx hb dX0_sue_3 rfl (lv_at hl 2 rfl) ?_
  refine cew_qi (fw := fun u => u) (fy := fun _ => y) (X := X) (L := []) (BB := fun _ => True) (fun _ _ h => ⟨h, trivial⟩) (crx_V (n := 2) (As := [.int (p1), .int (p2)]) (rest := [.ref oa]) ⟨hx, hb, hml, hown, hts⟩ hK hR (m_X1_sue hfl hW l0 h) q1426 q1427 q1428 q74 q1429 rfl rfl hd_X1_sue ⟨Nat.le_of_ble_eq_true rfl, Nat.le_of_ble_eq_true rfl⟩ (rv hK hR l0 (ci := 0) rfl rfl) rfl rfl hl.1 rfl (lv_room (Nat.le_of_ble_eq_true rfl)) dX0_sue_4 ⟨(Nat.le_of_ble_eq_true rfl), (Nat.le_of_ble_eq_true rfl)⟩) hR hS (fun E ce9 q9 u H locs hp hR hS hcell hv9 hcl => ?_) (fun r u H locs h hB hR hS => ?_)
  · have hR := hR.xsame hX
    rcases hp with ⟨rfl, h⟩ | ⟨rfl, h⟩
    · refine vx_catch (name := "java/lang/IndexOutOfBoundsException") hown [] ⟨0, 11, 14, 27⟩ [⟨0, 11, 18, 21⟩] htab (fun z9 hz9 => nomatch hz9) rfl (by decide) (hts _ q1006) (va_Nw.use rfl (hK.2.1.2.2.1 _ (List.mem_of_getElem? (i := 0) rfl))) hcell hv9 hcl ?_
      refine lv_astore (lv' := [(4, .ref q9), (0, .ref (y.2 0 0)), (1, .int (p1)), (2, .int (p2)), (3, .ref oa)]) hx hb dX0_sue_14 hl (by decide) rfl (fun ls hl => ?_)
      refine lv_iconst (v := (1 : Int32)) hx hb dX0_sue_16 (by decide) ?_
      exact vx_ret (W.iret (v := (1 : Int32)) hx hb hr (fun t ht hW9 => ⟨⟨(1 : Int32), (u, n0), rfl, h, rpt ht hR⟩, hS.F ht⟩) hS.2.2 dX0_sue_17)
    · refine vx_catch (name := "java/lang/IllegalStateException") hown [⟨0, 11, 14, 27⟩] ⟨0, 11, 18, 21⟩ [] htab (fun z9 hz9 => by rcases List.mem_cons.mp hz9 with rfl | hz9; exact Or.inr ⟨by decide, _, hts _ q1006, hK.2.1.2.2.2.2.2.2.2.2.2.2.2.2.2 _ (List.mem_of_getElem? (i := 1) rfl)⟩; exact (nomatch hz9)) rfl (by decide) (hts _ q785) (va_Nw.use rfl (hK.2.1.2.2.1 _ (List.mem_of_getElem? (i := 16) rfl))) hcell hv9 hcl ?_
      refine lv_astore (lv' := [(4, .ref q9), (0, .ref (y.2 0 0)), (1, .int (p1)), (2, .int (p2)), (3, .ref oa)]) hx hb dX0_sue_18 hl (by decide) rfl (fun ls hl => ?_)
      refine lv_iconst (v := (2 : Int32)) hx hb dX0_sue_20 (by decide) ?_
      exact vx_ret (W.iret (v := (2 : Int32)) hx hb hr (fun t ht hW9 => ⟨⟨(2 : Int32), (u, n0), rfl, h, rpt ht hR⟩, hS.F ht⟩) hS.2.2 dX0_sue_21)
  · refine lv_i2l hx hb dX0_sue_7 rfl ?_
    refine xa_putN (T := TX9) (N := 3) (ref := "PublicanryLaw$Out") (host := "PublicanryLaw") hx hb hts in_X9 tyX9 tyX9_ok nmX9 hown hK.1 hS (hR.2.2.2.1 _ _ hX).2.1 (hR.2.2.2.1 _ _ hX).1 rfl 0 (by decide) (va_Nw.use rfl (hK.2.1.2.1 _ (List.mem_of_getElem? (i := 1) rfl))) rfl rfl rfl rfl (Nat.le_of_ble_eq_true rfl) dX0_sue_8 (fun H1 locs h1 hz ho hS => ?_)
    have hR := hR.putXL hX h1 hz ho
    refine lv_goto (tgt := 22) hx hb dX0_sue_11 (by decide) ?_
    refine lv_iconst (v := (0 : Int32)) hx hb dX0_sue_22 (by decide) ?_
    exact vx_ret (W.iret (v := (0 : Int32)) hx hb hr (fun t ht hW9 => ⟨⟨(0 : Int32), (u, r.toInt64), rfl, h, rpt ht hR⟩, hS.F ht⟩) hS.2.2 dX0_sue_23)
abbrev rm_X0_bench : Room := { frames := 8, cells := 1, slots := 6, locals := 141 }
def sp_X0_bench (κ : Kx) (y : Ly) (post : Int32 → Int64 → Wd → Prop) (n0 : Int64) (w : Wd) (p1 : Int32) : Prop := sp_X1_bench κ y (fun r w => post (0 : Int32) r.toInt64 w) (fun E w => (E = "java/lang/IllegalArgumentException" ∧ post (1 : Int32) n0 w)) w p1
set_option maxHeartbeats 4000000 in
theorem m_X0_bench {l : Launch} {κ : Kx} {y : Ly} {X : XR} {post : Int32 → Int64 → Wd → Prop} {w : Wd} {oa : Nat} {n0 : Int64} {dd : UInt64} {ss : Value} {p1 : Int32} (hfl : l.stackTraces = false) (hW : WFc κ y) (l0 : live y 0 0) (hX : X oa (.inr (15, [.long n0, .double dd, ss]))) (h : sp_X0_bench κ y post n0 w p1) : vx_Met l yX0_bench (wsW_ yX0_bench cX0_bench 4 (Option.some Jvm.ClassFile.FieldType.int) [(0, 10, 13, 19)]) rm_X0_bench (va_Pc [.ref (y.2 0 0), .int (p1), .ref oa] (RC κ w y X)) (va_Qi (fun r (u : Wd × Int64) => post r u.2 u.1) (fun (u : Wd × Int64) t => Rp κ u.1 y (upX X oa (.inr (15, [.long u.2, .double dd, ss]))) [] t.heap) (Af κ)) (XF κ) 1 6 (Af κ) := by
  unfold sp_X0_bench at h
  refine vx_ofWH (cc := cX0_bench) (maxL := 4) (ret := (Option.some Jvm.ClassFile.FieldType.int)) (hh := [(0, 10, 13, 19)]) (by decide) rfl ?_
  intro p e s m args below meth c s₁ B hml hv
  obtain ⟨rfl, hR, hK⟩ := hv
  have hx := B.exec
  have hb := B.bytes
  have hr := B.returns
  have hts := atoms_spec (ws := wsW_ yX0_bench cX0_bench 4 (Option.some Jvm.ClassFile.FieldType.int) [(0, 10, 13, 19)]) B.pre
  have htab : c.exceptionTable.toList = tableOf [(0, 10, 13, 19)] := vx_table (x := yX0_bench) B (hts _ List.mem_cons_self)
  have hts : ∀ w ∈ lw_all, w.before _ s = true := fun w h => hts w (List.mem_cons_of_mem _ h)
  have hown : s.vm.findClass RX0 = some m.cls := findClass_of_methodNamed B.named
  have hS : va_S (Af κ) s.heap s.heap [] := va_S.rf
  have hl := lv_entry ([.ref (y.2 0 0), .int (p1), .ref oa]) (n := 4) (Nat.le_of_ble_eq_true rfl)
  rw [lg_entry_eq]
  generalize (lg_sl ([.ref (y.2 0 0), .int (p1), .ref oa]) ++ List.replicate (4 - (lg_sl ([.ref (y.2 0 0), .int (p1), .ref oa])).length) Slot.unset).toArray = ls at hl ⊢
  have hl : lv_has ls 4 [(0, .ref (y.2 0 0)), (1, .int (p1)), (2, .ref oa)] := hl
  refine lv_aload_n hx hb dX0_bench_0 rfl (lv_at hl 2 rfl) ?_
  refine lv_aload_n hx hb dX0_bench_1 rfl (lv_at hl 0 rfl) ?_
  refine lv_iload_n hx hb dX0_bench_2 rfl (lv_at hl 1 rfl) ?_
  refine cew_qi (fw := fun u => u) (fy := fun _ => y) (X := X) (L := []) (BB := fun _ => True) (fun _ _ h => ⟨h, trivial⟩) (crx_V (n := 1) (As := [.int (p1)]) (rest := [.ref oa]) ⟨hx, hb, hml, hown, hts⟩ hK hR (m_X1_bench hfl hW l0 h) q1453 q1454 q1455 q74 q1456 rfl rfl hd_X1_bench ⟨Nat.le_of_ble_eq_true rfl, Nat.le_of_ble_eq_true rfl⟩ (rv hK hR l0 (ci := 0) rfl rfl) rfl rfl hl.1 rfl (lv_room (Nat.le_of_ble_eq_true rfl)) dX0_bench_3 ⟨(Nat.le_of_ble_eq_true rfl), (Nat.le_of_ble_eq_true rfl)⟩) hR hS (fun E ce9 q9 u H locs hp hR hS hcell hv9 hcl => ?_) (fun r u H locs h hB hR hS => ?_)
  · have hR := hR.xsame hX
    obtain ⟨rfl, h⟩ := hp
    refine vx_catch (name := "java/lang/IllegalArgumentException") hown [] ⟨0, 10, 13, 19⟩ [] htab (fun z9 hz9 => nomatch hz9) rfl (by decide) (hts _ q784) (va_Nw.use rfl (hK.2.1.2.2.1 _ (List.mem_of_getElem? (i := 14) rfl))) hcell hv9 hcl ?_
    refine lv_astore_n (lv' := [(3, .ref q9), (0, .ref (y.2 0 0)), (1, .int (p1)), (2, .ref oa)]) hx hb dX0_bench_13 rfl hl (by decide) rfl (fun ls hl => ?_)
    refine lv_iconst (v := (1 : Int32)) hx hb dX0_bench_14 (by decide) ?_
    exact vx_ret (W.iret (v := (1 : Int32)) hx hb hr (fun t ht hW9 => ⟨⟨(1 : Int32), (u, n0), rfl, h, rpt ht hR⟩, hS.F ht⟩) hS.2.2 dX0_bench_15)
  · refine lv_i2l hx hb dX0_bench_6 rfl ?_
    refine xa_putN (T := TX9) (N := 3) (ref := "PublicanryLaw$Out") (host := "PublicanryLaw") hx hb hts in_X9 tyX9 tyX9_ok nmX9 hown hK.1 hS (hR.2.2.2.1 _ _ hX).2.1 (hR.2.2.2.1 _ _ hX).1 rfl 0 (by decide) (va_Nw.use rfl (hK.2.1.2.1 _ (List.mem_of_getElem? (i := 1) rfl))) rfl rfl rfl rfl (Nat.le_of_ble_eq_true rfl) dX0_bench_7 (fun H1 locs h1 hz ho hS => ?_)
    have hR := hR.putXL hX h1 hz ho
    refine lv_goto (tgt := 16) hx hb dX0_bench_10 (by decide) ?_
    refine lv_iconst (v := (0 : Int32)) hx hb dX0_bench_16 (by decide) ?_
    exact vx_ret (W.iret (v := (0 : Int32)) hx hb hr (fun t ht hW9 => ⟨⟨(0 : Int32), (u, r.toInt64), rfl, h, rpt ht hR⟩, hS.F ht⟩) hS.2.2 dX0_bench_17)
abbrev rm_X0_gift : Room := { frames := 9, cells := 3, slots := 18, locals := 164 }
def sp_X0_gift (κ : Kx) (y : Ly) (post : Int32 → Int64 → Wd → Prop) (n0 : Int64) (w : Wd) (p1 : Int32) (p2 : Int32) : Prop := sp_X1_gift κ y (fun r w => post (0 : Int32) r.toInt64 w) (fun E w => (E = "java/lang/IndexOutOfBoundsException" ∧ post (1 : Int32) n0 w) ∨ (E = "java/lang/IllegalArgumentException" ∧ post (2 : Int32) n0 w) ∨ (E = "java/lang/IllegalStateException" ∧ post (3 : Int32) n0 w)) w p1 p2
set_option maxHeartbeats 4000000 in
theorem m_X0_gift {l : Launch} {κ : Kx} {y : Ly} {X : XR} {post : Int32 → Int64 → Wd → Prop} {w : Wd} {oa : Nat} {n0 : Int64} {dd : UInt64} {ss : Value} {p1 : Int32} {p2 : Int32} (hfl : l.stackTraces = false) (hW : WFc κ y) (l0 : live y 0 0) (hX : X oa (.inr (15, [.long n0, .double dd, ss]))) (h : sp_X0_gift κ y post n0 w p1 p2) : vx_Met l yX0_gift (wsW_ yX0_gift cX0_gift 5 (Option.some Jvm.ClassFile.FieldType.int) [(0, 11, 14, 27), (0, 11, 18, 19), (0, 11, 22, 21)]) rm_X0_gift (va_Pc [.ref (y.2 0 0), .int (p1), .int (p2), .ref oa] (RC κ w y X)) (va_Qi (fun r (u : Wd × Int64) => post r u.2 u.1) (fun (u : Wd × Int64) t => Rp κ u.1 y (upX X oa (.inr (15, [.long u.2, .double dd, ss]))) [] t.heap) (Af κ)) (XF κ) 3 18 (Af κ) := by
  unfold sp_X0_gift at h
  refine vx_ofWH (cc := cX0_gift) (maxL := 5) (ret := (Option.some Jvm.ClassFile.FieldType.int)) (hh := [(0, 11, 14, 27), (0, 11, 18, 19), (0, 11, 22, 21)]) (by decide) rfl ?_
  intro p e s m args below meth c s₁ B hml hv
  obtain ⟨rfl, hR, hK⟩ := hv
  have hx := B.exec
  have hb := B.bytes
  have hr := B.returns
  have hts := atoms_spec (ws := wsW_ yX0_gift cX0_gift 5 (Option.some Jvm.ClassFile.FieldType.int) [(0, 11, 14, 27), (0, 11, 18, 19), (0, 11, 22, 21)]) B.pre
  have htab : c.exceptionTable.toList = tableOf [(0, 11, 14, 27), (0, 11, 18, 19), (0, 11, 22, 21)] := vx_table (x := yX0_gift) B (hts _ List.mem_cons_self)
  have hts : ∀ w ∈ lw_all, w.before _ s = true := fun w h => hts w (List.mem_cons_of_mem _ h)
  have hown : s.vm.findClass RX0 = some m.cls := findClass_of_methodNamed B.named
  have hS : va_S (Af κ) s.heap s.heap [] := va_S.rf
  have hl := lv_entry ([.ref (y.2 0 0), .int (p1), .int (p2), .ref oa]) (n := 5) (Nat.le_of_ble_eq_true rfl)
  rw [lg_entry_eq]
  generalize (lg_sl ([.ref (y.2 0 0), .int (p1), .int (p2), .ref oa]) ++ List.replicate (5 - (lg_sl ([.ref (y.2 0 0), .int (p1), .int (p2), .ref oa])).length) Slot.unset).toArray = ls at hl ⊢
  have hl : lv_has ls 5 [(0, .ref (y.2 0 0)), (1, .int (p1)), (2, .int (p2)), (3, .ref oa)] := hl
  refine lv_aload_n hx hb dX0_gift_0 rfl (lv_at hl 3 rfl) ?_
  refine lv_aload_n hx hb dX0_gift_1 rfl (lv_at hl 0 rfl) ?_
  refine lv_iload_n hx hb dX0_gift_2 rfl (lv_at hl 1 rfl) ?_
  refine lv_iload_n hx hb dX0_gift_3 rfl (lv_at hl 2 rfl) ?_
  refine cew_qi (fw := fun u => u) (fy := fun _ => y) (X := X) (L := []) (BB := fun _ => True) (fun _ _ h => ⟨h, trivial⟩) (crx_V (n := 2) (As := [.int (p1), .int (p2)]) (rest := [.ref oa]) ⟨hx, hb, hml, hown, hts⟩ hK hR (m_X1_gift hfl hW l0 h) q1461 q1462 q1463 q74 q1464 rfl rfl hd_X1_gift ⟨Nat.le_of_ble_eq_true rfl, Nat.le_of_ble_eq_true rfl⟩ (rv hK hR l0 (ci := 0) rfl rfl) rfl rfl hl.1 rfl (lv_room (Nat.le_of_ble_eq_true rfl)) dX0_gift_4 ⟨(Nat.le_of_ble_eq_true rfl), (Nat.le_of_ble_eq_true rfl)⟩) hR hS (fun E ce9 q9 u H locs hp hR hS hcell hv9 hcl => ?_) (fun r u H locs h hB hR hS => ?_)
  · have hR := hR.xsame hX
    rcases hp with ⟨rfl, h⟩ | ⟨rfl, h⟩ | ⟨rfl, h⟩
    · refine vx_catch (name := "java/lang/IndexOutOfBoundsException") hown [] ⟨0, 11, 14, 27⟩ [⟨0, 11, 18, 19⟩, ⟨0, 11, 22, 21⟩] htab (fun z9 hz9 => nomatch hz9) rfl (by decide) (hts _ q1006) (va_Nw.use rfl (hK.2.1.2.2.1 _ (List.mem_of_getElem? (i := 0) rfl))) hcell hv9 hcl ?_
      refine lv_astore (lv' := [(4, .ref q9), (0, .ref (y.2 0 0)), (1, .int (p1)), (2, .int (p2)), (3, .ref oa)]) hx hb dX0_gift_14 hl (by decide) rfl (fun ls hl => ?_)
      refine lv_iconst (v := (1 : Int32)) hx hb dX0_gift_16 (by decide) ?_
      exact vx_ret (W.iret (v := (1 : Int32)) hx hb hr (fun t ht hW9 => ⟨⟨(1 : Int32), (u, n0), rfl, h, rpt ht hR⟩, hS.F ht⟩) hS.2.2 dX0_gift_17)
    · refine vx_catch (name := "java/lang/IllegalArgumentException") hown [⟨0, 11, 14, 27⟩] ⟨0, 11, 18, 19⟩ [⟨0, 11, 22, 21⟩] htab (fun z9 hz9 => by rcases List.mem_cons.mp hz9 with rfl | hz9; exact Or.inr ⟨by decide, _, hts _ q1006, hK.2.1.2.2.2.2.2.2.2.2.2.2.2.2.2 _ (List.mem_of_getElem? (i := 0) rfl)⟩; exact (nomatch hz9)) rfl (by decide) (hts _ q784) (va_Nw.use rfl (hK.2.1.2.2.1 _ (List.mem_of_getElem? (i := 14) rfl))) hcell hv9 hcl ?_
      refine lv_astore (lv' := [(4, .ref q9), (0, .ref (y.2 0 0)), (1, .int (p1)), (2, .int (p2)), (3, .ref oa)]) hx hb dX0_gift_18 hl (by decide) rfl (fun ls hl => ?_)
      refine lv_iconst (v := (2 : Int32)) hx hb dX0_gift_20 (by decide) ?_
      exact vx_ret (W.iret (v := (2 : Int32)) hx hb hr (fun t ht hW9 => ⟨⟨(2 : Int32), (u, n0), rfl, h, rpt ht hR⟩, hS.F ht⟩) hS.2.2 dX0_gift_21)
    · refine vx_catch (name := "java/lang/IllegalStateException") hown [⟨0, 11, 14, 27⟩, ⟨0, 11, 18, 19⟩] ⟨0, 11, 22, 21⟩ [] htab (fun z9 hz9 => by rcases List.mem_cons.mp hz9 with rfl | hz9; exact Or.inr ⟨by decide, _, hts _ q1006, hK.2.1.2.2.2.2.2.2.2.2.2.2.2.2.2 _ (List.mem_of_getElem? (i := 1) rfl)⟩; rcases List.mem_cons.mp hz9 with rfl | hz9; exact Or.inr ⟨by decide, _, hts _ q784, hK.2.1.2.2.2.2.2.2.2.2.2.2.2.2.2 _ (List.mem_of_getElem? (i := 2) rfl)⟩; exact (nomatch hz9)) rfl (by decide) (hts _ q785) (va_Nw.use rfl (hK.2.1.2.2.1 _ (List.mem_of_getElem? (i := 16) rfl))) hcell hv9 hcl ?_
      refine lv_astore (lv' := [(4, .ref q9), (0, .ref (y.2 0 0)), (1, .int (p1)), (2, .int (p2)), (3, .ref oa)]) hx hb dX0_gift_22 hl (by decide) rfl (fun ls hl => ?_)
      refine lv_iconst (v := (3 : Int32)) hx hb dX0_gift_24 (by decide) ?_
      exact vx_ret (W.iret (v := (3 : Int32)) hx hb hr (fun t ht hW9 => ⟨⟨(3 : Int32), (u, n0), rfl, h, rpt ht hR⟩, hS.F ht⟩) hS.2.2 dX0_gift_25)
  · refine lv_i2l hx hb dX0_gift_7 rfl ?_
    refine xa_putN (T := TX9) (N := 3) (ref := "PublicanryLaw$Out") (host := "PublicanryLaw") hx hb hts in_X9 tyX9 tyX9_ok nmX9 hown hK.1 hS (hR.2.2.2.1 _ _ hX).2.1 (hR.2.2.2.1 _ _ hX).1 rfl 0 (by decide) (va_Nw.use rfl (hK.2.1.2.1 _ (List.mem_of_getElem? (i := 1) rfl))) rfl rfl rfl rfl (Nat.le_of_ble_eq_true rfl) dX0_gift_8 (fun H1 locs h1 hz ho hS => ?_)
    have hR := hR.putXL hX h1 hz ho
    refine lv_goto (tgt := 26) hx hb dX0_gift_11 (by decide) ?_
    refine lv_iconst (v := (0 : Int32)) hx hb dX0_gift_26 (by decide) ?_
    exact vx_ret (W.iret (v := (0 : Int32)) hx hb hr (fun t ht hW9 => ⟨⟨(0 : Int32), (u, r.toInt64), rfl, h, rpt ht hR⟩, hS.F ht⟩) hS.2.2 dX0_gift_27)
abbrev rm_X0_quarter : Room := { frames := 9, cells := 1, slots := 6, locals := 164 }
def sp_X0_quarter (κ : Kx) (y : Ly) (post : Int32 → Int64 → Wd → Prop) (n0 : Int64) (w : Wd) (p1 : Int32) : Prop := sp_X1_quarter κ y (fun r w => post (0 : Int32) r.toInt64 w) (fun E w => (E = "java/lang/IndexOutOfBoundsException" ∧ post (1 : Int32) n0 w)) w p1
set_option maxHeartbeats 4000000 in
theorem m_X0_quarter {l : Launch} {κ : Kx} {y : Ly} {X : XR} {post : Int32 → Int64 → Wd → Prop} {w : Wd} {oa : Nat} {n0 : Int64} {dd : UInt64} {ss : Value} {p1 : Int32} (hfl : l.stackTraces = false) (hW : WFc κ y) (l0 : live y 0 0) (hX : X oa (.inr (15, [.long n0, .double dd, ss]))) (h : sp_X0_quarter κ y post n0 w p1) : vx_Met l yX0_quarter (wsW_ yX0_quarter cX0_quarter 4 (Option.some Jvm.ClassFile.FieldType.int) [(0, 10, 13, 27)]) rm_X0_quarter (va_Pc [.ref (y.2 0 0), .int (p1), .ref oa] (RC κ w y X)) (va_Qi (fun r (u : Wd × Int64) => post r u.2 u.1) (fun (u : Wd × Int64) t => Rp κ u.1 y (upX X oa (.inr (15, [.long u.2, .double dd, ss]))) [] t.heap) (Af κ)) (XF κ) 1 6 (Af κ) := by
  unfold sp_X0_quarter at h
  refine vx_ofWH (cc := cX0_quarter) (maxL := 4) (ret := (Option.some Jvm.ClassFile.FieldType.int)) (hh := [(0, 10, 13, 27)]) (by decide) rfl ?_
  intro p e s m args below meth c s₁ B hml hv
  obtain ⟨rfl, hR, hK⟩ := hv
  have hx := B.exec
  have hb := B.bytes
  have hr := B.returns
  have hts := atoms_spec (ws := wsW_ yX0_quarter cX0_quarter 4 (Option.some Jvm.ClassFile.FieldType.int) [(0, 10, 13, 27)]) B.pre
  have htab : c.exceptionTable.toList = tableOf [(0, 10, 13, 27)] := vx_table (x := yX0_quarter) B (hts _ List.mem_cons_self)
  have hts : ∀ w ∈ lw_all, w.before _ s = true := fun w h => hts w (List.mem_cons_of_mem _ h)
  have hown : s.vm.findClass RX0 = some m.cls := findClass_of_methodNamed B.named
  have hS : va_S (Af κ) s.heap s.heap [] := va_S.rf
  have hl := lv_entry ([.ref (y.2 0 0), .int (p1), .ref oa]) (n := 4) (Nat.le_of_ble_eq_true rfl)
  rw [lg_entry_eq]
  generalize (lg_sl ([.ref (y.2 0 0), .int (p1), .ref oa]) ++ List.replicate (4 - (lg_sl ([.ref (y.2 0 0), .int (p1), .ref oa])).length) Slot.unset).toArray = ls at hl ⊢
  have hl : lv_has ls 4 [(0, .ref (y.2 0 0)), (1, .int (p1)), (2, .ref oa)] := hl
  refine lv_aload_n hx hb dX0_quarter_0 rfl (lv_at hl 2 rfl) ?_
  refine lv_aload_n hx hb dX0_quarter_1 rfl (lv_at hl 0 rfl) ?_
  refine lv_iload_n hx hb dX0_quarter_2 rfl (lv_at hl 1 rfl) ?_
  refine cew_qi (fw := fun u => u) (fy := fun _ => y) (X := X) (L := []) (BB := fun _ => True) (fun _ _ h => ⟨h, trivial⟩) (crx_V (n := 1) (As := [.int (p1)]) (rest := [.ref oa]) ⟨hx, hb, hml, hown, hts⟩ hK hR (m_X1_quarter hfl hW l0 h) q1468 q1469 q1470 q74 q1471 rfl rfl hd_X1_quarter ⟨Nat.le_of_ble_eq_true rfl, Nat.le_of_ble_eq_true rfl⟩ (rv hK hR l0 (ci := 0) rfl rfl) rfl rfl hl.1 rfl (lv_room (Nat.le_of_ble_eq_true rfl)) dX0_quarter_3 ⟨(Nat.le_of_ble_eq_true rfl), (Nat.le_of_ble_eq_true rfl)⟩) hR hS (fun E ce9 q9 u H locs hp hR hS hcell hv9 hcl => ?_) (fun r u H locs h hB hR hS => ?_)
  · have hR := hR.xsame hX
    obtain ⟨rfl, h⟩ := hp
    refine vx_catch (name := "java/lang/IndexOutOfBoundsException") hown [] ⟨0, 10, 13, 27⟩ [] htab (fun z9 hz9 => nomatch hz9) rfl (by decide) (hts _ q1006) (va_Nw.use rfl (hK.2.1.2.2.1 _ (List.mem_of_getElem? (i := 0) rfl))) hcell hv9 hcl ?_
    refine lv_astore_n (lv' := [(3, .ref q9), (0, .ref (y.2 0 0)), (1, .int (p1)), (2, .ref oa)]) hx hb dX0_quarter_13 rfl hl (by decide) rfl (fun ls hl => ?_)
    refine lv_iconst (v := (1 : Int32)) hx hb dX0_quarter_14 (by decide) ?_
    exact vx_ret (W.iret (v := (1 : Int32)) hx hb hr (fun t ht hW9 => ⟨⟨(1 : Int32), (u, n0), rfl, h, rpt ht hR⟩, hS.F ht⟩) hS.2.2 dX0_quarter_15)
  · refine lv_i2l hx hb dX0_quarter_6 rfl ?_
    refine xa_putN (T := TX9) (N := 3) (ref := "PublicanryLaw$Out") (host := "PublicanryLaw") hx hb hts in_X9 tyX9 tyX9_ok nmX9 hown hK.1 hS (hR.2.2.2.1 _ _ hX).2.1 (hR.2.2.2.1 _ _ hX).1 rfl 0 (by decide) (va_Nw.use rfl (hK.2.1.2.1 _ (List.mem_of_getElem? (i := 1) rfl))) rfl rfl rfl rfl (Nat.le_of_ble_eq_true rfl) dX0_quarter_7 (fun H1 locs h1 hz ho hS => ?_)
    have hR := hR.putXL hX h1 hz ho
    refine lv_goto (tgt := 16) hx hb dX0_quarter_10 (by decide) ?_
    refine lv_iconst (v := (0 : Int32)) hx hb dX0_quarter_16 (by decide) ?_
    exact vx_ret (W.iret (v := (0 : Int32)) hx hb hr (fun t ht hW9 => ⟨⟨(0 : Int32), (u, r.toInt64), rfl, h, rpt ht hR⟩, hS.F ht⟩) hS.2.2 dX0_quarter_17)
abbrev rm_X0_remit : Room := { frames := 9, cells := 3, slots := 16, locals := 166 }
def sp_X0_remit (κ : Kx) (y : Ly) (post : Int32 → Int64 → Wd → Prop) (n0 : Int64) (w : Wd) (p1 : Int32) : Prop := sp_X1_remit κ y (fun r w => post (0 : Int32) r.toInt64 w) (fun E w => (E = "java/lang/IndexOutOfBoundsException" ∧ post (1 : Int32) n0 w) ∨ (E = "java/lang/IllegalStateException" ∧ post (2 : Int32) n0 w)) w p1
set_option maxHeartbeats 4000000 in
theorem m_X0_remit {l : Launch} {κ : Kx} {y : Ly} {X : XR} {post : Int32 → Int64 → Wd → Prop} {w : Wd} {oa : Nat} {n0 : Int64} {dd : UInt64} {ss : Value} {p1 : Int32} (hfl : l.stackTraces = false) (hW : WFc κ y) (l0 : live y 0 0) (hX : X oa (.inr (15, [.long n0, .double dd, ss]))) (h : sp_X0_remit κ y post n0 w p1) : vx_Met l yX0_remit (wsW_ yX0_remit cX0_remit 4 (Option.some Jvm.ClassFile.FieldType.int) [(0, 10, 13, 27), (0, 10, 16, 21)]) rm_X0_remit (va_Pc [.ref (y.2 0 0), .int (p1), .ref oa] (RC κ w y X)) (va_Qi (fun r (u : Wd × Int64) => post r u.2 u.1) (fun (u : Wd × Int64) t => Rp κ u.1 y (upX X oa (.inr (15, [.long u.2, .double dd, ss]))) [] t.heap) (Af κ)) (XF κ) 3 16 (Af κ) := by
  unfold sp_X0_remit at h
  refine vx_ofWH (cc := cX0_remit) (maxL := 4) (ret := (Option.some Jvm.ClassFile.FieldType.int)) (hh := [(0, 10, 13, 27), (0, 10, 16, 21)]) (by decide) rfl ?_
  intro p e s m args below meth c s₁ B hml hv
  obtain ⟨rfl, hR, hK⟩ := hv
  have hx := B.exec
  have hb := B.bytes
  have hr := B.returns
  have hts := atoms_spec (ws := wsW_ yX0_remit cX0_remit 4 (Option.some Jvm.ClassFile.FieldType.int) [(0, 10, 13, 27), (0, 10, 16, 21)]) B.pre
  have htab : c.exceptionTable.toList = tableOf [(0, 10, 13, 27), (0, 10, 16, 21)] := vx_table (x := yX0_remit) B (hts _ List.mem_cons_self)
  have hts : ∀ w ∈ lw_all, w.before _ s = true := fun w h => hts w (List.mem_cons_of_mem _ h)
  have hown : s.vm.findClass RX0 = some m.cls := findClass_of_methodNamed B.named
  have hS : va_S (Af κ) s.heap s.heap [] := va_S.rf
  have hl := lv_entry ([.ref (y.2 0 0), .int (p1), .ref oa]) (n := 4) (Nat.le_of_ble_eq_true rfl)
  rw [lg_entry_eq]
  generalize (lg_sl ([.ref (y.2 0 0), .int (p1), .ref oa]) ++ List.replicate (4 - (lg_sl ([.ref (y.2 0 0), .int (p1), .ref oa])).length) Slot.unset).toArray = ls at hl ⊢
  have hl : lv_has ls 4 [(0, .ref (y.2 0 0)), (1, .int (p1)), (2, .ref oa)] := hl
  refine lv_aload_n hx hb dX0_remit_0 rfl (lv_at hl 2 rfl) ?_
  refine lv_aload_n hx hb dX0_remit_1 rfl (lv_at hl 0 rfl) ?_
  refine lv_iload_n hx hb dX0_remit_2 rfl (lv_at hl 1 rfl) ?_
  refine cew_qi (fw := fun u => u) (fy := fun _ => y) (X := X) (L := []) (BB := fun _ => True) (fun _ _ h => ⟨h, trivial⟩) (crx_V (n := 1) (As := [.int (p1)]) (rest := [.ref oa]) ⟨hx, hb, hml, hown, hts⟩ hK hR (m_X1_remit hfl hW l0 h) q1475 q1476 q1477 q74 q1478 rfl rfl hd_X1_remit ⟨Nat.le_of_ble_eq_true rfl, Nat.le_of_ble_eq_true rfl⟩ (rv hK hR l0 (ci := 0) rfl rfl) rfl rfl hl.1 rfl (lv_room (Nat.le_of_ble_eq_true rfl)) dX0_remit_3 ⟨(Nat.le_of_ble_eq_true rfl), (Nat.le_of_ble_eq_true rfl)⟩) hR hS (fun E ce9 q9 u H locs hp hR hS hcell hv9 hcl => ?_) (fun r u H locs h hB hR hS => ?_)
  · have hR := hR.xsame hX
    rcases hp with ⟨rfl, h⟩ | ⟨rfl, h⟩
    · refine vx_catch (name := "java/lang/IndexOutOfBoundsException") hown [] ⟨0, 10, 13, 27⟩ [⟨0, 10, 16, 21⟩] htab (fun z9 hz9 => nomatch hz9) rfl (by decide) (hts _ q1006) (va_Nw.use rfl (hK.2.1.2.2.1 _ (List.mem_of_getElem? (i := 0) rfl))) hcell hv9 hcl ?_
      refine lv_astore_n (lv' := [(3, .ref q9), (0, .ref (y.2 0 0)), (1, .int (p1)), (2, .ref oa)]) hx hb dX0_remit_13 rfl hl (by decide) rfl (fun ls hl => ?_)
      refine lv_iconst (v := (1 : Int32)) hx hb dX0_remit_14 (by decide) ?_
      exact vx_ret (W.iret (v := (1 : Int32)) hx hb hr (fun t ht hW9 => ⟨⟨(1 : Int32), (u, n0), rfl, h, rpt ht hR⟩, hS.F ht⟩) hS.2.2 dX0_remit_15)
    · refine vx_catch (name := "java/lang/IllegalStateException") hown [⟨0, 10, 13, 27⟩] ⟨0, 10, 16, 21⟩ [] htab (fun z9 hz9 => by rcases List.mem_cons.mp hz9 with rfl | hz9; exact Or.inr ⟨by decide, _, hts _ q1006, hK.2.1.2.2.2.2.2.2.2.2.2.2.2.2.2 _ (List.mem_of_getElem? (i := 1) rfl)⟩; exact (nomatch hz9)) rfl (by decide) (hts _ q785) (va_Nw.use rfl (hK.2.1.2.2.1 _ (List.mem_of_getElem? (i := 16) rfl))) hcell hv9 hcl ?_
      refine lv_astore_n (lv' := [(3, .ref q9), (0, .ref (y.2 0 0)), (1, .int (p1)), (2, .ref oa)]) hx hb dX0_remit_16 rfl hl (by decide) rfl (fun ls hl => ?_)
      refine lv_iconst (v := (2 : Int32)) hx hb dX0_remit_17 (by decide) ?_
      exact vx_ret (W.iret (v := (2 : Int32)) hx hb hr (fun t ht hW9 => ⟨⟨(2 : Int32), (u, n0), rfl, h, rpt ht hR⟩, hS.F ht⟩) hS.2.2 dX0_remit_18)
  · refine lv_i2l hx hb dX0_remit_6 rfl ?_
    refine xa_putN (T := TX9) (N := 3) (ref := "PublicanryLaw$Out") (host := "PublicanryLaw") hx hb hts in_X9 tyX9 tyX9_ok nmX9 hown hK.1 hS (hR.2.2.2.1 _ _ hX).2.1 (hR.2.2.2.1 _ _ hX).1 rfl 0 (by decide) (va_Nw.use rfl (hK.2.1.2.1 _ (List.mem_of_getElem? (i := 1) rfl))) rfl rfl rfl rfl (Nat.le_of_ble_eq_true rfl) dX0_remit_7 (fun H1 locs h1 hz ho hS => ?_)
    have hR := hR.putXL hX h1 hz ho
    refine lv_goto (tgt := 19) hx hb dX0_remit_10 (by decide) ?_
    refine lv_iconst (v := (0 : Int32)) hx hb dX0_remit_19 (by decide) ?_
    exact vx_ret (W.iret (v := (0 : Int32)) hx hb hr (fun t ht hW9 => ⟨⟨(0 : Int32), (u, r.toInt64), rfl, h, rpt ht hR⟩, hS.F ht⟩) hS.2.2 dX0_remit_20)
abbrev rm_X0_clerks : Room := { frames := 9, cells := 2, slots := 9, locals := 163 }
def sp_X0_clerks (κ : Kx) (y : Ly) (post : Int32 → Int64 → Wd → Prop) (n0 : Int64) (w : Wd) (p1 : Int32) (p2 : Int32) : Prop := sp_X1_clerks κ y (fun r w => post (0 : Int32) (if r = 0 then (0 : Int64) else (1 : Int64)) w) (fun E w => (E = "java/lang/IndexOutOfBoundsException" ∧ post (1 : Int32) n0 w)) w p1 p2
set_option maxHeartbeats 4000000 in
theorem m_X0_clerks {l : Launch} {κ : Kx} {y : Ly} {X : XR} {post : Int32 → Int64 → Wd → Prop} {w : Wd} {oa : Nat} {n0 : Int64} {dd : UInt64} {ss : Value} {p1 : Int32} {p2 : Int32} (hfl : l.stackTraces = false) (hW : WFc κ y) (l0 : live y 0 0) (hX : X oa (.inr (15, [.long n0, .double dd, ss]))) (h : sp_X0_clerks κ y post n0 w p1 p2) : vx_Met l yX0_clerks (wsW_ yX0_clerks cX0_clerks 5 (Option.some Jvm.ClassFile.FieldType.int) [(0, 18, 21, 27)]) rm_X0_clerks (va_Pc [.ref (y.2 0 0), .int (p1), .int (p2), .ref oa] (RC κ w y X)) (va_Qi (fun r (u : Wd × Int64) => post r u.2 u.1) (fun (u : Wd × Int64) t => Rp κ u.1 y (upX X oa (.inr (15, [.long u.2, .double dd, ss]))) [] t.heap) (Af κ)) (XF κ) 2 9 (Af κ) := by
  unfold sp_X0_clerks at h
  refine vx_ofWH (cc := cX0_clerks) (maxL := 5) (ret := (Option.some Jvm.ClassFile.FieldType.int)) (hh := [(0, 18, 21, 27)]) (by decide) rfl ?_
  intro p e s m args below meth c s₁ B hml hv
  obtain ⟨rfl, hR, hK⟩ := hv
  have hx := B.exec
  have hb := B.bytes
  have hr := B.returns
  have hts := atoms_spec (ws := wsW_ yX0_clerks cX0_clerks 5 (Option.some Jvm.ClassFile.FieldType.int) [(0, 18, 21, 27)]) B.pre
  have htab : c.exceptionTable.toList = tableOf [(0, 18, 21, 27)] := vx_table (x := yX0_clerks) B (hts _ List.mem_cons_self)
  have hts : ∀ w ∈ lw_all, w.before _ s = true := fun w h => hts w (List.mem_cons_of_mem _ h)
  have hown : s.vm.findClass RX0 = some m.cls := findClass_of_methodNamed B.named
  have hS : va_S (Af κ) s.heap s.heap [] := va_S.rf
  have hl := lv_entry ([.ref (y.2 0 0), .int (p1), .int (p2), .ref oa]) (n := 5) (Nat.le_of_ble_eq_true rfl)
  rw [lg_entry_eq]
  generalize (lg_sl ([.ref (y.2 0 0), .int (p1), .int (p2), .ref oa]) ++ List.replicate (5 - (lg_sl ([.ref (y.2 0 0), .int (p1), .int (p2), .ref oa])).length) Slot.unset).toArray = ls at hl ⊢
  have hl : lv_has ls 5 [(0, .ref (y.2 0 0)), (1, .int (p1)), (2, .int (p2)), (3, .ref oa)] := hl
  refine lv_aload_n hx hb dX0_clerks_0 rfl (lv_at hl 3 rfl) ?_
  refine lv_aload_n hx hb dX0_clerks_1 rfl (lv_at hl 0 rfl) ?_
  refine lv_iload_n hx hb dX0_clerks_2 rfl (lv_at hl 1 rfl) ?_
  refine lv_iload_n hx hb dX0_clerks_3 rfl (lv_at hl 2 rfl) ?_
  refine cew_qi (fw := fun u => u) (fy := fun _ => y) (X := X) (L := []) (BB := fun _ => True) (fun _ _ h => ⟨h, trivial⟩) (crx_V (n := 2) (As := [.int (p1), .int (p2)]) (rest := [.ref oa]) ⟨hx, hb, hml, hown, hts⟩ hK hR (m_X1_clerks hfl hW l0 h) q1496 q1497 q1498 q74 q1499 rfl rfl hd_X1_clerks ⟨Nat.le_of_ble_eq_true rfl, Nat.le_of_ble_eq_true rfl⟩ (rv hK hR l0 (ci := 0) rfl rfl) rfl rfl hl.1 rfl (lv_room (Nat.le_of_ble_eq_true rfl)) dX0_clerks_4 ⟨(Nat.le_of_ble_eq_true rfl), (Nat.le_of_ble_eq_true rfl)⟩) hR hS (fun E ce9 q9 u H locs hp hR hS hcell hv9 hcl => ?_) (fun r u H locs h hB hR hS => ?_)
  · have hR := hR.xsame hX
    obtain ⟨rfl, h⟩ := hp
    refine vx_catch (name := "java/lang/IndexOutOfBoundsException") hown [] ⟨0, 18, 21, 27⟩ [] htab (fun z9 hz9 => nomatch hz9) rfl (by decide) (hts _ q1006) (va_Nw.use rfl (hK.2.1.2.2.1 _ (List.mem_of_getElem? (i := 0) rfl))) hcell hv9 hcl ?_
    refine lv_astore (lv' := [(4, .ref q9), (0, .ref (y.2 0 0)), (1, .int (p1)), (2, .int (p2)), (3, .ref oa)]) hx hb dX0_clerks_21 hl (by decide) rfl (fun ls hl => ?_)
    refine lv_iconst (v := (1 : Int32)) hx hb dX0_clerks_23 (by decide) ?_
    exact vx_ret (W.iret (v := (1 : Int32)) hx hb hr (fun t ht hW9 => ⟨⟨(1 : Int32), (u, n0), rfl, h, rpt ht hR⟩, hS.F ht⟩) hS.2.2 dX0_clerks_24)
  · refine lv_if_eq (tgt := 14) hx hb dX0_clerks_7 (by decide) (fun c9 => ?_) (fun c9 => ?_)
    · rw [if_pos c9] at h
      refine lv_lconst (v := 0) hx hb dX0_clerks_14 rfl ?_
      refine xa_putN (T := TX9) (N := 3) (ref := "PublicanryLaw$Out") (host := "PublicanryLaw") hx hb hts in_X9 tyX9 tyX9_ok nmX9 hown hK.1 hS (hR.2.2.2.1 _ _ hX).2.1 (hR.2.2.2.1 _ _ hX).1 rfl 0 (by decide) (va_Nw.use rfl (hK.2.1.2.1 _ (List.mem_of_getElem? (i := 1) rfl))) rfl rfl rfl rfl (Nat.le_of_ble_eq_true rfl) dX0_clerks_15 (fun H1 locs h1 hz ho hS => ?_)
      have hR := hR.putXL hX h1 hz ho
      refine lv_goto (tgt := 25) hx hb dX0_clerks_18 (by decide) ?_
      refine lv_iconst (v := (0 : Int32)) hx hb dX0_clerks_25 (by decide) ?_
      exact vx_ret (W.iret (v := (0 : Int32)) hx hb hr (fun t ht hW9 => ⟨⟨(0 : Int32), (u, (0 : Int64)), rfl, h, rpt ht hR⟩, hS.F ht⟩) hS.2.2 dX0_clerks_26)
    · rw [if_neg c9] at h
      refine lv_lconst (v := 1) hx hb dX0_clerks_10 rfl ?_
      refine lv_goto (tgt := 15) hx hb dX0_clerks_11 (by decide) ?_
      refine xa_putN (T := TX9) (N := 3) (ref := "PublicanryLaw$Out") (host := "PublicanryLaw") hx hb hts in_X9 tyX9 tyX9_ok nmX9 hown hK.1 hS (hR.2.2.2.1 _ _ hX).2.1 (hR.2.2.2.1 _ _ hX).1 rfl 0 (by decide) (va_Nw.use rfl (hK.2.1.2.1 _ (List.mem_of_getElem? (i := 1) rfl))) rfl rfl rfl rfl (Nat.le_of_ble_eq_true rfl) dX0_clerks_15 (fun H1 locs h1 hz ho hS => ?_)
      have hR := hR.putXL hX h1 hz ho
      refine lv_goto (tgt := 25) hx hb dX0_clerks_18 (by decide) ?_
      refine lv_iconst (v := (0 : Int32)) hx hb dX0_clerks_25 (by decide) ?_
      exact vx_ret (W.iret (v := (0 : Int32)) hx hb hr (fun t ht hW9 => ⟨⟨(0 : Int32), (u, (1 : Int64)), rfl, h, rpt ht hR⟩, hS.F ht⟩) hS.2.2 dX0_clerks_26)
abbrev rm_X0_pass : Room := { frames := 8, cells := 4517, slots := 16350, locals := 217 }
def sp_X0_pass (κ : Kx) (y : Ly) (post : Int32 → Int64 → Wd → Ly → Prop) (n0 : Int64) (w : Wd) (p1 : Int32) : Prop := sp_X1_pass κ y (fun r w y9 => post (0 : Int32) r.toInt64 w y9) (fun E w => (E = "java/lang/IllegalArgumentException" ∧ post (1 : Int32) n0 w y) ∨ (E = "java/lang/IllegalStateException" ∧ post (2 : Int32) n0 w y)) w p1
set_option maxHeartbeats 4000000 in
theorem m_X0_pass {l : Launch} {κ : Kx} {y : Ly} {X : XR} {post : Int32 → Int64 → Wd → Ly → Prop} {w : Wd} {oa : Nat} {n0 : Int64} {dd : UInt64} {ss : Value} {p1 : Int32} (hfl : l.stackTraces = false) (hW : WFc κ y) (l0 : live y 0 0) (hX : X oa (.inr (15, [.long n0, .double dd, ss]))) (h : sp_X0_pass κ y post n0 w p1) : vx_Met l yX0_pass (wsW_ yX0_pass cX0_pass 4 (Option.some Jvm.ClassFile.FieldType.int) [(0, 10, 13, 19), (0, 10, 16, 21)]) rm_X0_pass (va_Pc [.ref (y.2 0 0), .int (p1), .ref oa] (RC κ w y X)) (va_Qi (fun r (u : Wd × Ly × Int64) => post r u.2.2 u.1 u.2.1) (fun (u : Wd × Ly × Int64) t => Rp κ u.1 u.2.1 (upX X oa (.inr (15, [.long u.2.2, .double dd, ss]))) [] t.heap ∧ WFc κ u.2.1 ∧ LeS y u.2.1) (Af κ)) (XF κ) 4517 16350 (Af κ) := by
  unfold sp_X0_pass at h
  refine vx_ofWH (cc := cX0_pass) (maxL := 4) (ret := (Option.some Jvm.ClassFile.FieldType.int)) (hh := [(0, 10, 13, 19), (0, 10, 16, 21)]) (by decide) rfl ?_
  intro p e s m args below meth c s₁ B hml hv
  obtain ⟨rfl, hR, hK⟩ := hv
  have hx := B.exec
  have hb := B.bytes
  have hr := B.returns
  have hts := atoms_spec (ws := wsW_ yX0_pass cX0_pass 4 (Option.some Jvm.ClassFile.FieldType.int) [(0, 10, 13, 19), (0, 10, 16, 21)]) B.pre
  have htab : c.exceptionTable.toList = tableOf [(0, 10, 13, 19), (0, 10, 16, 21)] := vx_table (x := yX0_pass) B (hts _ List.mem_cons_self)
  have hts : ∀ w ∈ lw_all, w.before _ s = true := fun w h => hts w (List.mem_cons_of_mem _ h)
  have hown : s.vm.findClass RX0 = some m.cls := findClass_of_methodNamed B.named
  have hS : va_S (Af κ) s.heap s.heap [] := va_S.rf
  have hl := lv_entry ([.ref (y.2 0 0), .int (p1), .ref oa]) (n := 4) (Nat.le_of_ble_eq_true rfl)
  rw [lg_entry_eq]
  generalize (lg_sl ([.ref (y.2 0 0), .int (p1), .ref oa]) ++ List.replicate (4 - (lg_sl ([.ref (y.2 0 0), .int (p1), .ref oa])).length) Slot.unset).toArray = ls at hl ⊢
  have hl : lv_has ls 4 [(0, .ref (y.2 0 0)), (1, .int (p1)), (2, .ref oa)] := hl
  refine lv_aload_n hx hb dX0_pass_0 rfl (lv_at hl 2 rfl) ?_
  refine lv_aload_n hx hb dX0_pass_1 rfl (lv_at hl 0 rfl) ?_
  refine lv_iload_n hx hb dX0_pass_2 rfl (lv_at hl 1 rfl) ?_
  refine cew_qi (fw := fun u : Wd × Ly => u.1) (fy := fun u => u.2) (X := X) (L := []) (PB := fun (u : Wd × Ly) t => Rp κ u.1 u.2 (xl X []) [] t.heap ∧ WFc κ u.2 ∧ LeS y u.2) (BB := fun (u : Wd × Ly) => WFc κ u.2 ∧ LeS y u.2) (fun _ _ h => h) (crx_V (n := 1) (As := [.int (p1)]) (rest := [.ref oa]) ⟨hx, hb, hml, hown, hts⟩ hK hR (m_X1_pass hfl hW l0 h) q1503 q1504 q1505 q74 q1506 rfl rfl hd_X1_pass ⟨Nat.le_of_ble_eq_true rfl, Nat.le_of_ble_eq_true rfl⟩ (rv hK hR l0 (ci := 0) rfl rfl) rfl rfl hl.1 rfl (lv_room (Nat.le_of_ble_eq_true rfl)) dX0_pass_3 ⟨(Nat.le_of_ble_eq_true rfl), (Nat.le_of_ble_eq_true rfl)⟩) hR hS (fun E ce9 q9 u H locs hp hR hS hcell hv9 hcl => ?_) (fun r u H locs h hB hR hS => ?_)
  · have hR := hR.xsame hX
    rcases hp with ⟨rfl, h⟩ | ⟨rfl, h⟩
    · refine vx_catch (name := "java/lang/IllegalArgumentException") hown [] ⟨0, 10, 13, 19⟩ [⟨0, 10, 16, 21⟩] htab (fun z9 hz9 => nomatch hz9) rfl (by decide) (hts _ q784) (va_Nw.use rfl (hK.2.1.2.2.1 _ (List.mem_of_getElem? (i := 14) rfl))) hcell hv9 hcl ?_
      refine lv_astore_n (lv' := [(3, .ref q9), (0, .ref (y.2 0 0)), (1, .int (p1)), (2, .ref oa)]) hx hb dX0_pass_13 rfl hl (by decide) rfl (fun ls hl => ?_)
      refine lv_iconst (v := (1 : Int32)) hx hb dX0_pass_14 (by decide) ?_
      exact vx_ret (W.iret (v := (1 : Int32)) hx hb hr (fun t ht hW9 => ⟨⟨(1 : Int32), (u, y, n0), rfl, h, rpt ht hR, hW, LeS.rf⟩, hS.F ht⟩) hS.2.2 dX0_pass_15)
    · refine vx_catch (name := "java/lang/IllegalStateException") hown [⟨0, 10, 13, 19⟩] ⟨0, 10, 16, 21⟩ [] htab (fun z9 hz9 => by rcases List.mem_cons.mp hz9 with rfl | hz9; exact Or.inr ⟨by decide, _, hts _ q784, hK.2.1.2.2.2.2.2.2.2.2.2.2.2.2.2 _ (List.mem_of_getElem? (i := 2) rfl)⟩; exact (nomatch hz9)) rfl (by decide) (hts _ q785) (va_Nw.use rfl (hK.2.1.2.2.1 _ (List.mem_of_getElem? (i := 16) rfl))) hcell hv9 hcl ?_
      refine lv_astore_n (lv' := [(3, .ref q9), (0, .ref (y.2 0 0)), (1, .int (p1)), (2, .ref oa)]) hx hb dX0_pass_16 rfl hl (by decide) rfl (fun ls hl => ?_)
      refine lv_iconst (v := (2 : Int32)) hx hb dX0_pass_17 (by decide) ?_
      exact vx_ret (W.iret (v := (2 : Int32)) hx hb hr (fun t ht hW9 => ⟨⟨(2 : Int32), (u, y, n0), rfl, h, rpt ht hR, hW, LeS.rf⟩, hS.F ht⟩) hS.2.2 dX0_pass_18)
  · refine lv_i2l hx hb dX0_pass_6 rfl ?_
    refine xa_putN (T := TX9) (N := 3) (ref := "PublicanryLaw$Out") (host := "PublicanryLaw") hx hb hts in_X9 tyX9 tyX9_ok nmX9 hown hK.1 hS (hR.2.2.2.1 _ _ hX).2.1 (hR.2.2.2.1 _ _ hX).1 rfl 0 (by decide) (va_Nw.use rfl (hK.2.1.2.1 _ (List.mem_of_getElem? (i := 1) rfl))) rfl rfl rfl rfl (Nat.le_of_ble_eq_true rfl) dX0_pass_7 (fun H1 locs h1 hz ho hS => ?_)
    have hR := hR.putXL hX h1 hz ho
    refine lv_goto (tgt := 19) hx hb dX0_pass_10 (by decide) ?_
    refine lv_iconst (v := (0 : Int32)) hx hb dX0_pass_19 (by decide) ?_
    exact vx_ret (W.iret (v := (0 : Int32)) hx hb hr (fun t ht hW9 => ⟨⟨(0 : Int32), (u.1, u.2, r.toInt64), rfl, h, rpt ht hR, hB⟩, hS.F ht⟩) hS.2.2 dX0_pass_20)
abbrev rm_X0_ofVillage : Room := { frames := 9, cells := 2, slots := 12, locals := 164 }
def sp_X0_ofVillage (κ : Kx) (y : Ly) (post : Int32 → Int64 → Wd → Prop) (n0 : Int64) (w : Wd) (p1 : Int32) (p2 : Int32) : Prop := sp_X1_ofVillage κ y (fun r w => post (0 : Int32) r.toInt64 w) (fun E w => (E = "java/lang/IndexOutOfBoundsException" ∧ post (1 : Int32) n0 w) ∨ (E = "java/lang/IllegalArgumentException" ∧ post (2 : Int32) n0 w)) w p1 p2
set_option maxHeartbeats 4000000 in
theorem m_X0_ofVillage {l : Launch} {κ : Kx} {y : Ly} {X : XR} {post : Int32 → Int64 → Wd → Prop} {w : Wd} {oa : Nat} {n0 : Int64} {dd : UInt64} {ss : Value} {p1 : Int32} {p2 : Int32} (hfl : l.stackTraces = false) (hW : WFc κ y) (l0 : live y 0 0) (hX : X oa (.inr (15, [.long n0, .double dd, ss]))) (h : sp_X0_ofVillage κ y post n0 w p1 p2) : vx_Met l yX0_ofVillage (wsW_ yX0_ofVillage cX0_ofVillage 5 (Option.some Jvm.ClassFile.FieldType.int) [(0, 11, 14, 27), (0, 11, 18, 19)]) rm_X0_ofVillage (va_Pc [.ref (y.2 0 0), .int (p1), .int (p2), .ref oa] (RC κ w y X)) (va_Qi (fun r (u : Wd × Int64) => post r u.2 u.1) (fun (u : Wd × Int64) t => Rp κ u.1 y (upX X oa (.inr (15, [.long u.2, .double dd, ss]))) [] t.heap) (Af κ)) (XF κ) 2 12 (Af κ) := by
  unfold sp_X0_ofVillage at h
  refine vx_ofWH (cc := cX0_ofVillage) (maxL := 5) (ret := (Option.some Jvm.ClassFile.FieldType.int)) (hh := [(0, 11, 14, 27), (0, 11, 18, 19)]) (by decide) rfl ?_
  intro p e s m args below meth c s₁ B hml hv
  obtain ⟨rfl, hR, hK⟩ := hv
  have hx := B.exec
  have hb := B.bytes
  have hr := B.returns
  have hts := atoms_spec (ws := wsW_ yX0_ofVillage cX0_ofVillage 5 (Option.some Jvm.ClassFile.FieldType.int) [(0, 11, 14, 27), (0, 11, 18, 19)]) B.pre
  have htab : c.exceptionTable.toList = tableOf [(0, 11, 14, 27), (0, 11, 18, 19)] := vx_table (x := yX0_ofVillage) B (hts _ List.mem_cons_self)
  have hts : ∀ w ∈ lw_all, w.before _ s = true := fun w h => hts w (List.mem_cons_of_mem _ h)
  have hown : s.vm.findClass RX0 = some m.cls := findClass_of_methodNamed B.named
  have hS : va_S (Af κ) s.heap s.heap [] := va_S.rf
  have hl := lv_entry ([.ref (y.2 0 0), .int (p1), .int (p2), .ref oa]) (n := 5) (Nat.le_of_ble_eq_true rfl)
  rw [lg_entry_eq]
  generalize (lg_sl ([.ref (y.2 0 0), .int (p1), .int (p2), .ref oa]) ++ List.replicate (5 - (lg_sl ([.ref (y.2 0 0), .int (p1), .int (p2), .ref oa])).length) Slot.unset).toArray = ls at hl ⊢
  have hl : lv_has ls 5 [(0, .ref (y.2 0 0)), (1, .int (p1)), (2, .int (p2)), (3, .ref oa)] := hl
  refine lv_aload_n hx hb dX0_ofVillage_0 rfl (lv_at hl 3 rfl) ?_
  refine lv_aload_n hx hb dX0_ofVillage_1 rfl (lv_at hl 0 rfl) ?_
  refine lv_iload_n hx hb dX0_ofVillage_2 rfl (lv_at hl 1 rfl) ?_
  refine lv_iload_n hx hb dX0_ofVillage_3 rfl (lv_at hl 2 rfl) ?_
  refine cew_qi (fw := fun u => u) (fy := fun _ => y) (X := X) (L := []) (BB := fun _ => True) (fun _ _ h => ⟨h, trivial⟩) (crx_V (n := 2) (As := [.int (p1), .int (p2)]) (rest := [.ref oa]) ⟨hx, hb, hml, hown, hts⟩ hK hR (m_X1_ofVillage hfl hW l0 h) q1592 q1593 q1594 q74 q1595 rfl rfl hd_X1_ofVillage ⟨Nat.le_of_ble_eq_true rfl, Nat.le_of_ble_eq_true rfl⟩ (rv hK hR l0 (ci := 0) rfl rfl) rfl rfl hl.1 rfl (lv_room (Nat.le_of_ble_eq_true rfl)) dX0_ofVillage_4 ⟨(Nat.le_of_ble_eq_true rfl), (Nat.le_of_ble_eq_true rfl)⟩) hR hS (fun E ce9 q9 u H locs hp hR hS hcell hv9 hcl => ?_) (fun r u H locs h hB hR hS => ?_)
  · have hR := hR.xsame hX
    rcases hp with ⟨rfl, h⟩ | ⟨rfl, h⟩
    · refine vx_catch (name := "java/lang/IndexOutOfBoundsException") hown [] ⟨0, 11, 14, 27⟩ [⟨0, 11, 18, 19⟩] htab (fun z9 hz9 => nomatch hz9) rfl (by decide) (hts _ q1006) (va_Nw.use rfl (hK.2.1.2.2.1 _ (List.mem_of_getElem? (i := 0) rfl))) hcell hv9 hcl ?_
      refine lv_astore (lv' := [(4, .ref q9), (0, .ref (y.2 0 0)), (1, .int (p1)), (2, .int (p2)), (3, .ref oa)]) hx hb dX0_ofVillage_14 hl (by decide) rfl (fun ls hl => ?_)
      refine lv_iconst (v := (1 : Int32)) hx hb dX0_ofVillage_16 (by decide) ?_
      exact vx_ret (W.iret (v := (1 : Int32)) hx hb hr (fun t ht hW9 => ⟨⟨(1 : Int32), (u, n0), rfl, h, rpt ht hR⟩, hS.F ht⟩) hS.2.2 dX0_ofVillage_17)
    · refine vx_catch (name := "java/lang/IllegalArgumentException") hown [⟨0, 11, 14, 27⟩] ⟨0, 11, 18, 19⟩ [] htab (fun z9 hz9 => by rcases List.mem_cons.mp hz9 with rfl | hz9; exact Or.inr ⟨by decide, _, hts _ q1006, hK.2.1.2.2.2.2.2.2.2.2.2.2.2.2.2 _ (List.mem_of_getElem? (i := 0) rfl)⟩; exact (nomatch hz9)) rfl (by decide) (hts _ q784) (va_Nw.use rfl (hK.2.1.2.2.1 _ (List.mem_of_getElem? (i := 14) rfl))) hcell hv9 hcl ?_
      refine lv_astore (lv' := [(4, .ref q9), (0, .ref (y.2 0 0)), (1, .int (p1)), (2, .int (p2)), (3, .ref oa)]) hx hb dX0_ofVillage_18 hl (by decide) rfl (fun ls hl => ?_)
      refine lv_iconst (v := (2 : Int32)) hx hb dX0_ofVillage_20 (by decide) ?_
      exact vx_ret (W.iret (v := (2 : Int32)) hx hb hr (fun t ht hW9 => ⟨⟨(2 : Int32), (u, n0), rfl, h, rpt ht hR⟩, hS.F ht⟩) hS.2.2 dX0_ofVillage_21)
  · refine lv_i2l hx hb dX0_ofVillage_7 rfl ?_
    refine xa_putN (T := TX9) (N := 3) (ref := "PublicanryLaw$Out") (host := "PublicanryLaw") hx hb hts in_X9 tyX9 tyX9_ok nmX9 hown hK.1 hS (hR.2.2.2.1 _ _ hX).2.1 (hR.2.2.2.1 _ _ hX).1 rfl 0 (by decide) (va_Nw.use rfl (hK.2.1.2.1 _ (List.mem_of_getElem? (i := 1) rfl))) rfl rfl rfl rfl (Nat.le_of_ble_eq_true rfl) dX0_ofVillage_8 (fun H1 locs h1 hz ho hS => ?_)
    have hR := hR.putXL hX h1 hz ho
    refine lv_goto (tgt := 22) hx hb dX0_ofVillage_11 (by decide) ?_
    refine lv_iconst (v := (0 : Int32)) hx hb dX0_ofVillage_22 (by decide) ?_
    exact vx_ret (W.iret (v := (0 : Int32)) hx hb hr (fun t ht hW9 => ⟨⟨(0 : Int32), (u, r.toInt64), rfl, h, rpt ht hR⟩, hS.F ht⟩) hS.2.2 dX0_ofVillage_23)
abbrev rm_X0_due : Room := { frames := 9, cells := 3, slots := 15, locals := 165 }
def sp_X0_due (κ : Kx) (y : Ly) (post : Int32 → Int64 → Wd → Prop) (n0 : Int64) (w : Wd) (p1 : Int32) (p2 : Int32) (p3 : Int32) : Prop := sp_X1_due κ y (fun r w => post (0 : Int32) r.toInt64 w) (fun E w => (E = "java/lang/IndexOutOfBoundsException" ∧ post (1 : Int32) n0 w)) w p1 p2 p3
set_option maxHeartbeats 4000000 in
theorem m_X0_due {l : Launch} {κ : Kx} {y : Ly} {X : XR} {post : Int32 → Int64 → Wd → Prop} {w : Wd} {oa : Nat} {n0 : Int64} {dd : UInt64} {ss : Value} {p1 : Int32} {p2 : Int32} {p3 : Int32} (hfl : l.stackTraces = false) (hW : WFc κ y) (l0 : live y 0 0) (hX : X oa (.inr (15, [.long n0, .double dd, ss]))) (h : sp_X0_due κ y post n0 w p1 p2 p3) : vx_Met l yX0_due (wsW_ yX0_due cX0_due 6 (Option.some Jvm.ClassFile.FieldType.int) [(0, 13, 16, 27)]) rm_X0_due (va_Pc [.ref (y.2 0 0), .int (p1), .int (p2), .int (p3), .ref oa] (RC κ w y X)) (va_Qi (fun r (u : Wd × Int64) => post r u.2 u.1) (fun (u : Wd × Int64) t => Rp κ u.1 y (upX X oa (.inr (15, [.long u.2, .double dd, ss]))) [] t.heap) (Af κ)) (XF κ) 3 15 (Af κ) := by
  unfold sp_X0_due at h
  refine vx_ofWH (cc := cX0_due) (maxL := 6) (ret := (Option.some Jvm.ClassFile.FieldType.int)) (hh := [(0, 13, 16, 27)]) (by decide) rfl ?_
  intro p e s m args below meth c s₁ B hml hv
  obtain ⟨rfl, hR, hK⟩ := hv
  have hx := B.exec
  have hb := B.bytes
  have hr := B.returns
  have hts := atoms_spec (ws := wsW_ yX0_due cX0_due 6 (Option.some Jvm.ClassFile.FieldType.int) [(0, 13, 16, 27)]) B.pre
  have htab : c.exceptionTable.toList = tableOf [(0, 13, 16, 27)] := vx_table (x := yX0_due) B (hts _ List.mem_cons_self)
  have hts : ∀ w ∈ lw_all, w.before _ s = true := fun w h => hts w (List.mem_cons_of_mem _ h)
  have hown : s.vm.findClass RX0 = some m.cls := findClass_of_methodNamed B.named
  have hS : va_S (Af κ) s.heap s.heap [] := va_S.rf
  have hl := lv_entry ([.ref (y.2 0 0), .int (p1), .int (p2), .int (p3), .ref oa]) (n := 6) (Nat.le_of_ble_eq_true rfl)
  rw [lg_entry_eq]
  generalize (lg_sl ([.ref (y.2 0 0), .int (p1), .int (p2), .int (p3), .ref oa]) ++ List.replicate (6 - (lg_sl ([.ref (y.2 0 0), .int (p1), .int (p2), .int (p3), .ref oa])).length) Slot.unset).toArray = ls at hl ⊢
  have hl : lv_has ls 6 [(0, .ref (y.2 0 0)), (1, .int (p1)), (2, .int (p2)), (3, .int (p3)), (4, .ref oa)] := hl
  refine lv_aload hx hb dX0_due_0 (lv_at hl 4 rfl) ?_
  refine lv_aload_n hx hb dX0_due_2 rfl (lv_at hl 0 rfl) ?_
  refine lv_iload_n hx hb dX0_due_3 rfl (lv_at hl 1 rfl) ?_
  refine lv_iload_n hx hb dX0_due_4 rfl (lv_at hl 2 rfl) ?_
  refine lv_iload_n hx hb dX0_due_5 rfl (lv_at hl 3 rfl) ?_
  refine cew_qi (fw := fun u => u) (fy := fun _ => y) (X := X) (L := []) (BB := fun _ => True) (fun _ _ h => ⟨h, trivial⟩) (crx_V (n := 3) (As := [.int (p1), .int (p2), .int (p3)]) (rest := [.ref oa]) ⟨hx, hb, hml, hown, hts⟩ hK hR (m_X1_due hfl hW l0 h) q1600 q1601 q1602 q74 q1603 rfl rfl hd_X1_due ⟨Nat.le_of_ble_eq_true rfl, Nat.le_of_ble_eq_true rfl⟩ (rv hK hR l0 (ci := 0) rfl rfl) rfl rfl hl.1 rfl (lv_room (Nat.le_of_ble_eq_true rfl)) dX0_due_6 ⟨(Nat.le_of_ble_eq_true rfl), (Nat.le_of_ble_eq_true rfl)⟩) hR hS (fun E ce9 q9 u H locs hp hR hS hcell hv9 hcl => ?_) (fun r u H locs h hB hR hS => ?_)
  · have hR := hR.xsame hX
    obtain ⟨rfl, h⟩ := hp
    refine vx_catch (name := "java/lang/IndexOutOfBoundsException") hown [] ⟨0, 13, 16, 27⟩ [] htab (fun z9 hz9 => nomatch hz9) rfl (by decide) (hts _ q1006) (va_Nw.use rfl (hK.2.1.2.2.1 _ (List.mem_of_getElem? (i := 0) rfl))) hcell hv9 hcl ?_
    refine lv_astore (lv' := [(5, .ref q9), (0, .ref (y.2 0 0)), (1, .int (p1)), (2, .int (p2)), (3, .int (p3)), (4, .ref oa)]) hx hb dX0_due_16 hl (by decide) rfl (fun ls hl => ?_)
    refine lv_iconst (v := (1 : Int32)) hx hb dX0_due_18 (by decide) ?_
    exact vx_ret (W.iret (v := (1 : Int32)) hx hb hr (fun t ht hW9 => ⟨⟨(1 : Int32), (u, n0), rfl, h, rpt ht hR⟩, hS.F ht⟩) hS.2.2 dX0_due_19)
  · refine lv_i2l hx hb dX0_due_9 rfl ?_
    refine xa_putN (T := TX9) (N := 3) (ref := "PublicanryLaw$Out") (host := "PublicanryLaw") hx hb hts in_X9 tyX9 tyX9_ok nmX9 hown hK.1 hS (hR.2.2.2.1 _ _ hX).2.1 (hR.2.2.2.1 _ _ hX).1 rfl 0 (by decide) (va_Nw.use rfl (hK.2.1.2.1 _ (List.mem_of_getElem? (i := 1) rfl))) rfl rfl rfl rfl (Nat.le_of_ble_eq_true rfl) dX0_due_10 (fun H1 locs h1 hz ho hS => ?_)
    have hR := hR.putXL hX h1 hz ho
    refine lv_goto (tgt := 20) hx hb dX0_due_13 (by decide) ?_
    refine lv_iconst (v := (0 : Int32)) hx hb dX0_due_20 (by decide) ?_
    exact vx_ret (W.iret (v := (0 : Int32)) hx hb hr (fun t ht hW9 => ⟨⟨(0 : Int32), (u, r.toInt64), rfl, h, rpt ht hR⟩, hS.F ht⟩) hS.2.2 dX0_due_21)
abbrev rm_X0_levy : Room := { frames := 9, cells := 4, slots := 21, locals := 165 }
def sp_X0_levy (κ : Kx) (y : Ly) (post : Int32 → Int64 → Wd → Prop) (n0 : Int64) (w : Wd) (p1 : Int32) (p2 : Int32) (p3 : Int32) : Prop := sp_X1_levy κ y (fun r w => post (0 : Int32) r.toInt64 w) (fun E w => (E = "java/lang/IndexOutOfBoundsException" ∧ post (1 : Int32) n0 w) ∨ (E = "java/lang/IllegalArgumentException" ∧ post (2 : Int32) n0 w)) w p1 p2 p3
set_option maxHeartbeats 4000000 in
theorem m_X0_levy {l : Launch} {κ : Kx} {y : Ly} {X : XR} {post : Int32 → Int64 → Wd → Prop} {w : Wd} {oa : Nat} {n0 : Int64} {dd : UInt64} {ss : Value} {p1 : Int32} {p2 : Int32} {p3 : Int32} (hfl : l.stackTraces = false) (hW : WFc κ y) (l0 : live y 0 0) (hX : X oa (.inr (15, [.long n0, .double dd, ss]))) (h : sp_X0_levy κ y post n0 w p1 p2 p3) : vx_Met l yX0_levy (wsW_ yX0_levy cX0_levy 6 (Option.some Jvm.ClassFile.FieldType.int) [(0, 13, 16, 27), (0, 13, 20, 19)]) rm_X0_levy (va_Pc [.ref (y.2 0 0), .int (p1), .int (p2), .int (p3), .ref oa] (RC κ w y X)) (va_Qi (fun r (u : Wd × Int64) => post r u.2 u.1) (fun (u : Wd × Int64) t => Rp κ u.1 y (upX X oa (.inr (15, [.long u.2, .double dd, ss]))) [] t.heap) (Af κ)) (XF κ) 4 21 (Af κ) := by
  unfold sp_X0_levy at h
  refine vx_ofWH (cc := cX0_levy) (maxL := 6) (ret := (Option.some Jvm.ClassFile.FieldType.int)) (hh := [(0, 13, 16, 27), (0, 13, 20, 19)]) (by decide) rfl ?_
  intro p e s m args below meth c s₁ B hml hv
  obtain ⟨rfl, hR, hK⟩ := hv
  have hx := B.exec
  have hb := B.bytes
  have hr := B.returns
  have hts := atoms_spec (ws := wsW_ yX0_levy cX0_levy 6 (Option.some Jvm.ClassFile.FieldType.int) [(0, 13, 16, 27), (0, 13, 20, 19)]) B.pre
  have htab : c.exceptionTable.toList = tableOf [(0, 13, 16, 27), (0, 13, 20, 19)] := vx_table (x := yX0_levy) B (hts _ List.mem_cons_self)
  have hts : ∀ w ∈ lw_all, w.before _ s = true := fun w h => hts w (List.mem_cons_of_mem _ h)
  have hown : s.vm.findClass RX0 = some m.cls := findClass_of_methodNamed B.named
  have hS : va_S (Af κ) s.heap s.heap [] := va_S.rf
  have hl := lv_entry ([.ref (y.2 0 0), .int (p1), .int (p2), .int (p3), .ref oa]) (n := 6) (Nat.le_of_ble_eq_true rfl)
  rw [lg_entry_eq]
  generalize (lg_sl ([.ref (y.2 0 0), .int (p1), .int (p2), .int (p3), .ref oa]) ++ List.replicate (6 - (lg_sl ([.ref (y.2 0 0), .int (p1), .int (p2), .int (p3), .ref oa])).length) Slot.unset).toArray = ls at hl ⊢
  have hl : lv_has ls 6 [(0, .ref (y.2 0 0)), (1, .int (p1)), (2, .int (p2)), (3, .int (p3)), (4, .ref oa)] := hl
  refine lv_aload hx hb dX0_levy_0 (lv_at hl 4 rfl) ?_
  refine lv_aload_n hx hb dX0_levy_2 rfl (lv_at hl 0 rfl) ?_
  refine lv_iload_n hx hb dX0_levy_3 rfl (lv_at hl 1 rfl) ?_
  refine lv_iload_n hx hb dX0_levy_4 rfl (lv_at hl 2 rfl) ?_
  refine lv_iload_n hx hb dX0_levy_5 rfl (lv_at hl 3 rfl) ?_
  refine cew_qi (fw := fun u => u) (fy := fun _ => y) (X := X) (L := []) (BB := fun _ => True) (fun _ _ h => ⟨h, trivial⟩) (crx_V (n := 3) (As := [.int (p1), .int (p2), .int (p3)]) (rest := [.ref oa]) ⟨hx, hb, hml, hown, hts⟩ hK hR (m_X1_levy hfl hW l0 h) q1611 q1612 q1613 q74 q1614 rfl rfl hd_X1_levy ⟨Nat.le_of_ble_eq_true rfl, Nat.le_of_ble_eq_true rfl⟩ (rv hK hR l0 (ci := 0) rfl rfl) rfl rfl hl.1 rfl (lv_room (Nat.le_of_ble_eq_true rfl)) dX0_levy_6 ⟨(Nat.le_of_ble_eq_true rfl), (Nat.le_of_ble_eq_true rfl)⟩) hR hS (fun E ce9 q9 u H locs hp hR hS hcell hv9 hcl => ?_) (fun r u H locs h hB hR hS => ?_)
  · have hR := hR.xsame hX
    rcases hp with ⟨rfl, h⟩ | ⟨rfl, h⟩
    · refine vx_catch (name := "java/lang/IndexOutOfBoundsException") hown [] ⟨0, 13, 16, 27⟩ [⟨0, 13, 20, 19⟩] htab (fun z9 hz9 => nomatch hz9) rfl (by decide) (hts _ q1006) (va_Nw.use rfl (hK.2.1.2.2.1 _ (List.mem_of_getElem? (i := 0) rfl))) hcell hv9 hcl ?_
      refine lv_astore (lv' := [(5, .ref q9), (0, .ref (y.2 0 0)), (1, .int (p1)), (2, .int (p2)), (3, .int (p3)), (4, .ref oa)]) hx hb dX0_levy_16 hl (by decide) rfl (fun ls hl => ?_)
      refine lv_iconst (v := (1 : Int32)) hx hb dX0_levy_18 (by decide) ?_
      exact vx_ret (W.iret (v := (1 : Int32)) hx hb hr (fun t ht hW9 => ⟨⟨(1 : Int32), (u, n0), rfl, h, rpt ht hR⟩, hS.F ht⟩) hS.2.2 dX0_levy_19)
    · refine vx_catch (name := "java/lang/IllegalArgumentException") hown [⟨0, 13, 16, 27⟩] ⟨0, 13, 20, 19⟩ [] htab (fun z9 hz9 => by rcases List.mem_cons.mp hz9 with rfl | hz9; exact Or.inr ⟨by decide, _, hts _ q1006, hK.2.1.2.2.2.2.2.2.2.2.2.2.2.2.2 _ (List.mem_of_getElem? (i := 0) rfl)⟩; exact (nomatch hz9)) rfl (by decide) (hts _ q784) (va_Nw.use rfl (hK.2.1.2.2.1 _ (List.mem_of_getElem? (i := 14) rfl))) hcell hv9 hcl ?_
      refine lv_astore (lv' := [(5, .ref q9), (0, .ref (y.2 0 0)), (1, .int (p1)), (2, .int (p2)), (3, .int (p3)), (4, .ref oa)]) hx hb dX0_levy_20 hl (by decide) rfl (fun ls hl => ?_)
      refine lv_iconst (v := (2 : Int32)) hx hb dX0_levy_22 (by decide) ?_
      exact vx_ret (W.iret (v := (2 : Int32)) hx hb hr (fun t ht hW9 => ⟨⟨(2 : Int32), (u, n0), rfl, h, rpt ht hR⟩, hS.F ht⟩) hS.2.2 dX0_levy_23)
  · refine lv_i2l hx hb dX0_levy_9 rfl ?_
    refine xa_putN (T := TX9) (N := 3) (ref := "PublicanryLaw$Out") (host := "PublicanryLaw") hx hb hts in_X9 tyX9 tyX9_ok nmX9 hown hK.1 hS (hR.2.2.2.1 _ _ hX).2.1 (hR.2.2.2.1 _ _ hX).1 rfl 0 (by decide) (va_Nw.use rfl (hK.2.1.2.1 _ (List.mem_of_getElem? (i := 1) rfl))) rfl rfl rfl rfl (Nat.le_of_ble_eq_true rfl) dX0_levy_10 (fun H1 locs h1 hz ho hS => ?_)
    have hR := hR.putXL hX h1 hz ho
    refine lv_goto (tgt := 24) hx hb dX0_levy_13 (by decide) ?_
    refine lv_iconst (v := (0 : Int32)) hx hb dX0_levy_24 (by decide) ?_
    exact vx_ret (W.iret (v := (0 : Int32)) hx hb hr (fun t ht hW9 => ⟨⟨(0 : Int32), (u, r.toInt64), rfl, h, rpt ht hR⟩, hS.F ht⟩) hS.2.2 dX0_levy_25)
abbrev rm_X0_law : Room := { frames := 9, cells := 3, slots := 15, locals := 162 }
def sp_X0_law (κ : Kx) (y : Ly) (post : Int32 → Int64 → Wd → Prop) (n0 : Int64) (w : Wd) (p1 : Int32) (p2 : Int32) : Prop := sp_X1_law κ y (fun r w => post (0 : Int32) r.toInt64 w) (fun E w => (E = "java/lang/IndexOutOfBoundsException" ∧ post (1 : Int32) n0 w) ∨ (E = "java/lang/IllegalArgumentException" ∧ post (2 : Int32) n0 w)) w p1 p2
set_option maxHeartbeats 4000000 in
theorem m_X0_law {l : Launch} {κ : Kx} {y : Ly} {X : XR} {post : Int32 → Int64 → Wd → Prop} {w : Wd} {oa : Nat} {n0 : Int64} {dd : UInt64} {ss : Value} {p1 : Int32} {p2 : Int32} (hfl : l.stackTraces = false) (hW : WFc κ y) (l0 : live y 0 0) (hX : X oa (.inr (15, [.long n0, .double dd, ss]))) (h : sp_X0_law κ y post n0 w p1 p2) : vx_Met l yX0_law (wsW_ yX0_law cX0_law 5 (Option.some Jvm.ClassFile.FieldType.int) [(0, 11, 14, 27), (0, 11, 18, 19)]) rm_X0_law (va_Pc [.ref (y.2 0 0), .int (p1), .int (p2), .ref oa] (RC κ w y X)) (va_Qi (fun r (u : Wd × Int64) => post r u.2 u.1) (fun (u : Wd × Int64) t => Rp κ u.1 y (upX X oa (.inr (15, [.long u.2, .double dd, ss]))) [] t.heap) (Af κ)) (XF κ) 3 15 (Af κ) := by
  unfold sp_X0_law at h
  refine vx_ofWH (cc := cX0_law) (maxL := 5) (ret := (Option.some Jvm.ClassFile.FieldType.int)) (hh := [(0, 11, 14, 27), (0, 11, 18, 19)]) (by decide) rfl ?_
  intro p e s m args below meth c s₁ B hml hv
  obtain ⟨rfl, hR, hK⟩ := hv
  have hx := B.exec
  have hb := B.bytes
  have hr := B.returns
  have hts := atoms_spec (ws := wsW_ yX0_law cX0_law 5 (Option.some Jvm.ClassFile.FieldType.int) [(0, 11, 14, 27), (0, 11, 18, 19)]) B.pre
  have htab : c.exceptionTable.toList = tableOf [(0, 11, 14, 27), (0, 11, 18, 19)] := vx_table (x := yX0_law) B (hts _ List.mem_cons_self)
  have hts : ∀ w ∈ lw_all, w.before _ s = true := fun w h => hts w (List.mem_cons_of_mem _ h)
  have hown : s.vm.findClass RX0 = some m.cls := findClass_of_methodNamed B.named
  have hS : va_S (Af κ) s.heap s.heap [] := va_S.rf
  have hl := lv_entry ([.ref (y.2 0 0), .int (p1), .int (p2), .ref oa]) (n := 5) (Nat.le_of_ble_eq_true rfl)
  rw [lg_entry_eq]
  generalize (lg_sl ([.ref (y.2 0 0), .int (p1), .int (p2), .ref oa]) ++ List.replicate (5 - (lg_sl ([.ref (y.2 0 0), .int (p1), .int (p2), .ref oa])).length) Slot.unset).toArray = ls at hl ⊢
  have hl : lv_has ls 5 [(0, .ref (y.2 0 0)), (1, .int (p1)), (2, .int (p2)), (3, .ref oa)] := hl
  refine lv_aload_n hx hb dX0_law_0 rfl (lv_at hl 3 rfl) ?_
  refine lv_aload_n hx hb dX0_law_1 rfl (lv_at hl 0 rfl) ?_
  refine lv_iload_n hx hb dX0_law_2 rfl (lv_at hl 1 rfl) ?_
  refine lv_iload_n hx hb dX0_law_3 rfl (lv_at hl 2 rfl) ?_
  refine cew_qi (fw := fun u => u) (fy := fun _ => y) (X := X) (L := []) (BB := fun _ => True) (fun _ _ h => ⟨h, trivial⟩) (crx_V (n := 2) (As := [.int (p1), .int (p2)]) (rest := [.ref oa]) ⟨hx, hb, hml, hown, hts⟩ hK hR (m_X1_law hfl hW l0 h) q1618 q1619 q1620 q74 q1621 rfl rfl hd_X1_law ⟨Nat.le_of_ble_eq_true rfl, Nat.le_of_ble_eq_true rfl⟩ (rv hK hR l0 (ci := 0) rfl rfl) rfl rfl hl.1 rfl (lv_room (Nat.le_of_ble_eq_true rfl)) dX0_law_4 ⟨(Nat.le_of_ble_eq_true rfl), (Nat.le_of_ble_eq_true rfl)⟩) hR hS (fun E ce9 q9 u H locs hp hR hS hcell hv9 hcl => ?_) (fun r u H locs h hB hR hS => ?_)
  · have hR := hR.xsame hX
    rcases hp with ⟨rfl, h⟩ | ⟨rfl, h⟩
    · refine vx_catch (name := "java/lang/IndexOutOfBoundsException") hown [] ⟨0, 11, 14, 27⟩ [⟨0, 11, 18, 19⟩] htab (fun z9 hz9 => nomatch hz9) rfl (by decide) (hts _ q1006) (va_Nw.use rfl (hK.2.1.2.2.1 _ (List.mem_of_getElem? (i := 0) rfl))) hcell hv9 hcl ?_
      refine lv_astore (lv' := [(4, .ref q9), (0, .ref (y.2 0 0)), (1, .int (p1)), (2, .int (p2)), (3, .ref oa)]) hx hb dX0_law_14 hl (by decide) rfl (fun ls hl => ?_)
      refine lv_iconst (v := (1 : Int32)) hx hb dX0_law_16 (by decide) ?_
      exact vx_ret (W.iret (v := (1 : Int32)) hx hb hr (fun t ht hW9 => ⟨⟨(1 : Int32), (u, n0), rfl, h, rpt ht hR⟩, hS.F ht⟩) hS.2.2 dX0_law_17)
    · refine vx_catch (name := "java/lang/IllegalArgumentException") hown [⟨0, 11, 14, 27⟩] ⟨0, 11, 18, 19⟩ [] htab (fun z9 hz9 => by rcases List.mem_cons.mp hz9 with rfl | hz9; exact Or.inr ⟨by decide, _, hts _ q1006, hK.2.1.2.2.2.2.2.2.2.2.2.2.2.2.2 _ (List.mem_of_getElem? (i := 0) rfl)⟩; exact (nomatch hz9)) rfl (by decide) (hts _ q784) (va_Nw.use rfl (hK.2.1.2.2.1 _ (List.mem_of_getElem? (i := 14) rfl))) hcell hv9 hcl ?_
      refine lv_astore (lv' := [(4, .ref q9), (0, .ref (y.2 0 0)), (1, .int (p1)), (2, .int (p2)), (3, .ref oa)]) hx hb dX0_law_18 hl (by decide) rfl (fun ls hl => ?_)
      refine lv_iconst (v := (2 : Int32)) hx hb dX0_law_20 (by decide) ?_
      exact vx_ret (W.iret (v := (2 : Int32)) hx hb hr (fun t ht hW9 => ⟨⟨(2 : Int32), (u, n0), rfl, h, rpt ht hR⟩, hS.F ht⟩) hS.2.2 dX0_law_21)
  · refine lv_i2l hx hb dX0_law_7 rfl ?_
    refine xa_putN (T := TX9) (N := 3) (ref := "PublicanryLaw$Out") (host := "PublicanryLaw") hx hb hts in_X9 tyX9 tyX9_ok nmX9 hown hK.1 hS (hR.2.2.2.1 _ _ hX).2.1 (hR.2.2.2.1 _ _ hX).1 rfl 0 (by decide) (va_Nw.use rfl (hK.2.1.2.1 _ (List.mem_of_getElem? (i := 1) rfl))) rfl rfl rfl rfl (Nat.le_of_ble_eq_true rfl) dX0_law_8 (fun H1 locs h1 hz ho hS => ?_)
    have hR := hR.putXL hX h1 hz ho
    refine lv_goto (tgt := 22) hx hb dX0_law_11 (by decide) ?_
    refine lv_iconst (v := (0 : Int32)) hx hb dX0_law_22 (by decide) ?_
    exact vx_ret (W.iret (v := (0 : Int32)) hx hb hr (fun t ht hW9 => ⟨⟨(0 : Int32), (u, r.toInt64), rfl, h, rpt ht hR⟩, hS.F ht⟩) hS.2.2 dX0_law_23)
abbrev rm_X0_ofCompany : Room := { frames := 9, cells := 3, slots := 16, locals := 164 }
def sp_X0_ofCompany (κ : Kx) (y : Ly) (post : Int32 → Int64 → Wd → Prop) (n0 : Int64) (w : Wd) (p1 : Int32) (p2 : Int32) : Prop := sp_X1_ofCompany κ y (fun r w => post (0 : Int32) r.toInt64 w) (fun E w => (E = "java/lang/IndexOutOfBoundsException" ∧ post (1 : Int32) n0 w) ∨ (E = "java/lang/IllegalArgumentException" ∧ post (2 : Int32) n0 w)) w p1 p2
set_option maxHeartbeats 4000000 in
theorem m_X0_ofCompany {l : Launch} {κ : Kx} {y : Ly} {X : XR} {post : Int32 → Int64 → Wd → Prop} {w : Wd} {oa : Nat} {n0 : Int64} {dd : UInt64} {ss : Value} {p1 : Int32} {p2 : Int32} (hfl : l.stackTraces = false) (hW : WFc κ y) (l0 : live y 0 0) (hX : X oa (.inr (15, [.long n0, .double dd, ss]))) (h : sp_X0_ofCompany κ y post n0 w p1 p2) : vx_Met l yX0_ofCompany (wsW_ yX0_ofCompany cX0_ofCompany 5 (Option.some Jvm.ClassFile.FieldType.int) [(0, 11, 14, 27), (0, 11, 18, 19)]) rm_X0_ofCompany (va_Pc [.ref (y.2 0 0), .int (p1), .int (p2), .ref oa] (RC κ w y X)) (va_Qi (fun r (u : Wd × Int64) => post r u.2 u.1) (fun (u : Wd × Int64) t => Rp κ u.1 y (upX X oa (.inr (15, [.long u.2, .double dd, ss]))) [] t.heap) (Af κ)) (XF κ) 3 16 (Af κ) := by
  unfold sp_X0_ofCompany at h
  refine vx_ofWH (cc := cX0_ofCompany) (maxL := 5) (ret := (Option.some Jvm.ClassFile.FieldType.int)) (hh := [(0, 11, 14, 27), (0, 11, 18, 19)]) (by decide) rfl ?_
  intro p e s m args below meth c s₁ B hml hv
  obtain ⟨rfl, hR, hK⟩ := hv
  have hx := B.exec
  have hb := B.bytes
  have hr := B.returns
  have hts := atoms_spec (ws := wsW_ yX0_ofCompany cX0_ofCompany 5 (Option.some Jvm.ClassFile.FieldType.int) [(0, 11, 14, 27), (0, 11, 18, 19)]) B.pre
  have htab : c.exceptionTable.toList = tableOf [(0, 11, 14, 27), (0, 11, 18, 19)] := vx_table (x := yX0_ofCompany) B (hts _ List.mem_cons_self)
  have hts : ∀ w ∈ lw_all, w.before _ s = true := fun w h => hts w (List.mem_cons_of_mem _ h)
  have hown : s.vm.findClass RX0 = some m.cls := findClass_of_methodNamed B.named
  have hS : va_S (Af κ) s.heap s.heap [] := va_S.rf
  have hl := lv_entry ([.ref (y.2 0 0), .int (p1), .int (p2), .ref oa]) (n := 5) (Nat.le_of_ble_eq_true rfl)
  rw [lg_entry_eq]
  generalize (lg_sl ([.ref (y.2 0 0), .int (p1), .int (p2), .ref oa]) ++ List.replicate (5 - (lg_sl ([.ref (y.2 0 0), .int (p1), .int (p2), .ref oa])).length) Slot.unset).toArray = ls at hl ⊢
  have hl : lv_has ls 5 [(0, .ref (y.2 0 0)), (1, .int (p1)), (2, .int (p2)), (3, .ref oa)] := hl
  refine lv_aload_n hx hb dX0_ofCompany_0 rfl (lv_at hl 3 rfl) ?_
  refine lv_aload_n hx hb dX0_ofCompany_1 rfl (lv_at hl 0 rfl) ?_
  refine lv_iload_n hx hb dX0_ofCompany_2 rfl (lv_at hl 1 rfl) ?_
  refine lv_iload_n hx hb dX0_ofCompany_3 rfl (lv_at hl 2 rfl) ?_
  refine cew_qi (fw := fun u => u) (fy := fun _ => y) (X := X) (L := []) (BB := fun _ => True) (fun _ _ h => ⟨h, trivial⟩) (crx_V (n := 2) (As := [.int (p1), .int (p2)]) (rest := [.ref oa]) ⟨hx, hb, hml, hown, hts⟩ hK hR (m_X1_ofCompany hfl hW l0 h) q1625 q1626 q1627 q74 q1628 rfl rfl hd_X1_ofCompany ⟨Nat.le_of_ble_eq_true rfl, Nat.le_of_ble_eq_true rfl⟩ (rv hK hR l0 (ci := 0) rfl rfl) rfl rfl hl.1 rfl (lv_room (Nat.le_of_ble_eq_true rfl)) dX0_ofCompany_4 ⟨(Nat.le_of_ble_eq_true rfl), (Nat.le_of_ble_eq_true rfl)⟩) hR hS (fun E ce9 q9 u H locs hp hR hS hcell hv9 hcl => ?_) (fun r u H locs h hB hR hS => ?_)
  · have hR := hR.xsame hX
    rcases hp with ⟨rfl, h⟩ | ⟨rfl, h⟩
    · refine vx_catch (name := "java/lang/IndexOutOfBoundsException") hown [] ⟨0, 11, 14, 27⟩ [⟨0, 11, 18, 19⟩] htab (fun z9 hz9 => nomatch hz9) rfl (by decide) (hts _ q1006) (va_Nw.use rfl (hK.2.1.2.2.1 _ (List.mem_of_getElem? (i := 0) rfl))) hcell hv9 hcl ?_
      refine lv_astore (lv' := [(4, .ref q9), (0, .ref (y.2 0 0)), (1, .int (p1)), (2, .int (p2)), (3, .ref oa)]) hx hb dX0_ofCompany_14 hl (by decide) rfl (fun ls hl => ?_)
      refine lv_iconst (v := (1 : Int32)) hx hb dX0_ofCompany_16 (by decide) ?_
      exact vx_ret (W.iret (v := (1 : Int32)) hx hb hr (fun t ht hW9 => ⟨⟨(1 : Int32), (u, n0), rfl, h, rpt ht hR⟩, hS.F ht⟩) hS.2.2 dX0_ofCompany_17)
    · refine vx_catch (name := "java/lang/IllegalArgumentException") hown [⟨0, 11, 14, 27⟩] ⟨0, 11, 18, 19⟩ [] htab (fun z9 hz9 => by rcases List.mem_cons.mp hz9 with rfl | hz9; exact Or.inr ⟨by decide, _, hts _ q1006, hK.2.1.2.2.2.2.2.2.2.2.2.2.2.2.2 _ (List.mem_of_getElem? (i := 0) rfl)⟩; exact (nomatch hz9)) rfl (by decide) (hts _ q784) (va_Nw.use rfl (hK.2.1.2.2.1 _ (List.mem_of_getElem? (i := 14) rfl))) hcell hv9 hcl ?_
      refine lv_astore (lv' := [(4, .ref q9), (0, .ref (y.2 0 0)), (1, .int (p1)), (2, .int (p2)), (3, .ref oa)]) hx hb dX0_ofCompany_18 hl (by decide) rfl (fun ls hl => ?_)
      refine lv_iconst (v := (2 : Int32)) hx hb dX0_ofCompany_20 (by decide) ?_
      exact vx_ret (W.iret (v := (2 : Int32)) hx hb hr (fun t ht hW9 => ⟨⟨(2 : Int32), (u, n0), rfl, h, rpt ht hR⟩, hS.F ht⟩) hS.2.2 dX0_ofCompany_21)
  · refine lv_i2l hx hb dX0_ofCompany_7 rfl ?_
    refine xa_putN (T := TX9) (N := 3) (ref := "PublicanryLaw$Out") (host := "PublicanryLaw") hx hb hts in_X9 tyX9 tyX9_ok nmX9 hown hK.1 hS (hR.2.2.2.1 _ _ hX).2.1 (hR.2.2.2.1 _ _ hX).1 rfl 0 (by decide) (va_Nw.use rfl (hK.2.1.2.1 _ (List.mem_of_getElem? (i := 1) rfl))) rfl rfl rfl rfl (Nat.le_of_ble_eq_true rfl) dX0_ofCompany_8 (fun H1 locs h1 hz ho hS => ?_)
    have hR := hR.putXL hX h1 hz ho
    refine lv_goto (tgt := 22) hx hb dX0_ofCompany_11 (by decide) ?_
    refine lv_iconst (v := (0 : Int32)) hx hb dX0_ofCompany_22 (by decide) ?_
    exact vx_ret (W.iret (v := (0 : Int32)) hx hb hr (fun t ht hW9 => ⟨⟨(0 : Int32), (u, r.toInt64), rfl, h, rpt ht hR⟩, hS.F ht⟩) hS.2.2 dX0_ofCompany_23)
